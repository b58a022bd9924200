/-! SearchKeeperLaw -/
set_option maxRecDepth 100000
def RX0 : String := "SearchKeeperLaw"
abbrev cX0_make : ByteArray := method_3_code
def yX0_make : MethodName := ⟨RX0, "make", "(LSearchKeeper;ICZ[J)I"⟩
def dkwX0_make_1 : List UInt8 := [58, 5, 6, 172, 3, 172]
abbrev dktX0_make_1 : List UInt8 := dkwX0_make_1 ++ []
def dkwX0_make_0 : List UInt8 := [25, 4, 3, 42, 27, 28, 29, 182, 0, 7, 133, 80, 167, 0, 15, 58, 5, 4, 172, 58, 5, 5, 172]
abbrev dktX0_make_0 : List UInt8 := dkwX0_make_0 ++ dktX0_make_1
theorem dksX0_make_0 : cX0_make.data.toList.drop 0 = dktX0_make_0 := by decide +kernel
theorem dksX0_make_1 : cX0_make.data.toList.drop 23 = dktX0_make_1 := dk_seg dksX0_make_0 23 rfl rfl
theorem dX0_make_0 : decode cX0_make 0 = .ok (.aload 4, 2) := dk_25 4 (dk_at dksX0_make_0 0 rfl rfl)
theorem dX0_make_2 : decode cX0_make 2 = .ok (.iconst 0, 1) := dk_3 (dk_at dksX0_make_0 2 rfl rfl)
theorem dX0_make_3 : decode cX0_make 3 = .ok (.aload_n 0, 1) := dk_42 (dk_at dksX0_make_0 3 rfl rfl)
theorem dX0_make_4 : decode cX0_make 4 = .ok (.iload_n 1, 1) := dk_27 (dk_at dksX0_make_0 4 rfl rfl)
theorem dX0_make_5 : decode cX0_make 5 = .ok (.iload_n 2, 1) := dk_28 (dk_at dksX0_make_0 5 rfl rfl)
theorem dX0_make_6 : decode cX0_make 6 = .ok (.iload_n 3, 1) := dk_29 (dk_at dksX0_make_0 6 rfl rfl)
theorem dX0_make_7 : decode cX0_make 7 = .ok (.invokevirtual 7, 3) := dk_182 0 7 (dk_at dksX0_make_0 7 rfl rfl)
theorem dX0_make_10 : decode cX0_make 10 = .ok (.i2l, 1) := dk_133 (dk_at dksX0_make_0 10 rfl rfl)
theorem dX0_make_11 : decode cX0_make 11 = .ok (.lastore, 1) := dk_80 (dk_at dksX0_make_0 11 rfl rfl)
theorem dX0_make_12 : decode cX0_make 12 = .ok (.goto 15, 3) := dk_167 0 15 (dk_at dksX0_make_0 12 rfl rfl)
theorem dX0_make_15 : decode cX0_make 15 = .ok (.astore 5, 2) := dk_58 5 (dk_at dksX0_make_0 15 rfl rfl)
theorem dX0_make_17 : decode cX0_make 17 = .ok (.iconst 1, 1) := dk_4 (dk_at dksX0_make_0 17 rfl rfl)
theorem dX0_make_18 : decode cX0_make 18 = .ok (.ireturn, 1) := dk_172 (dk_at dksX0_make_0 18 rfl rfl)
theorem dX0_make_19 : decode cX0_make 19 = .ok (.astore 5, 2) := dk_58 5 (dk_at dksX0_make_0 19 rfl rfl)
theorem dX0_make_21 : decode cX0_make 21 = .ok (.iconst 2, 1) := dk_5 (dk_at dksX0_make_0 21 rfl rfl)
theorem dX0_make_22 : decode cX0_make 22 = .ok (.ireturn, 1) := dk_172 (dk_at dksX0_make_0 22 rfl rfl)
theorem dX0_make_23 : decode cX0_make 23 = .ok (.astore 5, 2) := dk_58 5 (dk_at dksX0_make_1 0 rfl rfl)
theorem dX0_make_25 : decode cX0_make 25 = .ok (.iconst 3, 1) := dk_6 (dk_at dksX0_make_1 2 rfl rfl)
theorem dX0_make_26 : decode cX0_make 26 = .ok (.ireturn, 1) := dk_172 (dk_at dksX0_make_1 3 rfl rfl)
theorem dX0_make_27 : decode cX0_make 27 = .ok (.iconst 0, 1) := dk_3 (dk_at dksX0_make_1 4 rfl rfl)
theorem dX0_make_28 : decode cX0_make 28 = .ok (.ireturn, 1) := dk_172 (dk_at dksX0_make_1 5 rfl rfl)
abbrev cX0_write : ByteArray := method_4_code
def yX0_write : MethodName := ⟨RX0, "write", "(LSearchKeeper;II[J)I"⟩
def dkwX0_write_1 : List UInt8 := [172, 3, 172]
abbrev dktX0_write_1 : List UInt8 := dkwX0_write_1 ++ []
def dkwX0_write_0 : List UInt8 := [45, 3, 42, 27, 28, 182, 0, 19, 133, 80, 167, 0, 15, 58, 4, 4, 172, 58, 4, 5, 172, 58, 4, 6]
abbrev dktX0_write_0 : List UInt8 := dkwX0_write_0 ++ dktX0_write_1
theorem dksX0_write_0 : cX0_write.data.toList.drop 0 = dktX0_write_0 := by decide +kernel
theorem dksX0_write_1 : cX0_write.data.toList.drop 24 = dktX0_write_1 := dk_seg dksX0_write_0 24 rfl rfl
theorem dX0_write_0 : decode cX0_write 0 = .ok (.aload_n 3, 1) := dk_45 (dk_at dksX0_write_0 0 rfl rfl)
theorem dX0_write_1 : decode cX0_write 1 = .ok (.iconst 0, 1) := dk_3 (dk_at dksX0_write_0 1 rfl rfl)
theorem dX0_write_2 : decode cX0_write 2 = .ok (.aload_n 0, 1) := dk_42 (dk_at dksX0_write_0 2 rfl rfl)
theorem dX0_write_3 : decode cX0_write 3 = .ok (.iload_n 1, 1) := dk_27 (dk_at dksX0_write_0 3 rfl rfl)
theorem dX0_write_4 : decode cX0_write 4 = .ok (.iload_n 2, 1) := dk_28 (dk_at dksX0_write_0 4 rfl rfl)
theorem dX0_write_5 : decode cX0_write 5 = .ok (.invokevirtual 19, 3) := dk_182 0 19 (dk_at dksX0_write_0 5 rfl rfl)
theorem dX0_write_8 : decode cX0_write 8 = .ok (.i2l, 1) := dk_133 (dk_at dksX0_write_0 8 rfl rfl)
theorem dX0_write_9 : decode cX0_write 9 = .ok (.lastore, 1) := dk_80 (dk_at dksX0_write_0 9 rfl rfl)
theorem dX0_write_10 : decode cX0_write 10 = .ok (.goto 15, 3) := dk_167 0 15 (dk_at dksX0_write_0 10 rfl rfl)
theorem dX0_write_13 : decode cX0_write 13 = .ok (.astore 4, 2) := dk_58 4 (dk_at dksX0_write_0 13 rfl rfl)
theorem dX0_write_15 : decode cX0_write 15 = .ok (.iconst 1, 1) := dk_4 (dk_at dksX0_write_0 15 rfl rfl)
theorem dX0_write_16 : decode cX0_write 16 = .ok (.ireturn, 1) := dk_172 (dk_at dksX0_write_0 16 rfl rfl)
theorem dX0_write_17 : decode cX0_write 17 = .ok (.astore 4, 2) := dk_58 4 (dk_at dksX0_write_0 17 rfl rfl)
theorem dX0_write_19 : decode cX0_write 19 = .ok (.iconst 2, 1) := dk_5 (dk_at dksX0_write_0 19 rfl rfl)
theorem dX0_write_20 : decode cX0_write 20 = .ok (.ireturn, 1) := dk_172 (dk_at dksX0_write_0 20 rfl rfl)
theorem dX0_write_21 : decode cX0_write 21 = .ok (.astore 4, 2) := dk_58 4 (dk_at dksX0_write_0 21 rfl rfl)
theorem dX0_write_23 : decode cX0_write 23 = .ok (.iconst 3, 1) := dk_6 (dk_at dksX0_write_0 23 rfl rfl)
theorem dX0_write_24 : decode cX0_write 24 = .ok (.ireturn, 1) := dk_172 (dk_at dksX0_write_1 0 rfl rfl)
theorem dX0_write_25 : decode cX0_write 25 = .ok (.iconst 0, 1) := dk_3 (dk_at dksX0_write_1 1 rfl rfl)
theorem dX0_write_26 : decode cX0_write 26 = .ok (.ireturn, 1) := dk_172 (dk_at dksX0_write_1 2 rfl rfl)
abbrev cX0_empty : ByteArray := method_5_code
def yX0_empty : MethodName := ⟨RX0, "empty", "(LSearchKeeper;I[J)I"⟩
def dkwX0_empty_0 : List UInt8 := [44, 3, 42, 27, 182, 0, 23, 133, 80, 167, 0, 9, 78, 4, 172, 78, 5, 172, 3, 172]
abbrev dktX0_empty_0 : List UInt8 := dkwX0_empty_0 ++ []
theorem dksX0_empty_0 : cX0_empty.data.toList.drop 0 = dktX0_empty_0 := by decide +kernel
theorem dX0_empty_0 : decode cX0_empty 0 = .ok (.aload_n 2, 1) := dk_44 (dk_at dksX0_empty_0 0 rfl rfl)
theorem dX0_empty_1 : decode cX0_empty 1 = .ok (.iconst 0, 1) := dk_3 (dk_at dksX0_empty_0 1 rfl rfl)
theorem dX0_empty_2 : decode cX0_empty 2 = .ok (.aload_n 0, 1) := dk_42 (dk_at dksX0_empty_0 2 rfl rfl)
theorem dX0_empty_3 : decode cX0_empty 3 = .ok (.iload_n 1, 1) := dk_27 (dk_at dksX0_empty_0 3 rfl rfl)
theorem dX0_empty_4 : decode cX0_empty 4 = .ok (.invokevirtual 23, 3) := dk_182 0 23 (dk_at dksX0_empty_0 4 rfl rfl)
theorem dX0_empty_7 : decode cX0_empty 7 = .ok (.i2l, 1) := dk_133 (dk_at dksX0_empty_0 7 rfl rfl)
theorem dX0_empty_8 : decode cX0_empty 8 = .ok (.lastore, 1) := dk_80 (dk_at dksX0_empty_0 8 rfl rfl)
theorem dX0_empty_9 : decode cX0_empty 9 = .ok (.goto 9, 3) := dk_167 0 9 (dk_at dksX0_empty_0 9 rfl rfl)
theorem dX0_empty_12 : decode cX0_empty 12 = .ok (.astore_n 3, 1) := dk_78 (dk_at dksX0_empty_0 12 rfl rfl)
theorem dX0_empty_13 : decode cX0_empty 13 = .ok (.iconst 1, 1) := dk_4 (dk_at dksX0_empty_0 13 rfl rfl)
theorem dX0_empty_14 : decode cX0_empty 14 = .ok (.ireturn, 1) := dk_172 (dk_at dksX0_empty_0 14 rfl rfl)
theorem dX0_empty_15 : decode cX0_empty 15 = .ok (.astore_n 3, 1) := dk_78 (dk_at dksX0_empty_0 15 rfl rfl)
theorem dX0_empty_16 : decode cX0_empty 16 = .ok (.iconst 2, 1) := dk_5 (dk_at dksX0_empty_0 16 rfl rfl)
theorem dX0_empty_17 : decode cX0_empty 17 = .ok (.ireturn, 1) := dk_172 (dk_at dksX0_empty_0 17 rfl rfl)
theorem dX0_empty_18 : decode cX0_empty 18 = .ok (.iconst 0, 1) := dk_3 (dk_at dksX0_empty_0 18 rfl rfl)
theorem dX0_empty_19 : decode cX0_empty 19 = .ok (.ireturn, 1) := dk_172 (dk_at dksX0_empty_0 19 rfl rfl)
abbrev cX0_move : ByteArray := method_6_code
def yX0_move : MethodName := ⟨RX0, "move", "(LSearchKeeper;IIC[J)I"⟩
def dkwX0_move_1 : List UInt8 := [58, 5, 6, 172, 3, 172]
abbrev dktX0_move_1 : List UInt8 := dkwX0_move_1 ++ []
def dkwX0_move_0 : List UInt8 := [25, 4, 3, 42, 27, 28, 29, 182, 0, 27, 133, 80, 167, 0, 15, 58, 5, 4, 172, 58, 5, 5, 172]
abbrev dktX0_move_0 : List UInt8 := dkwX0_move_0 ++ dktX0_move_1
theorem dksX0_move_0 : cX0_move.data.toList.drop 0 = dktX0_move_0 := by decide +kernel
theorem dksX0_move_1 : cX0_move.data.toList.drop 23 = dktX0_move_1 := dk_seg dksX0_move_0 23 rfl rfl
theorem dX0_move_0 : decode cX0_move 0 = .ok (.aload 4, 2) := dk_25 4 (dk_at dksX0_move_0 0 rfl rfl)
theorem dX0_move_2 : decode cX0_move 2 = .ok (.iconst 0, 1) := dk_3 (dk_at dksX0_move_0 2 rfl rfl)
theorem dX0_move_3 : decode cX0_move 3 = .ok (.aload_n 0, 1) := dk_42 (dk_at dksX0_move_0 3 rfl rfl)
theorem dX0_move_4 : decode cX0_move 4 = .ok (.iload_n 1, 1) := dk_27 (dk_at dksX0_move_0 4 rfl rfl)
theorem dX0_move_5 : decode cX0_move 5 = .ok (.iload_n 2, 1) := dk_28 (dk_at dksX0_move_0 5 rfl rfl)
theorem dX0_move_6 : decode cX0_move 6 = .ok (.iload_n 3, 1) := dk_29 (dk_at dksX0_move_0 6 rfl rfl)
theorem dX0_move_7 : decode cX0_move 7 = .ok (.invokevirtual 27, 3) := dk_182 0 27 (dk_at dksX0_move_0 7 rfl rfl)
theorem dX0_move_10 : decode cX0_move 10 = .ok (.i2l, 1) := dk_133 (dk_at dksX0_move_0 10 rfl rfl)
theorem dX0_move_11 : decode cX0_move 11 = .ok (.lastore, 1) := dk_80 (dk_at dksX0_move_0 11 rfl rfl)
theorem dX0_move_12 : decode cX0_move 12 = .ok (.goto 15, 3) := dk_167 0 15 (dk_at dksX0_move_0 12 rfl rfl)
theorem dX0_move_15 : decode cX0_move 15 = .ok (.astore 5, 2) := dk_58 5 (dk_at dksX0_move_0 15 rfl rfl)
theorem dX0_move_17 : decode cX0_move 17 = .ok (.iconst 1, 1) := dk_4 (dk_at dksX0_move_0 17 rfl rfl)
theorem dX0_move_18 : decode cX0_move 18 = .ok (.ireturn, 1) := dk_172 (dk_at dksX0_move_0 18 rfl rfl)
theorem dX0_move_19 : decode cX0_move 19 = .ok (.astore 5, 2) := dk_58 5 (dk_at dksX0_move_0 19 rfl rfl)
theorem dX0_move_21 : decode cX0_move 21 = .ok (.iconst 2, 1) := dk_5 (dk_at dksX0_move_0 21 rfl rfl)
theorem dX0_move_22 : decode cX0_move 22 = .ok (.ireturn, 1) := dk_172 (dk_at dksX0_move_0 22 rfl rfl)
theorem dX0_move_23 : decode cX0_move 23 = .ok (.astore 5, 2) := dk_58 5 (dk_at dksX0_move_1 0 rfl rfl)
theorem dX0_move_25 : decode cX0_move 25 = .ok (.iconst 3, 1) := dk_6 (dk_at dksX0_move_1 2 rfl rfl)
theorem dX0_move_26 : decode cX0_move 26 = .ok (.ireturn, 1) := dk_172 (dk_at dksX0_move_1 3 rfl rfl)
theorem dX0_move_27 : decode cX0_move 27 = .ok (.iconst 0, 1) := dk_3 (dk_at dksX0_move_1 4 rfl rfl)
theorem dX0_move_28 : decode cX0_move 28 = .ok (.ireturn, 1) := dk_172 (dk_at dksX0_move_1 5 rfl rfl)
abbrev cX0_remove : ByteArray := method_7_code
def yX0_remove : MethodName := ⟨RX0, "remove", "(LSearchKeeper;I[J)I"⟩
def dkwX0_remove_0 : List UInt8 := [44, 3, 42, 27, 182, 0, 31, 133, 80, 167, 0, 6, 78, 4, 172, 3, 172]
abbrev dktX0_remove_0 : List UInt8 := dkwX0_remove_0 ++ []
theorem dksX0_remove_0 : cX0_remove.data.toList.drop 0 = dktX0_remove_0 := by decide +kernel
theorem dX0_remove_0 : decode cX0_remove 0 = .ok (.aload_n 2, 1) := dk_44 (dk_at dksX0_remove_0 0 rfl rfl)
theorem dX0_remove_1 : decode cX0_remove 1 = .ok (.iconst 0, 1) := dk_3 (dk_at dksX0_remove_0 1 rfl rfl)
theorem dX0_remove_2 : decode cX0_remove 2 = .ok (.aload_n 0, 1) := dk_42 (dk_at dksX0_remove_0 2 rfl rfl)
theorem dX0_remove_3 : decode cX0_remove 3 = .ok (.iload_n 1, 1) := dk_27 (dk_at dksX0_remove_0 3 rfl rfl)
theorem dX0_remove_4 : decode cX0_remove 4 = .ok (.invokevirtual 31, 3) := dk_182 0 31 (dk_at dksX0_remove_0 4 rfl rfl)
theorem dX0_remove_7 : decode cX0_remove 7 = .ok (.i2l, 1) := dk_133 (dk_at dksX0_remove_0 7 rfl rfl)
theorem dX0_remove_8 : decode cX0_remove 8 = .ok (.lastore, 1) := dk_80 (dk_at dksX0_remove_0 8 rfl rfl)
theorem dX0_remove_9 : decode cX0_remove 9 = .ok (.goto 6, 3) := dk_167 0 6 (dk_at dksX0_remove_0 9 rfl rfl)
theorem dX0_remove_12 : decode cX0_remove 12 = .ok (.astore_n 3, 1) := dk_78 (dk_at dksX0_remove_0 12 rfl rfl)
theorem dX0_remove_13 : decode cX0_remove 13 = .ok (.iconst 1, 1) := dk_4 (dk_at dksX0_remove_0 13 rfl rfl)
theorem dX0_remove_14 : decode cX0_remove 14 = .ok (.ireturn, 1) := dk_172 (dk_at dksX0_remove_0 14 rfl rfl)
theorem dX0_remove_15 : decode cX0_remove 15 = .ok (.iconst 0, 1) := dk_3 (dk_at dksX0_remove_0 15 rfl rfl)
theorem dX0_remove_16 : decode cX0_remove 16 = .ok (.ireturn, 1) := dk_172 (dk_at dksX0_remove_0 16 rfl rfl)
abbrev cX0_lock : ByteArray := method_8_code
def yX0_lock : MethodName := ⟨RX0, "lock", "(LSearchKeeper;IZ[J)I"⟩
def dkwX0_lock_1 : List UInt8 := [3, 172]
abbrev dktX0_lock_1 : List UInt8 := dkwX0_lock_1 ++ []
def dkwX0_lock_0 : List UInt8 := [45, 3, 42, 27, 28, 182, 0, 34, 153, 0, 7, 10, 167, 0, 4, 9, 80, 167, 0, 7, 58, 4, 4, 172]
abbrev dktX0_lock_0 : List UInt8 := dkwX0_lock_0 ++ dktX0_lock_1
theorem dksX0_lock_0 : cX0_lock.data.toList.drop 0 = dktX0_lock_0 := by decide +kernel
theorem dksX0_lock_1 : cX0_lock.data.toList.drop 24 = dktX0_lock_1 := dk_seg dksX0_lock_0 24 rfl rfl
theorem dX0_lock_0 : decode cX0_lock 0 = .ok (.aload_n 3, 1) := dk_45 (dk_at dksX0_lock_0 0 rfl rfl)
theorem dX0_lock_1 : decode cX0_lock 1 = .ok (.iconst 0, 1) := dk_3 (dk_at dksX0_lock_0 1 rfl rfl)
theorem dX0_lock_2 : decode cX0_lock 2 = .ok (.aload_n 0, 1) := dk_42 (dk_at dksX0_lock_0 2 rfl rfl)
theorem dX0_lock_3 : decode cX0_lock 3 = .ok (.iload_n 1, 1) := dk_27 (dk_at dksX0_lock_0 3 rfl rfl)
theorem dX0_lock_4 : decode cX0_lock 4 = .ok (.iload_n 2, 1) := dk_28 (dk_at dksX0_lock_0 4 rfl rfl)
theorem dX0_lock_5 : decode cX0_lock 5 = .ok (.invokevirtual 34, 3) := dk_182 0 34 (dk_at dksX0_lock_0 5 rfl rfl)
theorem dX0_lock_8 : decode cX0_lock 8 = .ok (.ifCond .eq 7, 3) := dk_153 0 7 (dk_at dksX0_lock_0 8 rfl rfl)
theorem dX0_lock_11 : decode cX0_lock 11 = .ok (.lconst 1, 1) := dk_10 (dk_at dksX0_lock_0 11 rfl rfl)
theorem dX0_lock_12 : decode cX0_lock 12 = .ok (.goto 4, 3) := dk_167 0 4 (dk_at dksX0_lock_0 12 rfl rfl)
theorem dX0_lock_15 : decode cX0_lock 15 = .ok (.lconst 0, 1) := dk_9 (dk_at dksX0_lock_0 15 rfl rfl)
theorem dX0_lock_16 : decode cX0_lock 16 = .ok (.lastore, 1) := dk_80 (dk_at dksX0_lock_0 16 rfl rfl)
theorem dX0_lock_17 : decode cX0_lock 17 = .ok (.goto 7, 3) := dk_167 0 7 (dk_at dksX0_lock_0 17 rfl rfl)
theorem dX0_lock_20 : decode cX0_lock 20 = .ok (.astore 4, 2) := dk_58 4 (dk_at dksX0_lock_0 20 rfl rfl)
theorem dX0_lock_22 : decode cX0_lock 22 = .ok (.iconst 1, 1) := dk_4 (dk_at dksX0_lock_0 22 rfl rfl)
theorem dX0_lock_23 : decode cX0_lock 23 = .ok (.ireturn, 1) := dk_172 (dk_at dksX0_lock_0 23 rfl rfl)
theorem dX0_lock_24 : decode cX0_lock 24 = .ok (.iconst 0, 1) := dk_3 (dk_at dksX0_lock_1 0 rfl rfl)
theorem dX0_lock_25 : decode cX0_lock 25 = .ok (.ireturn, 1) := dk_172 (dk_at dksX0_lock_1 1 rfl rfl)
abbrev cX0_people : ByteArray := method_9_code
def yX0_people : MethodName := ⟨RX0, "people", "(LSearchKeeper;II[J)I"⟩
def dkwX0_people_0 : List UInt8 := [45, 3, 42, 27, 28, 182, 0, 38, 133, 80, 167, 0, 11, 58, 4, 4, 172, 58, 4, 5, 172, 3, 172]
abbrev dktX0_people_0 : List UInt8 := dkwX0_people_0 ++ []
theorem dksX0_people_0 : cX0_people.data.toList.drop 0 = dktX0_people_0 := by decide +kernel
theorem dX0_people_0 : decode cX0_people 0 = .ok (.aload_n 3, 1) := dk_45 (dk_at dksX0_people_0 0 rfl rfl)
theorem dX0_people_1 : decode cX0_people 1 = .ok (.iconst 0, 1) := dk_3 (dk_at dksX0_people_0 1 rfl rfl)
theorem dX0_people_2 : decode cX0_people 2 = .ok (.aload_n 0, 1) := dk_42 (dk_at dksX0_people_0 2 rfl rfl)
theorem dX0_people_3 : decode cX0_people 3 = .ok (.iload_n 1, 1) := dk_27 (dk_at dksX0_people_0 3 rfl rfl)
theorem dX0_people_4 : decode cX0_people 4 = .ok (.iload_n 2, 1) := dk_28 (dk_at dksX0_people_0 4 rfl rfl)
theorem dX0_people_5 : decode cX0_people 5 = .ok (.invokevirtual 38, 3) := dk_182 0 38 (dk_at dksX0_people_0 5 rfl rfl)
theorem dX0_people_8 : decode cX0_people 8 = .ok (.i2l, 1) := dk_133 (dk_at dksX0_people_0 8 rfl rfl)
theorem dX0_people_9 : decode cX0_people 9 = .ok (.lastore, 1) := dk_80 (dk_at dksX0_people_0 9 rfl rfl)
theorem dX0_people_10 : decode cX0_people 10 = .ok (.goto 11, 3) := dk_167 0 11 (dk_at dksX0_people_0 10 rfl rfl)
theorem dX0_people_13 : decode cX0_people 13 = .ok (.astore 4, 2) := dk_58 4 (dk_at dksX0_people_0 13 rfl rfl)
theorem dX0_people_15 : decode cX0_people 15 = .ok (.iconst 1, 1) := dk_4 (dk_at dksX0_people_0 15 rfl rfl)
theorem dX0_people_16 : decode cX0_people 16 = .ok (.ireturn, 1) := dk_172 (dk_at dksX0_people_0 16 rfl rfl)
theorem dX0_people_17 : decode cX0_people 17 = .ok (.astore 4, 2) := dk_58 4 (dk_at dksX0_people_0 17 rfl rfl)
theorem dX0_people_19 : decode cX0_people 19 = .ok (.iconst 2, 1) := dk_5 (dk_at dksX0_people_0 19 rfl rfl)
theorem dX0_people_20 : decode cX0_people 20 = .ok (.ireturn, 1) := dk_172 (dk_at dksX0_people_0 20 rfl rfl)
theorem dX0_people_21 : decode cX0_people 21 = .ok (.iconst 0, 1) := dk_3 (dk_at dksX0_people_0 21 rfl rfl)
theorem dX0_people_22 : decode cX0_people 22 = .ok (.ireturn, 1) := dk_172 (dk_at dksX0_people_0 22 rfl rfl)
abbrev cX0_mayRead : ByteArray := method_10_code
def yX0_mayRead : MethodName := ⟨RX0, "mayRead", "(LSearchKeeper;II[J)I"⟩
def dkwX0_mayRead_1 : List UInt8 := [3, 172]
abbrev dktX0_mayRead_1 : List UInt8 := dkwX0_mayRead_1 ++ []
def dkwX0_mayRead_0 : List UInt8 := [45, 3, 42, 27, 28, 182, 0, 41, 153, 0, 7, 10, 167, 0, 4, 9, 80, 167, 0, 7, 58, 4, 4, 172]
abbrev dktX0_mayRead_0 : List UInt8 := dkwX0_mayRead_0 ++ dktX0_mayRead_1
theorem dksX0_mayRead_0 : cX0_mayRead.data.toList.drop 0 = dktX0_mayRead_0 := by decide +kernel
theorem dksX0_mayRead_1 : cX0_mayRead.data.toList.drop 24 = dktX0_mayRead_1 := dk_seg dksX0_mayRead_0 24 rfl rfl
theorem dX0_mayRead_0 : decode cX0_mayRead 0 = .ok (.aload_n 3, 1) := dk_45 (dk_at dksX0_mayRead_0 0 rfl rfl)
theorem dX0_mayRead_1 : decode cX0_mayRead 1 = .ok (.iconst 0, 1) := dk_3 (dk_at dksX0_mayRead_0 1 rfl rfl)
theorem dX0_mayRead_2 : decode cX0_mayRead 2 = .ok (.aload_n 0, 1) := dk_42 (dk_at dksX0_mayRead_0 2 rfl rfl)
theorem dX0_mayRead_3 : decode cX0_mayRead 3 = .ok (.iload_n 1, 1) := dk_27 (dk_at dksX0_mayRead_0 3 rfl rfl)
theorem dX0_mayRead_4 : decode cX0_mayRead 4 = .ok (.iload_n 2, 1) := dk_28 (dk_at dksX0_mayRead_0 4 rfl rfl)
theorem dX0_mayRead_5 : decode cX0_mayRead 5 = .ok (.invokevirtual 41, 3) := dk_182 0 41 (dk_at dksX0_mayRead_0 5 rfl rfl)
theorem dX0_mayRead_8 : decode cX0_mayRead 8 = .ok (.ifCond .eq 7, 3) := dk_153 0 7 (dk_at dksX0_mayRead_0 8 rfl rfl)
theorem dX0_mayRead_11 : decode cX0_mayRead 11 = .ok (.lconst 1, 1) := dk_10 (dk_at dksX0_mayRead_0 11 rfl rfl)
theorem dX0_mayRead_12 : decode cX0_mayRead 12 = .ok (.goto 4, 3) := dk_167 0 4 (dk_at dksX0_mayRead_0 12 rfl rfl)
theorem dX0_mayRead_15 : decode cX0_mayRead 15 = .ok (.lconst 0, 1) := dk_9 (dk_at dksX0_mayRead_0 15 rfl rfl)
theorem dX0_mayRead_16 : decode cX0_mayRead 16 = .ok (.lastore, 1) := dk_80 (dk_at dksX0_mayRead_0 16 rfl rfl)
theorem dX0_mayRead_17 : decode cX0_mayRead 17 = .ok (.goto 7, 3) := dk_167 0 7 (dk_at dksX0_mayRead_0 17 rfl rfl)
theorem dX0_mayRead_20 : decode cX0_mayRead 20 = .ok (.astore 4, 2) := dk_58 4 (dk_at dksX0_mayRead_0 20 rfl rfl)
theorem dX0_mayRead_22 : decode cX0_mayRead 22 = .ok (.iconst 1, 1) := dk_4 (dk_at dksX0_mayRead_0 22 rfl rfl)
theorem dX0_mayRead_23 : decode cX0_mayRead 23 = .ok (.ireturn, 1) := dk_172 (dk_at dksX0_mayRead_0 23 rfl rfl)
theorem dX0_mayRead_24 : decode cX0_mayRead 24 = .ok (.iconst 0, 1) := dk_3 (dk_at dksX0_mayRead_1 0 rfl rfl)
theorem dX0_mayRead_25 : decode cX0_mayRead 25 = .ok (.ireturn, 1) := dk_172 (dk_at dksX0_mayRead_1 1 rfl rfl)
abbrev cX0_watch : ByteArray := method_11_code
def yX0_watch : MethodName := ⟨RX0, "watch", "(LSearchKeeper;I[J)I"⟩
def dkwX0_watch_0 : List UInt8 := [44, 3, 42, 27, 182, 0, 45, 133, 80, 167, 0, 9, 78, 4, 172, 78, 5, 172, 3, 172]
abbrev dktX0_watch_0 : List UInt8 := dkwX0_watch_0 ++ []
theorem dksX0_watch_0 : cX0_watch.data.toList.drop 0 = dktX0_watch_0 := by decide +kernel
theorem dX0_watch_0 : decode cX0_watch 0 = .ok (.aload_n 2, 1) := dk_44 (dk_at dksX0_watch_0 0 rfl rfl)
theorem dX0_watch_1 : decode cX0_watch 1 = .ok (.iconst 0, 1) := dk_3 (dk_at dksX0_watch_0 1 rfl rfl)
theorem dX0_watch_2 : decode cX0_watch 2 = .ok (.aload_n 0, 1) := dk_42 (dk_at dksX0_watch_0 2 rfl rfl)
theorem dX0_watch_3 : decode cX0_watch 3 = .ok (.iload_n 1, 1) := dk_27 (dk_at dksX0_watch_0 3 rfl rfl)
theorem dX0_watch_4 : decode cX0_watch 4 = .ok (.invokevirtual 45, 3) := dk_182 0 45 (dk_at dksX0_watch_0 4 rfl rfl)
theorem dX0_watch_7 : decode cX0_watch 7 = .ok (.i2l, 1) := dk_133 (dk_at dksX0_watch_0 7 rfl rfl)
theorem dX0_watch_8 : decode cX0_watch 8 = .ok (.lastore, 1) := dk_80 (dk_at dksX0_watch_0 8 rfl rfl)
theorem dX0_watch_9 : decode cX0_watch 9 = .ok (.goto 9, 3) := dk_167 0 9 (dk_at dksX0_watch_0 9 rfl rfl)
theorem dX0_watch_12 : decode cX0_watch 12 = .ok (.astore_n 3, 1) := dk_78 (dk_at dksX0_watch_0 12 rfl rfl)
theorem dX0_watch_13 : decode cX0_watch 13 = .ok (.iconst 1, 1) := dk_4 (dk_at dksX0_watch_0 13 rfl rfl)
theorem dX0_watch_14 : decode cX0_watch 14 = .ok (.ireturn, 1) := dk_172 (dk_at dksX0_watch_0 14 rfl rfl)
theorem dX0_watch_15 : decode cX0_watch 15 = .ok (.astore_n 3, 1) := dk_78 (dk_at dksX0_watch_0 15 rfl rfl)
theorem dX0_watch_16 : decode cX0_watch 16 = .ok (.iconst 2, 1) := dk_5 (dk_at dksX0_watch_0 16 rfl rfl)
theorem dX0_watch_17 : decode cX0_watch 17 = .ok (.ireturn, 1) := dk_172 (dk_at dksX0_watch_0 17 rfl rfl)
theorem dX0_watch_18 : decode cX0_watch 18 = .ok (.iconst 0, 1) := dk_3 (dk_at dksX0_watch_0 18 rfl rfl)
theorem dX0_watch_19 : decode cX0_watch 19 = .ok (.ireturn, 1) := dk_172 (dk_at dksX0_watch_0 19 rfl rfl)
abbrev cX0_notices : ByteArray := method_12_code
def yX0_notices : MethodName := ⟨RX0, "notices", "(LSearchKeeper;I[J)I"⟩
def dkwX0_notices_0 : List UInt8 := [44, 3, 42, 27, 182, 0, 48, 133, 80, 167, 0, 6, 78, 4, 172, 3, 172]
abbrev dktX0_notices_0 : List UInt8 := dkwX0_notices_0 ++ []
theorem dksX0_notices_0 : cX0_notices.data.toList.drop 0 = dktX0_notices_0 := by decide +kernel
theorem dX0_notices_0 : decode cX0_notices 0 = .ok (.aload_n 2, 1) := dk_44 (dk_at dksX0_notices_0 0 rfl rfl)
theorem dX0_notices_1 : decode cX0_notices 1 = .ok (.iconst 0, 1) := dk_3 (dk_at dksX0_notices_0 1 rfl rfl)
theorem dX0_notices_2 : decode cX0_notices 2 = .ok (.aload_n 0, 1) := dk_42 (dk_at dksX0_notices_0 2 rfl rfl)
theorem dX0_notices_3 : decode cX0_notices 3 = .ok (.iload_n 1, 1) := dk_27 (dk_at dksX0_notices_0 3 rfl rfl)
theorem dX0_notices_4 : decode cX0_notices 4 = .ok (.invokevirtual 48, 3) := dk_182 0 48 (dk_at dksX0_notices_0 4 rfl rfl)
theorem dX0_notices_7 : decode cX0_notices 7 = .ok (.i2l, 1) := dk_133 (dk_at dksX0_notices_0 7 rfl rfl)
theorem dX0_notices_8 : decode cX0_notices 8 = .ok (.lastore, 1) := dk_80 (dk_at dksX0_notices_0 8 rfl rfl)
theorem dX0_notices_9 : decode cX0_notices 9 = .ok (.goto 6, 3) := dk_167 0 6 (dk_at dksX0_notices_0 9 rfl rfl)
theorem dX0_notices_12 : decode cX0_notices 12 = .ok (.astore_n 3, 1) := dk_78 (dk_at dksX0_notices_0 12 rfl rfl)
theorem dX0_notices_13 : decode cX0_notices 13 = .ok (.iconst 1, 1) := dk_4 (dk_at dksX0_notices_0 13 rfl rfl)
theorem dX0_notices_14 : decode cX0_notices 14 = .ok (.ireturn, 1) := dk_172 (dk_at dksX0_notices_0 14 rfl rfl)
theorem dX0_notices_15 : decode cX0_notices 15 = .ok (.iconst 0, 1) := dk_3 (dk_at dksX0_notices_0 15 rfl rfl)
theorem dX0_notices_16 : decode cX0_notices 16 = .ok (.ireturn, 1) := dk_172 (dk_at dksX0_notices_0 16 rfl rfl)
abbrev cX0_twice : ByteArray := method_13_code
def yX0_twice : MethodName := ⟨RX0, "twice", "(LSearchKeeper;I[J)I"⟩
def dkwX0_twice_0 : List UInt8 := [44, 3, 42, 27, 182, 0, 51, 133, 80, 167, 0, 9, 78, 4, 172, 78, 5, 172, 3, 172]
abbrev dktX0_twice_0 : List UInt8 := dkwX0_twice_0 ++ []
theorem dksX0_twice_0 : cX0_twice.data.toList.drop 0 = dktX0_twice_0 := by decide +kernel
theorem dX0_twice_0 : decode cX0_twice 0 = .ok (.aload_n 2, 1) := dk_44 (dk_at dksX0_twice_0 0 rfl rfl)
theorem dX0_twice_1 : decode cX0_twice 1 = .ok (.iconst 0, 1) := dk_3 (dk_at dksX0_twice_0 1 rfl rfl)
theorem dX0_twice_2 : decode cX0_twice 2 = .ok (.aload_n 0, 1) := dk_42 (dk_at dksX0_twice_0 2 rfl rfl)
theorem dX0_twice_3 : decode cX0_twice 3 = .ok (.iload_n 1, 1) := dk_27 (dk_at dksX0_twice_0 3 rfl rfl)
theorem dX0_twice_4 : decode cX0_twice 4 = .ok (.invokevirtual 51, 3) := dk_182 0 51 (dk_at dksX0_twice_0 4 rfl rfl)
theorem dX0_twice_7 : decode cX0_twice 7 = .ok (.i2l, 1) := dk_133 (dk_at dksX0_twice_0 7 rfl rfl)
theorem dX0_twice_8 : decode cX0_twice 8 = .ok (.lastore, 1) := dk_80 (dk_at dksX0_twice_0 8 rfl rfl)
theorem dX0_twice_9 : decode cX0_twice 9 = .ok (.goto 9, 3) := dk_167 0 9 (dk_at dksX0_twice_0 9 rfl rfl)
theorem dX0_twice_12 : decode cX0_twice 12 = .ok (.astore_n 3, 1) := dk_78 (dk_at dksX0_twice_0 12 rfl rfl)
theorem dX0_twice_13 : decode cX0_twice 13 = .ok (.iconst 1, 1) := dk_4 (dk_at dksX0_twice_0 13 rfl rfl)
theorem dX0_twice_14 : decode cX0_twice 14 = .ok (.ireturn, 1) := dk_172 (dk_at dksX0_twice_0 14 rfl rfl)
theorem dX0_twice_15 : decode cX0_twice 15 = .ok (.astore_n 3, 1) := dk_78 (dk_at dksX0_twice_0 15 rfl rfl)
theorem dX0_twice_16 : decode cX0_twice 16 = .ok (.iconst 2, 1) := dk_5 (dk_at dksX0_twice_0 16 rfl rfl)
theorem dX0_twice_17 : decode cX0_twice 17 = .ok (.ireturn, 1) := dk_172 (dk_at dksX0_twice_0 17 rfl rfl)
theorem dX0_twice_18 : decode cX0_twice 18 = .ok (.iconst 0, 1) := dk_3 (dk_at dksX0_twice_0 18 rfl rfl)
theorem dX0_twice_19 : decode cX0_twice 19 = .ok (.ireturn, 1) := dk_172 (dk_at dksX0_twice_0 19 rfl rfl)
abbrev cX0_lose : ByteArray := method_14_code
def yX0_lose : MethodName := ⟨RX0, "lose", "(LSearchKeeper;II[J)I"⟩
def dkwX0_lose_0 : List UInt8 := [45, 3, 42, 27, 28, 182, 0, 54, 133, 80, 167, 0, 11, 58, 4, 4, 172, 58, 4, 5, 172, 3, 172]
abbrev dktX0_lose_0 : List UInt8 := dkwX0_lose_0 ++ []
theorem dksX0_lose_0 : cX0_lose.data.toList.drop 0 = dktX0_lose_0 := by decide +kernel
theorem dX0_lose_0 : decode cX0_lose 0 = .ok (.aload_n 3, 1) := dk_45 (dk_at dksX0_lose_0 0 rfl rfl)
theorem dX0_lose_1 : decode cX0_lose 1 = .ok (.iconst 0, 1) := dk_3 (dk_at dksX0_lose_0 1 rfl rfl)
theorem dX0_lose_2 : decode cX0_lose 2 = .ok (.aload_n 0, 1) := dk_42 (dk_at dksX0_lose_0 2 rfl rfl)
theorem dX0_lose_3 : decode cX0_lose 3 = .ok (.iload_n 1, 1) := dk_27 (dk_at dksX0_lose_0 3 rfl rfl)
theorem dX0_lose_4 : decode cX0_lose 4 = .ok (.iload_n 2, 1) := dk_28 (dk_at dksX0_lose_0 4 rfl rfl)
theorem dX0_lose_5 : decode cX0_lose 5 = .ok (.invokevirtual 54, 3) := dk_182 0 54 (dk_at dksX0_lose_0 5 rfl rfl)
theorem dX0_lose_8 : decode cX0_lose 8 = .ok (.i2l, 1) := dk_133 (dk_at dksX0_lose_0 8 rfl rfl)
theorem dX0_lose_9 : decode cX0_lose 9 = .ok (.lastore, 1) := dk_80 (dk_at dksX0_lose_0 9 rfl rfl)
theorem dX0_lose_10 : decode cX0_lose 10 = .ok (.goto 11, 3) := dk_167 0 11 (dk_at dksX0_lose_0 10 rfl rfl)
theorem dX0_lose_13 : decode cX0_lose 13 = .ok (.astore 4, 2) := dk_58 4 (dk_at dksX0_lose_0 13 rfl rfl)
theorem dX0_lose_15 : decode cX0_lose 15 = .ok (.iconst 1, 1) := dk_4 (dk_at dksX0_lose_0 15 rfl rfl)
theorem dX0_lose_16 : decode cX0_lose 16 = .ok (.ireturn, 1) := dk_172 (dk_at dksX0_lose_0 16 rfl rfl)
theorem dX0_lose_17 : decode cX0_lose 17 = .ok (.astore 4, 2) := dk_58 4 (dk_at dksX0_lose_0 17 rfl rfl)
theorem dX0_lose_19 : decode cX0_lose 19 = .ok (.iconst 2, 1) := dk_5 (dk_at dksX0_lose_0 19 rfl rfl)
theorem dX0_lose_20 : decode cX0_lose 20 = .ok (.ireturn, 1) := dk_172 (dk_at dksX0_lose_0 20 rfl rfl)
theorem dX0_lose_21 : decode cX0_lose 21 = .ok (.iconst 0, 1) := dk_3 (dk_at dksX0_lose_0 21 rfl rfl)
theorem dX0_lose_22 : decode cX0_lose 22 = .ok (.ireturn, 1) := dk_172 (dk_at dksX0_lose_0 22 rfl rfl)
abbrev cX0_pass : ByteArray := method_15_code
def yX0_pass : MethodName := ⟨RX0, "pass", "(LSearchKeeper;I[J)I"⟩
def dkwX0_pass_0 : List UInt8 := [44, 3, 42, 27, 182, 0, 57, 133, 80, 167, 0, 9, 78, 4, 172, 78, 5, 172, 3, 172]
abbrev dktX0_pass_0 : List UInt8 := dkwX0_pass_0 ++ []
theorem dksX0_pass_0 : cX0_pass.data.toList.drop 0 = dktX0_pass_0 := by decide +kernel
theorem dX0_pass_0 : decode cX0_pass 0 = .ok (.aload_n 2, 1) := dk_44 (dk_at dksX0_pass_0 0 rfl rfl)
theorem dX0_pass_1 : decode cX0_pass 1 = .ok (.iconst 0, 1) := dk_3 (dk_at dksX0_pass_0 1 rfl rfl)
theorem dX0_pass_2 : decode cX0_pass 2 = .ok (.aload_n 0, 1) := dk_42 (dk_at dksX0_pass_0 2 rfl rfl)
theorem dX0_pass_3 : decode cX0_pass 3 = .ok (.iload_n 1, 1) := dk_27 (dk_at dksX0_pass_0 3 rfl rfl)
theorem dX0_pass_4 : decode cX0_pass 4 = .ok (.invokevirtual 57, 3) := dk_182 0 57 (dk_at dksX0_pass_0 4 rfl rfl)
theorem dX0_pass_7 : decode cX0_pass 7 = .ok (.i2l, 1) := dk_133 (dk_at dksX0_pass_0 7 rfl rfl)
theorem dX0_pass_8 : decode cX0_pass 8 = .ok (.lastore, 1) := dk_80 (dk_at dksX0_pass_0 8 rfl rfl)
theorem dX0_pass_9 : decode cX0_pass 9 = .ok (.goto 9, 3) := dk_167 0 9 (dk_at dksX0_pass_0 9 rfl rfl)
theorem dX0_pass_12 : decode cX0_pass 12 = .ok (.astore_n 3, 1) := dk_78 (dk_at dksX0_pass_0 12 rfl rfl)
theorem dX0_pass_13 : decode cX0_pass 13 = .ok (.iconst 1, 1) := dk_4 (dk_at dksX0_pass_0 13 rfl rfl)
theorem dX0_pass_14 : decode cX0_pass 14 = .ok (.ireturn, 1) := dk_172 (dk_at dksX0_pass_0 14 rfl rfl)
theorem dX0_pass_15 : decode cX0_pass 15 = .ok (.astore_n 3, 1) := dk_78 (dk_at dksX0_pass_0 15 rfl rfl)
theorem dX0_pass_16 : decode cX0_pass 16 = .ok (.iconst 2, 1) := dk_5 (dk_at dksX0_pass_0 16 rfl rfl)
theorem dX0_pass_17 : decode cX0_pass 17 = .ok (.ireturn, 1) := dk_172 (dk_at dksX0_pass_0 17 rfl rfl)
theorem dX0_pass_18 : decode cX0_pass 18 = .ok (.iconst 0, 1) := dk_3 (dk_at dksX0_pass_0 18 rfl rfl)
theorem dX0_pass_19 : decode cX0_pass 19 = .ok (.ireturn, 1) := dk_172 (dk_at dksX0_pass_0 19 rfl rfl)
abbrev cX0_limits : ByteArray := method_16_code
def yX0_limits : MethodName := ⟨RX0, "limits", "(LSearchKeeper;II[J)I"⟩
def dkwX0_limits_0 : List UInt8 := [45, 3, 42, 27, 28, 182, 0, 60, 133, 80, 167, 0, 7, 58, 4, 4, 172, 3, 172]
abbrev dktX0_limits_0 : List UInt8 := dkwX0_limits_0 ++ []
theorem dksX0_limits_0 : cX0_limits.data.toList.drop 0 = dktX0_limits_0 := by decide +kernel
theorem dX0_limits_0 : decode cX0_limits 0 = .ok (.aload_n 3, 1) := dk_45 (dk_at dksX0_limits_0 0 rfl rfl)
theorem dX0_limits_1 : decode cX0_limits 1 = .ok (.iconst 0, 1) := dk_3 (dk_at dksX0_limits_0 1 rfl rfl)
theorem dX0_limits_2 : decode cX0_limits 2 = .ok (.aload_n 0, 1) := dk_42 (dk_at dksX0_limits_0 2 rfl rfl)
theorem dX0_limits_3 : decode cX0_limits 3 = .ok (.iload_n 1, 1) := dk_27 (dk_at dksX0_limits_0 3 rfl rfl)
theorem dX0_limits_4 : decode cX0_limits 4 = .ok (.iload_n 2, 1) := dk_28 (dk_at dksX0_limits_0 4 rfl rfl)
theorem dX0_limits_5 : decode cX0_limits 5 = .ok (.invokevirtual 60, 3) := dk_182 0 60 (dk_at dksX0_limits_0 5 rfl rfl)
theorem dX0_limits_8 : decode cX0_limits 8 = .ok (.i2l, 1) := dk_133 (dk_at dksX0_limits_0 8 rfl rfl)
theorem dX0_limits_9 : decode cX0_limits 9 = .ok (.lastore, 1) := dk_80 (dk_at dksX0_limits_0 9 rfl rfl)
theorem dX0_limits_10 : decode cX0_limits 10 = .ok (.goto 7, 3) := dk_167 0 7 (dk_at dksX0_limits_0 10 rfl rfl)
theorem dX0_limits_13 : decode cX0_limits 13 = .ok (.astore 4, 2) := dk_58 4 (dk_at dksX0_limits_0 13 rfl rfl)
theorem dX0_limits_15 : decode cX0_limits 15 = .ok (.iconst 1, 1) := dk_4 (dk_at dksX0_limits_0 15 rfl rfl)
theorem dX0_limits_16 : decode cX0_limits 16 = .ok (.ireturn, 1) := dk_172 (dk_at dksX0_limits_0 16 rfl rfl)
theorem dX0_limits_17 : decode cX0_limits 17 = .ok (.iconst 0, 1) := dk_3 (dk_at dksX0_limits_0 17 rfl rfl)
theorem dX0_limits_18 : decode cX0_limits 18 = .ok (.ireturn, 1) := dk_172 (dk_at dksX0_limits_0 18 rfl rfl)
abbrev cX0_work : ByteArray := method_17_code
def yX0_work : MethodName := ⟨RX0, "work", "(LSearchKeeper;I[J)I"⟩
def dkwX0_work_0 : List UInt8 := [44, 3, 42, 27, 182, 0, 63, 133, 80, 167, 0, 6, 78, 4, 172, 3, 172]
abbrev dktX0_work_0 : List UInt8 := dkwX0_work_0 ++ []
theorem dksX0_work_0 : cX0_work.data.toList.drop 0 = dktX0_work_0 := by decide +kernel
theorem dX0_work_0 : decode cX0_work 0 = .ok (.aload_n 2, 1) := dk_44 (dk_at dksX0_work_0 0 rfl rfl)
theorem dX0_work_1 : decode cX0_work 1 = .ok (.iconst 0, 1) := dk_3 (dk_at dksX0_work_0 1 rfl rfl)
theorem dX0_work_2 : decode cX0_work 2 = .ok (.aload_n 0, 1) := dk_42 (dk_at dksX0_work_0 2 rfl rfl)
theorem dX0_work_3 : decode cX0_work 3 = .ok (.iload_n 1, 1) := dk_27 (dk_at dksX0_work_0 3 rfl rfl)
theorem dX0_work_4 : decode cX0_work 4 = .ok (.invokevirtual 63, 3) := dk_182 0 63 (dk_at dksX0_work_0 4 rfl rfl)
theorem dX0_work_7 : decode cX0_work 7 = .ok (.i2l, 1) := dk_133 (dk_at dksX0_work_0 7 rfl rfl)
theorem dX0_work_8 : decode cX0_work 8 = .ok (.lastore, 1) := dk_80 (dk_at dksX0_work_0 8 rfl rfl)
theorem dX0_work_9 : decode cX0_work 9 = .ok (.goto 6, 3) := dk_167 0 6 (dk_at dksX0_work_0 9 rfl rfl)
theorem dX0_work_12 : decode cX0_work 12 = .ok (.astore_n 3, 1) := dk_78 (dk_at dksX0_work_0 12 rfl rfl)
theorem dX0_work_13 : decode cX0_work 13 = .ok (.iconst 1, 1) := dk_4 (dk_at dksX0_work_0 13 rfl rfl)
theorem dX0_work_14 : decode cX0_work 14 = .ok (.ireturn, 1) := dk_172 (dk_at dksX0_work_0 14 rfl rfl)
theorem dX0_work_15 : decode cX0_work 15 = .ok (.iconst 0, 1) := dk_3 (dk_at dksX0_work_0 15 rfl rfl)
theorem dX0_work_16 : decode cX0_work 16 = .ok (.ireturn, 1) := dk_172 (dk_at dksX0_work_0 16 rfl rfl)
abbrev cX0_crawl : ByteArray := method_18_code
def yX0_crawl : MethodName := ⟨RX0, "crawl", "(LSearchKeeper;I[J)I"⟩
def dkwX0_crawl_0 : List UInt8 := [44, 3, 42, 27, 182, 0, 66, 133, 80, 167, 0, 6, 78, 4, 172, 3, 172]
abbrev dktX0_crawl_0 : List UInt8 := dkwX0_crawl_0 ++ []
theorem dksX0_crawl_0 : cX0_crawl.data.toList.drop 0 = dktX0_crawl_0 := by decide +kernel
theorem dX0_crawl_0 : decode cX0_crawl 0 = .ok (.aload_n 2, 1) := dk_44 (dk_at dksX0_crawl_0 0 rfl rfl)
theorem dX0_crawl_1 : decode cX0_crawl 1 = .ok (.iconst 0, 1) := dk_3 (dk_at dksX0_crawl_0 1 rfl rfl)
theorem dX0_crawl_2 : decode cX0_crawl 2 = .ok (.aload_n 0, 1) := dk_42 (dk_at dksX0_crawl_0 2 rfl rfl)
theorem dX0_crawl_3 : decode cX0_crawl 3 = .ok (.iload_n 1, 1) := dk_27 (dk_at dksX0_crawl_0 3 rfl rfl)
theorem dX0_crawl_4 : decode cX0_crawl 4 = .ok (.invokevirtual 66, 3) := dk_182 0 66 (dk_at dksX0_crawl_0 4 rfl rfl)
theorem dX0_crawl_7 : decode cX0_crawl 7 = .ok (.i2l, 1) := dk_133 (dk_at dksX0_crawl_0 7 rfl rfl)
theorem dX0_crawl_8 : decode cX0_crawl 8 = .ok (.lastore, 1) := dk_80 (dk_at dksX0_crawl_0 8 rfl rfl)
theorem dX0_crawl_9 : decode cX0_crawl 9 = .ok (.goto 6, 3) := dk_167 0 6 (dk_at dksX0_crawl_0 9 rfl rfl)
theorem dX0_crawl_12 : decode cX0_crawl 12 = .ok (.astore_n 3, 1) := dk_78 (dk_at dksX0_crawl_0 12 rfl rfl)
theorem dX0_crawl_13 : decode cX0_crawl 13 = .ok (.iconst 1, 1) := dk_4 (dk_at dksX0_crawl_0 13 rfl rfl)
theorem dX0_crawl_14 : decode cX0_crawl 14 = .ok (.ireturn, 1) := dk_172 (dk_at dksX0_crawl_0 14 rfl rfl)
theorem dX0_crawl_15 : decode cX0_crawl 15 = .ok (.iconst 0, 1) := dk_3 (dk_at dksX0_crawl_0 15 rfl rfl)
theorem dX0_crawl_16 : decode cX0_crawl 16 = .ok (.ireturn, 1) := dk_172 (dk_at dksX0_crawl_0 16 rfl rfl)
abbrev cX0_edition : ByteArray := method_19_code
def yX0_edition : MethodName := ⟨RX0, "edition", "(LSearchKeeper;I[J)I"⟩
def dkwX0_edition_0 : List UInt8 := [44, 3, 42, 27, 182, 0, 69, 133, 80, 167, 0, 6, 78, 4, 172, 3, 172]
abbrev dktX0_edition_0 : List UInt8 := dkwX0_edition_0 ++ []
theorem dksX0_edition_0 : cX0_edition.data.toList.drop 0 = dktX0_edition_0 := by decide +kernel
theorem dX0_edition_0 : decode cX0_edition 0 = .ok (.aload_n 2, 1) := dk_44 (dk_at dksX0_edition_0 0 rfl rfl)
theorem dX0_edition_1 : decode cX0_edition 1 = .ok (.iconst 0, 1) := dk_3 (dk_at dksX0_edition_0 1 rfl rfl)
theorem dX0_edition_2 : decode cX0_edition 2 = .ok (.aload_n 0, 1) := dk_42 (dk_at dksX0_edition_0 2 rfl rfl)
theorem dX0_edition_3 : decode cX0_edition 3 = .ok (.iload_n 1, 1) := dk_27 (dk_at dksX0_edition_0 3 rfl rfl)
theorem dX0_edition_4 : decode cX0_edition 4 = .ok (.invokevirtual 69, 3) := dk_182 0 69 (dk_at dksX0_edition_0 4 rfl rfl)
theorem dX0_edition_7 : decode cX0_edition 7 = .ok (.i2l, 1) := dk_133 (dk_at dksX0_edition_0 7 rfl rfl)
theorem dX0_edition_8 : decode cX0_edition 8 = .ok (.lastore, 1) := dk_80 (dk_at dksX0_edition_0 8 rfl rfl)
theorem dX0_edition_9 : decode cX0_edition 9 = .ok (.goto 6, 3) := dk_167 0 6 (dk_at dksX0_edition_0 9 rfl rfl)
theorem dX0_edition_12 : decode cX0_edition 12 = .ok (.astore_n 3, 1) := dk_78 (dk_at dksX0_edition_0 12 rfl rfl)
theorem dX0_edition_13 : decode cX0_edition 13 = .ok (.iconst 1, 1) := dk_4 (dk_at dksX0_edition_0 13 rfl rfl)
theorem dX0_edition_14 : decode cX0_edition 14 = .ok (.ireturn, 1) := dk_172 (dk_at dksX0_edition_0 14 rfl rfl)
theorem dX0_edition_15 : decode cX0_edition 15 = .ok (.iconst 0, 1) := dk_3 (dk_at dksX0_edition_0 15 rfl rfl)
theorem dX0_edition_16 : decode cX0_edition 16 = .ok (.ireturn, 1) := dk_172 (dk_at dksX0_edition_0 16 rfl rfl)
abbrev cX0_answers : ByteArray := method_20_code
def yX0_answers : MethodName := ⟨RX0, "answers", "(LSearchKeeper;IIII[J)I"⟩
def dkwX0_answers_1 : List UInt8 := [172, 3, 172]
abbrev dktX0_answers_1 : List UInt8 := dkwX0_answers_1 ++ []
def dkwX0_answers_0 : List UInt8 := [25, 5, 3, 42, 27, 28, 29, 21, 4, 182, 0, 72, 133, 80, 167, 0, 11, 58, 6, 4, 172, 58, 6, 5]
abbrev dktX0_answers_0 : List UInt8 := dkwX0_answers_0 ++ dktX0_answers_1
theorem dksX0_answers_0 : cX0_answers.data.toList.drop 0 = dktX0_answers_0 := by decide +kernel
theorem dksX0_answers_1 : cX0_answers.data.toList.drop 24 = dktX0_answers_1 := dk_seg dksX0_answers_0 24 rfl rfl
theorem dX0_answers_0 : decode cX0_answers 0 = .ok (.aload 5, 2) := dk_25 5 (dk_at dksX0_answers_0 0 rfl rfl)
theorem dX0_answers_2 : decode cX0_answers 2 = .ok (.iconst 0, 1) := dk_3 (dk_at dksX0_answers_0 2 rfl rfl)
theorem dX0_answers_3 : decode cX0_answers 3 = .ok (.aload_n 0, 1) := dk_42 (dk_at dksX0_answers_0 3 rfl rfl)
theorem dX0_answers_4 : decode cX0_answers 4 = .ok (.iload_n 1, 1) := dk_27 (dk_at dksX0_answers_0 4 rfl rfl)
theorem dX0_answers_5 : decode cX0_answers 5 = .ok (.iload_n 2, 1) := dk_28 (dk_at dksX0_answers_0 5 rfl rfl)
theorem dX0_answers_6 : decode cX0_answers 6 = .ok (.iload_n 3, 1) := dk_29 (dk_at dksX0_answers_0 6 rfl rfl)
theorem dX0_answers_7 : decode cX0_answers 7 = .ok (.iload 4, 2) := dk_21 4 (dk_at dksX0_answers_0 7 rfl rfl)
theorem dX0_answers_9 : decode cX0_answers 9 = .ok (.invokevirtual 72, 3) := dk_182 0 72 (dk_at dksX0_answers_0 9 rfl rfl)
theorem dX0_answers_12 : decode cX0_answers 12 = .ok (.i2l, 1) := dk_133 (dk_at dksX0_answers_0 12 rfl rfl)
theorem dX0_answers_13 : decode cX0_answers 13 = .ok (.lastore, 1) := dk_80 (dk_at dksX0_answers_0 13 rfl rfl)
theorem dX0_answers_14 : decode cX0_answers 14 = .ok (.goto 11, 3) := dk_167 0 11 (dk_at dksX0_answers_0 14 rfl rfl)
theorem dX0_answers_17 : decode cX0_answers 17 = .ok (.astore 6, 2) := dk_58 6 (dk_at dksX0_answers_0 17 rfl rfl)
theorem dX0_answers_19 : decode cX0_answers 19 = .ok (.iconst 1, 1) := dk_4 (dk_at dksX0_answers_0 19 rfl rfl)
theorem dX0_answers_20 : decode cX0_answers 20 = .ok (.ireturn, 1) := dk_172 (dk_at dksX0_answers_0 20 rfl rfl)
theorem dX0_answers_21 : decode cX0_answers 21 = .ok (.astore 6, 2) := dk_58 6 (dk_at dksX0_answers_0 21 rfl rfl)
theorem dX0_answers_23 : decode cX0_answers 23 = .ok (.iconst 2, 1) := dk_5 (dk_at dksX0_answers_0 23 rfl rfl)
theorem dX0_answers_24 : decode cX0_answers 24 = .ok (.ireturn, 1) := dk_172 (dk_at dksX0_answers_1 0 rfl rfl)
theorem dX0_answers_25 : decode cX0_answers 25 = .ok (.iconst 0, 1) := dk_3 (dk_at dksX0_answers_1 1 rfl rfl)
theorem dX0_answers_26 : decode cX0_answers 26 = .ok (.ireturn, 1) := dk_172 (dk_at dksX0_answers_1 2 rfl rfl)
abbrev cX0_answersAnew : ByteArray := method_21_code
def yX0_answersAnew : MethodName := ⟨RX0, "answersAnew", "(LSearchKeeper;IIII[J)I"⟩
def dkwX0_answersAnew_1 : List UInt8 := [172, 3, 172]
abbrev dktX0_answersAnew_1 : List UInt8 := dkwX0_answersAnew_1 ++ []
def dkwX0_answersAnew_0 : List UInt8 := [25, 5, 3, 42, 27, 28, 29, 21, 4, 182, 0, 76, 133, 80, 167, 0, 11, 58, 6, 4, 172, 58, 6, 5]
abbrev dktX0_answersAnew_0 : List UInt8 := dkwX0_answersAnew_0 ++ dktX0_answersAnew_1
theorem dksX0_answersAnew_0 : cX0_answersAnew.data.toList.drop 0 = dktX0_answersAnew_0 := by decide +kernel
theorem dksX0_answersAnew_1 : cX0_answersAnew.data.toList.drop 24 = dktX0_answersAnew_1 := dk_seg dksX0_answersAnew_0 24 rfl rfl
theorem dX0_answersAnew_0 : decode cX0_answersAnew 0 = .ok (.aload 5, 2) := dk_25 5 (dk_at dksX0_answersAnew_0 0 rfl rfl)
theorem dX0_answersAnew_2 : decode cX0_answersAnew 2 = .ok (.iconst 0, 1) := dk_3 (dk_at dksX0_answersAnew_0 2 rfl rfl)
theorem dX0_answersAnew_3 : decode cX0_answersAnew 3 = .ok (.aload_n 0, 1) := dk_42 (dk_at dksX0_answersAnew_0 3 rfl rfl)
theorem dX0_answersAnew_4 : decode cX0_answersAnew 4 = .ok (.iload_n 1, 1) := dk_27 (dk_at dksX0_answersAnew_0 4 rfl rfl)
theorem dX0_answersAnew_5 : decode cX0_answersAnew 5 = .ok (.iload_n 2, 1) := dk_28 (dk_at dksX0_answersAnew_0 5 rfl rfl)
theorem dX0_answersAnew_6 : decode cX0_answersAnew 6 = .ok (.iload_n 3, 1) := dk_29 (dk_at dksX0_answersAnew_0 6 rfl rfl)
theorem dX0_answersAnew_7 : decode cX0_answersAnew 7 = .ok (.iload 4, 2) := dk_21 4 (dk_at dksX0_answersAnew_0 7 rfl rfl)
theorem dX0_answersAnew_9 : decode cX0_answersAnew 9 = .ok (.invokevirtual 76, 3) := dk_182 0 76 (dk_at dksX0_answersAnew_0 9 rfl rfl)
theorem dX0_answersAnew_12 : decode cX0_answersAnew 12 = .ok (.i2l, 1) := dk_133 (dk_at dksX0_answersAnew_0 12 rfl rfl)
theorem dX0_answersAnew_13 : decode cX0_answersAnew 13 = .ok (.lastore, 1) := dk_80 (dk_at dksX0_answersAnew_0 13 rfl rfl)
theorem dX0_answersAnew_14 : decode cX0_answersAnew 14 = .ok (.goto 11, 3) := dk_167 0 11 (dk_at dksX0_answersAnew_0 14 rfl rfl)
theorem dX0_answersAnew_17 : decode cX0_answersAnew 17 = .ok (.astore 6, 2) := dk_58 6 (dk_at dksX0_answersAnew_0 17 rfl rfl)
theorem dX0_answersAnew_19 : decode cX0_answersAnew 19 = .ok (.iconst 1, 1) := dk_4 (dk_at dksX0_answersAnew_0 19 rfl rfl)
theorem dX0_answersAnew_20 : decode cX0_answersAnew 20 = .ok (.ireturn, 1) := dk_172 (dk_at dksX0_answersAnew_0 20 rfl rfl)
theorem dX0_answersAnew_21 : decode cX0_answersAnew 21 = .ok (.astore 6, 2) := dk_58 6 (dk_at dksX0_answersAnew_0 21 rfl rfl)
theorem dX0_answersAnew_23 : decode cX0_answersAnew 23 = .ok (.iconst 2, 1) := dk_5 (dk_at dksX0_answersAnew_0 23 rfl rfl)
theorem dX0_answersAnew_24 : decode cX0_answersAnew 24 = .ok (.ireturn, 1) := dk_172 (dk_at dksX0_answersAnew_1 0 rfl rfl)
theorem dX0_answersAnew_25 : decode cX0_answersAnew 25 = .ok (.iconst 0, 1) := dk_3 (dk_at dksX0_answersAnew_1 1 rfl rfl)
theorem dX0_answersAnew_26 : decode cX0_answersAnew 26 = .ok (.ireturn, 1) := dk_172 (dk_at dksX0_answersAnew_1 2 rfl rfl)
abbrev cX0_answer : ByteArray := method_22_code
def yX0_answer : MethodName := ⟨RX0, "answer", "(LSearchKeeper;IIII[J)I"⟩
def dkwX0_answer_1 : List UInt8 := [172, 3, 172]
abbrev dktX0_answer_1 : List UInt8 := dkwX0_answer_1 ++ []
def dkwX0_answer_0 : List UInt8 := [25, 5, 3, 42, 27, 28, 29, 21, 4, 182, 0, 79, 133, 80, 167, 0, 11, 58, 6, 4, 172, 58, 6, 5]
abbrev dktX0_answer_0 : List UInt8 := dkwX0_answer_0 ++ dktX0_answer_1
theorem dksX0_answer_0 : cX0_answer.data.toList.drop 0 = dktX0_answer_0 := by decide +kernel
theorem dksX0_answer_1 : cX0_answer.data.toList.drop 24 = dktX0_answer_1 := dk_seg dksX0_answer_0 24 rfl rfl
theorem dX0_answer_0 : decode cX0_answer 0 = .ok (.aload 5, 2) := dk_25 5 (dk_at dksX0_answer_0 0 rfl rfl)
theorem dX0_answer_2 : decode cX0_answer 2 = .ok (.iconst 0, 1) := dk_3 (dk_at dksX0_answer_0 2 rfl rfl)
theorem dX0_answer_3 : decode cX0_answer 3 = .ok (.aload_n 0, 1) := dk_42 (dk_at dksX0_answer_0 3 rfl rfl)
theorem dX0_answer_4 : decode cX0_answer 4 = .ok (.iload_n 1, 1) := dk_27 (dk_at dksX0_answer_0 4 rfl rfl)
theorem dX0_answer_5 : decode cX0_answer 5 = .ok (.iload_n 2, 1) := dk_28 (dk_at dksX0_answer_0 5 rfl rfl)
theorem dX0_answer_6 : decode cX0_answer 6 = .ok (.iload_n 3, 1) := dk_29 (dk_at dksX0_answer_0 6 rfl rfl)
theorem dX0_answer_7 : decode cX0_answer 7 = .ok (.iload 4, 2) := dk_21 4 (dk_at dksX0_answer_0 7 rfl rfl)
theorem dX0_answer_9 : decode cX0_answer 9 = .ok (.invokevirtual 79, 3) := dk_182 0 79 (dk_at dksX0_answer_0 9 rfl rfl)
theorem dX0_answer_12 : decode cX0_answer 12 = .ok (.i2l, 1) := dk_133 (dk_at dksX0_answer_0 12 rfl rfl)
theorem dX0_answer_13 : decode cX0_answer 13 = .ok (.lastore, 1) := dk_80 (dk_at dksX0_answer_0 13 rfl rfl)
theorem dX0_answer_14 : decode cX0_answer 14 = .ok (.goto 11, 3) := dk_167 0 11 (dk_at dksX0_answer_0 14 rfl rfl)
theorem dX0_answer_17 : decode cX0_answer 17 = .ok (.astore 6, 2) := dk_58 6 (dk_at dksX0_answer_0 17 rfl rfl)
theorem dX0_answer_19 : decode cX0_answer 19 = .ok (.iconst 1, 1) := dk_4 (dk_at dksX0_answer_0 19 rfl rfl)
theorem dX0_answer_20 : decode cX0_answer 20 = .ok (.ireturn, 1) := dk_172 (dk_at dksX0_answer_0 20 rfl rfl)
theorem dX0_answer_21 : decode cX0_answer 21 = .ok (.astore 6, 2) := dk_58 6 (dk_at dksX0_answer_0 21 rfl rfl)
theorem dX0_answer_23 : decode cX0_answer 23 = .ok (.iconst 2, 1) := dk_5 (dk_at dksX0_answer_0 23 rfl rfl)
theorem dX0_answer_24 : decode cX0_answer 24 = .ok (.ireturn, 1) := dk_172 (dk_at dksX0_answer_1 0 rfl rfl)
theorem dX0_answer_25 : decode cX0_answer 25 = .ok (.iconst 0, 1) := dk_3 (dk_at dksX0_answer_1 1 rfl rfl)
theorem dX0_answer_26 : decode cX0_answer 26 = .ok (.ireturn, 1) := dk_172 (dk_at dksX0_answer_1 2 rfl rfl)
abbrev cX0_closest : ByteArray := method_23_code
def yX0_closest : MethodName := ⟨RX0, "closest", "(LSearchKeeper;IIII[J)I"⟩
def dkwX0_closest_1 : List UInt8 := [172, 3, 172]
abbrev dktX0_closest_1 : List UInt8 := dkwX0_closest_1 ++ []
def dkwX0_closest_0 : List UInt8 := [25, 5, 3, 42, 27, 28, 29, 21, 4, 182, 0, 82, 133, 80, 167, 0, 11, 58, 6, 4, 172, 58, 6, 5]
abbrev dktX0_closest_0 : List UInt8 := dkwX0_closest_0 ++ dktX0_closest_1
theorem dksX0_closest_0 : cX0_closest.data.toList.drop 0 = dktX0_closest_0 := by decide +kernel
theorem dksX0_closest_1 : cX0_closest.data.toList.drop 24 = dktX0_closest_1 := dk_seg dksX0_closest_0 24 rfl rfl
theorem dX0_closest_0 : decode cX0_closest 0 = .ok (.aload 5, 2) := dk_25 5 (dk_at dksX0_closest_0 0 rfl rfl)
theorem dX0_closest_2 : decode cX0_closest 2 = .ok (.iconst 0, 1) := dk_3 (dk_at dksX0_closest_0 2 rfl rfl)
theorem dX0_closest_3 : decode cX0_closest 3 = .ok (.aload_n 0, 1) := dk_42 (dk_at dksX0_closest_0 3 rfl rfl)
theorem dX0_closest_4 : decode cX0_closest 4 = .ok (.iload_n 1, 1) := dk_27 (dk_at dksX0_closest_0 4 rfl rfl)
theorem dX0_closest_5 : decode cX0_closest 5 = .ok (.iload_n 2, 1) := dk_28 (dk_at dksX0_closest_0 5 rfl rfl)
theorem dX0_closest_6 : decode cX0_closest 6 = .ok (.iload_n 3, 1) := dk_29 (dk_at dksX0_closest_0 6 rfl rfl)
theorem dX0_closest_7 : decode cX0_closest 7 = .ok (.iload 4, 2) := dk_21 4 (dk_at dksX0_closest_0 7 rfl rfl)
theorem dX0_closest_9 : decode cX0_closest 9 = .ok (.invokevirtual 82, 3) := dk_182 0 82 (dk_at dksX0_closest_0 9 rfl rfl)
theorem dX0_closest_12 : decode cX0_closest 12 = .ok (.i2l, 1) := dk_133 (dk_at dksX0_closest_0 12 rfl rfl)
theorem dX0_closest_13 : decode cX0_closest 13 = .ok (.lastore, 1) := dk_80 (dk_at dksX0_closest_0 13 rfl rfl)
theorem dX0_closest_14 : decode cX0_closest 14 = .ok (.goto 11, 3) := dk_167 0 11 (dk_at dksX0_closest_0 14 rfl rfl)
theorem dX0_closest_17 : decode cX0_closest 17 = .ok (.astore 6, 2) := dk_58 6 (dk_at dksX0_closest_0 17 rfl rfl)
theorem dX0_closest_19 : decode cX0_closest 19 = .ok (.iconst 1, 1) := dk_4 (dk_at dksX0_closest_0 19 rfl rfl)
theorem dX0_closest_20 : decode cX0_closest 20 = .ok (.ireturn, 1) := dk_172 (dk_at dksX0_closest_0 20 rfl rfl)
theorem dX0_closest_21 : decode cX0_closest 21 = .ok (.astore 6, 2) := dk_58 6 (dk_at dksX0_closest_0 21 rfl rfl)
theorem dX0_closest_23 : decode cX0_closest 23 = .ok (.iconst 2, 1) := dk_5 (dk_at dksX0_closest_0 23 rfl rfl)
theorem dX0_closest_24 : decode cX0_closest 24 = .ok (.ireturn, 1) := dk_172 (dk_at dksX0_closest_1 0 rfl rfl)
theorem dX0_closest_25 : decode cX0_closest 25 = .ok (.iconst 0, 1) := dk_3 (dk_at dksX0_closest_1 1 rfl rfl)
theorem dX0_closest_26 : decode cX0_closest 26 = .ok (.ireturn, 1) := dk_172 (dk_at dksX0_closest_1 2 rfl rfl)
theorem q94 : (Jvm.Cond.initialized "SearchKeeperLaw") ∈ lw_all := lw_g (lw_at lw_m1 0 rfl) rfl
theorem q143 : (Jvm.Cond.classLink "SearchKeeperLaw" (8 : Nat) "SearchKeeper") ∈ lw_all := lw_g (lw_at lw_m1 49 rfl) rfl
theorem q145 : (Jvm.Cond.methodLink "SearchKeeperLaw" (85 : Nat) ({ cls := "SearchKeeper", name := "<init>", desc := "()V" } : Jvm.MethodName)) ∈ lw_all := lw_g (lw_at lw_m1 51 rfl) rfl
theorem q422 : (Jvm.Cond.methodLink "SearchKeeperLaw" (124 : Nat) ({ cls := "SearchKeeper", name := "nodes", desc := "()I" } : Jvm.MethodName)) ∈ lw_all := lw_g (lw_at lw_m2 88 rfl) rfl
theorem q794 : (Jvm.Cond.methodLink "SearchKeeperLaw" (143 : Nat) ({ cls := "SearchKeeper", name := "battery", desc := "(Z)Z" } : Jvm.MethodName)) ∈ lw_all := lw_g (lw_at lw_m3 220 rfl) rfl
theorem q798 : (Jvm.Cond.methodLink "SearchKeeperLaw" (157 : Nat) ({ cls := "SearchKeeper", name := "acts", desc := "()I" } : Jvm.MethodName)) ∈ lw_all := lw_g (lw_at lw_m3 224 rfl) rfl
theorem q803 : (Jvm.Cond.methodLink "SearchKeeperLaw" (161 : Nat) ({ cls := "SearchKeeper", name := "isQuiet", desc := "()Z" } : Jvm.MethodName)) ∈ lw_all := lw_g (lw_at lw_m3 229 rfl) rfl
theorem q1072 : (Jvm.Cond.methodLink "SearchKeeperLaw" (166 : Nat) ({ cls := "SearchKeeper", name := "entries", desc := "()I" } : Jvm.MethodName)) ∈ lw_all := lw_g (lw_at lw_m5 18 rfl) rfl
theorem q1076 : (Jvm.Cond.methodLink "SearchKeeperLaw" (173 : Nat) ({ cls := "SearchKeeper", name := "stale", desc := "()I" } : Jvm.MethodName)) ∈ lw_all := lw_g (lw_at lw_m5 22 rfl) rfl
theorem q1088 : (Jvm.Cond.methodLink "SearchKeeperLaw" (177 : Nat) ({ cls := "SearchKeeper", name := "segments", desc := "()I" } : Jvm.MethodName)) ∈ lw_all := lw_g (lw_at lw_m5 34 rfl) rfl
theorem q1092 : (Jvm.Cond.methodLink "SearchKeeperLaw" (181 : Nat) ({ cls := "SearchKeeper", name := "dead", desc := "()I" } : Jvm.MethodName)) ∈ lw_all := lw_g (lw_at lw_m5 38 rfl) rfl
theorem q1097 : (Jvm.Cond.methodLink "SearchKeeperLaw" (89 : Nat) ({ cls := "SearchKeeperLaw", name := "make", desc := "(LSearchKeeper;ICZ[J)I" } : Jvm.MethodName)) ∈ lw_all := lw_g (lw_at lw_m5 43 rfl) rfl
theorem q1098 : (Jvm.Cond.static ({ cls := "SearchKeeperLaw", name := "make", desc := "(LSearchKeeper;ICZ[J)I" } : Jvm.MethodName)) ∈ lw_all := lw_g (lw_at lw_m5 44 rfl) rfl
theorem q1099 : (Jvm.Cond.codeWith ({ cls := "SearchKeeperLaw", name := "make", desc := "(LSearchKeeper;ICZ[J)I" } : Jvm.MethodName) method_3_code (6 : Nat) (Option.some Jvm.ClassFile.FieldType.int) [((0 : Nat), (12 : Nat), (15 : Nat), (13 : Nat)), ((0 : Nat), (12 : Nat), (19 : Nat), (15 : Nat)), ((0 : Nat), (12 : Nat), (23 : Nat), (17 : Nat))]) ∈ lw_all := lw_g (lw_at lw_m5 45 rfl) rfl
theorem q1100 : (Jvm.Cond.classLink "SearchKeeperLaw" (13 : Nat) "java/lang/IndexOutOfBoundsException") ∈ lw_all := lw_g (lw_at lw_m5 46 rfl) rfl
theorem q1116 : (Jvm.Cond.classLink "SearchKeeperLaw" (15 : Nat) "java/lang/IllegalArgumentException") ∈ lw_all := lw_g (lw_at lw_m5 62 rfl) rfl
theorem q1117 : (Jvm.Cond.classLink "SearchKeeperLaw" (17 : Nat) "java/lang/IllegalStateException") ∈ lw_all := lw_g (lw_at lw_m5 63 rfl) rfl
theorem q1118 : (Jvm.Cond.methodLink "SearchKeeperLaw" (7 : Nat) ({ cls := "SearchKeeper", name := "make", desc := "(ICZ)I" } : Jvm.MethodName)) ∈ lw_all := lw_g (lw_at lw_m5 64 rfl) rfl
theorem q1214 : (Jvm.Cond.methodLink "SearchKeeperLaw" (99 : Nat) ({ cls := "SearchKeeperLaw", name := "write", desc := "(LSearchKeeper;II[J)I" } : Jvm.MethodName)) ∈ lw_all := lw_g (lw_at lw_m5 160 rfl) rfl
theorem q1215 : (Jvm.Cond.static ({ cls := "SearchKeeperLaw", name := "write", desc := "(LSearchKeeper;II[J)I" } : Jvm.MethodName)) ∈ lw_all := lw_g (lw_at lw_m5 161 rfl) rfl
theorem q1216 : (Jvm.Cond.codeWith ({ cls := "SearchKeeperLaw", name := "write", desc := "(LSearchKeeper;II[J)I" } : Jvm.MethodName) method_4_code (5 : Nat) (Option.some Jvm.ClassFile.FieldType.int) [((0 : Nat), (10 : Nat), (13 : Nat), (13 : Nat)), ((0 : Nat), (10 : Nat), (17 : Nat), (15 : Nat)), ((0 : Nat), (10 : Nat), (21 : Nat), (17 : Nat))]) ∈ lw_all := lw_g (lw_at lw_m5 162 rfl) rfl
theorem q1217 : (Jvm.Cond.methodLink "SearchKeeperLaw" (19 : Nat) ({ cls := "SearchKeeper", name := "write", desc := "(II)I" } : Jvm.MethodName)) ∈ lw_all := lw_g (lw_at lw_m5 163 rfl) rfl
theorem q1254 : (Jvm.Cond.methodLink "SearchKeeperLaw" (103 : Nat) ({ cls := "SearchKeeperLaw", name := "empty", desc := "(LSearchKeeper;I[J)I" } : Jvm.MethodName)) ∈ lw_all := lw_g (lw_at lw_m5 200 rfl) rfl
theorem q1255 : (Jvm.Cond.static ({ cls := "SearchKeeperLaw", name := "empty", desc := "(LSearchKeeper;I[J)I" } : Jvm.MethodName)) ∈ lw_all := lw_g (lw_at lw_m5 201 rfl) rfl
theorem q1256 : (Jvm.Cond.codeWith ({ cls := "SearchKeeperLaw", name := "empty", desc := "(LSearchKeeper;I[J)I" } : Jvm.MethodName) method_5_code (4 : Nat) (Option.some Jvm.ClassFile.FieldType.int) [((0 : Nat), (9 : Nat), (12 : Nat), (13 : Nat)), ((0 : Nat), (9 : Nat), (15 : Nat), (17 : Nat))]) ∈ lw_all := lw_g (lw_at lw_m5 202 rfl) rfl
theorem q1257 : (Jvm.Cond.methodLink "SearchKeeperLaw" (23 : Nat) ({ cls := "SearchKeeper", name := "empty", desc := "(I)I" } : Jvm.MethodName)) ∈ lw_all := lw_g (lw_at lw_m5 203 rfl) rfl
theorem q1273 : (Jvm.Cond.methodLink "SearchKeeperLaw" (107 : Nat) ({ cls := "SearchKeeperLaw", name := "move", desc := "(LSearchKeeper;IIC[J)I" } : Jvm.MethodName)) ∈ lw_all := lw_g (lw_at lw_m5 219 rfl) rfl
theorem q1274 : (Jvm.Cond.static ({ cls := "SearchKeeperLaw", name := "move", desc := "(LSearchKeeper;IIC[J)I" } : Jvm.MethodName)) ∈ lw_all := lw_g (lw_at lw_m5 220 rfl) rfl
theorem q1275 : (Jvm.Cond.codeWith ({ cls := "SearchKeeperLaw", name := "move", desc := "(LSearchKeeper;IIC[J)I" } : Jvm.MethodName) method_6_code (6 : Nat) (Option.some Jvm.ClassFile.FieldType.int) [((0 : Nat), (12 : Nat), (15 : Nat), (13 : Nat)), ((0 : Nat), (12 : Nat), (19 : Nat), (15 : Nat)), ((0 : Nat), (12 : Nat), (23 : Nat), (17 : Nat))]) ∈ lw_all := lw_g (lw_at lw_m5 221 rfl) rfl
theorem q1276 : (Jvm.Cond.methodLink "SearchKeeperLaw" (27 : Nat) ({ cls := "SearchKeeper", name := "move", desc := "(IIC)I" } : Jvm.MethodName)) ∈ lw_all := lw_g (lw_at lw_m5 222 rfl) rfl
theorem q1291 : (Jvm.Cond.methodLink "SearchKeeperLaw" (111 : Nat) ({ cls := "SearchKeeperLaw", name := "remove", desc := "(LSearchKeeper;I[J)I" } : Jvm.MethodName)) ∈ lw_all := lw_g (lw_at lw_m5 237 rfl) rfl
theorem q1292 : (Jvm.Cond.static ({ cls := "SearchKeeperLaw", name := "remove", desc := "(LSearchKeeper;I[J)I" } : Jvm.MethodName)) ∈ lw_all := lw_g (lw_at lw_m5 238 rfl) rfl
theorem q1293 : (Jvm.Cond.codeWith ({ cls := "SearchKeeperLaw", name := "remove", desc := "(LSearchKeeper;I[J)I" } : Jvm.MethodName) method_7_code (4 : Nat) (Option.some Jvm.ClassFile.FieldType.int) [((0 : Nat), (9 : Nat), (12 : Nat), (13 : Nat))]) ∈ lw_all := lw_g (lw_at lw_m5 239 rfl) rfl
theorem q1294 : (Jvm.Cond.methodLink "SearchKeeperLaw" (31 : Nat) ({ cls := "SearchKeeper", name := "remove", desc := "(I)I" } : Jvm.MethodName)) ∈ lw_all := lw_g (lw_at lw_m6 0 rfl) rfl
theorem q1392 : (Jvm.Cond.methodLink "SearchKeeperLaw" (114 : Nat) ({ cls := "SearchKeeperLaw", name := "lock", desc := "(LSearchKeeper;IZ[J)I" } : Jvm.MethodName)) ∈ lw_all := lw_g (lw_at lw_m6 98 rfl) rfl
theorem q1393 : (Jvm.Cond.static ({ cls := "SearchKeeperLaw", name := "lock", desc := "(LSearchKeeper;IZ[J)I" } : Jvm.MethodName)) ∈ lw_all := lw_g (lw_at lw_m6 99 rfl) rfl
theorem q1394 : (Jvm.Cond.codeWith ({ cls := "SearchKeeperLaw", name := "lock", desc := "(LSearchKeeper;IZ[J)I" } : Jvm.MethodName) method_8_code (5 : Nat) (Option.some Jvm.ClassFile.FieldType.int) [((0 : Nat), (17 : Nat), (20 : Nat), (13 : Nat))]) ∈ lw_all := lw_g (lw_at lw_m6 100 rfl) rfl
theorem q1395 : (Jvm.Cond.methodLink "SearchKeeperLaw" (34 : Nat) ({ cls := "SearchKeeper", name := "lock", desc := "(IZ)Z" } : Jvm.MethodName)) ∈ lw_all := lw_g (lw_at lw_m6 101 rfl) rfl
theorem q1399 : (Jvm.Cond.methodLink "SearchKeeperLaw" (118 : Nat) ({ cls := "SearchKeeperLaw", name := "people", desc := "(LSearchKeeper;II[J)I" } : Jvm.MethodName)) ∈ lw_all := lw_g (lw_at lw_m6 105 rfl) rfl
theorem q1400 : (Jvm.Cond.static ({ cls := "SearchKeeperLaw", name := "people", desc := "(LSearchKeeper;II[J)I" } : Jvm.MethodName)) ∈ lw_all := lw_g (lw_at lw_m6 106 rfl) rfl
theorem q1401 : (Jvm.Cond.codeWith ({ cls := "SearchKeeperLaw", name := "people", desc := "(LSearchKeeper;II[J)I" } : Jvm.MethodName) method_9_code (5 : Nat) (Option.some Jvm.ClassFile.FieldType.int) [((0 : Nat), (10 : Nat), (13 : Nat), (13 : Nat)), ((0 : Nat), (10 : Nat), (17 : Nat), (15 : Nat))]) ∈ lw_all := lw_g (lw_at lw_m6 107 rfl) rfl
theorem q1402 : (Jvm.Cond.methodLink "SearchKeeperLaw" (38 : Nat) ({ cls := "SearchKeeper", name := "people", desc := "(II)I" } : Jvm.MethodName)) ∈ lw_all := lw_g (lw_at lw_m6 108 rfl) rfl
theorem q1406 : (Jvm.Cond.methodLink "SearchKeeperLaw" (121 : Nat) ({ cls := "SearchKeeperLaw", name := "mayRead", desc := "(LSearchKeeper;II[J)I" } : Jvm.MethodName)) ∈ lw_all := lw_g (lw_at lw_m6 112 rfl) rfl
theorem q1407 : (Jvm.Cond.static ({ cls := "SearchKeeperLaw", name := "mayRead", desc := "(LSearchKeeper;II[J)I" } : Jvm.MethodName)) ∈ lw_all := lw_g (lw_at lw_m6 113 rfl) rfl
theorem q1408 : (Jvm.Cond.codeWith ({ cls := "SearchKeeperLaw", name := "mayRead", desc := "(LSearchKeeper;II[J)I" } : Jvm.MethodName) method_10_code (5 : Nat) (Option.some Jvm.ClassFile.FieldType.int) [((0 : Nat), (17 : Nat), (20 : Nat), (13 : Nat))]) ∈ lw_all := lw_g (lw_at lw_m6 114 rfl) rfl
theorem q1409 : (Jvm.Cond.methodLink "SearchKeeperLaw" (41 : Nat) ({ cls := "SearchKeeper", name := "mayRead", desc := "(II)Z" } : Jvm.MethodName)) ∈ lw_all := lw_g (lw_at lw_m6 115 rfl) rfl
theorem q1420 : (Jvm.Cond.methodLink "SearchKeeperLaw" (128 : Nat) ({ cls := "SearchKeeperLaw", name := "watch", desc := "(LSearchKeeper;I[J)I" } : Jvm.MethodName)) ∈ lw_all := lw_g (lw_at lw_m6 126 rfl) rfl
theorem q1421 : (Jvm.Cond.static ({ cls := "SearchKeeperLaw", name := "watch", desc := "(LSearchKeeper;I[J)I" } : Jvm.MethodName)) ∈ lw_all := lw_g (lw_at lw_m6 127 rfl) rfl
theorem q1422 : (Jvm.Cond.codeWith ({ cls := "SearchKeeperLaw", name := "watch", desc := "(LSearchKeeper;I[J)I" } : Jvm.MethodName) method_11_code (4 : Nat) (Option.some Jvm.ClassFile.FieldType.int) [((0 : Nat), (9 : Nat), (12 : Nat), (13 : Nat)), ((0 : Nat), (9 : Nat), (15 : Nat), (17 : Nat))]) ∈ lw_all := lw_g (lw_at lw_m6 128 rfl) rfl
theorem q1423 : (Jvm.Cond.methodLink "SearchKeeperLaw" (45 : Nat) ({ cls := "SearchKeeper", name := "watch", desc := "(I)I" } : Jvm.MethodName)) ∈ lw_all := lw_g (lw_at lw_m6 129 rfl) rfl
theorem q1511 : (Jvm.Cond.methodLink "SearchKeeperLaw" (131 : Nat) ({ cls := "SearchKeeperLaw", name := "notices", desc := "(LSearchKeeper;I[J)I" } : Jvm.MethodName)) ∈ lw_all := lw_g (lw_at lw_m6 217 rfl) rfl
theorem q1512 : (Jvm.Cond.static ({ cls := "SearchKeeperLaw", name := "notices", desc := "(LSearchKeeper;I[J)I" } : Jvm.MethodName)) ∈ lw_all := lw_g (lw_at lw_m6 218 rfl) rfl
theorem q1513 : (Jvm.Cond.codeWith ({ cls := "SearchKeeperLaw", name := "notices", desc := "(LSearchKeeper;I[J)I" } : Jvm.MethodName) method_12_code (4 : Nat) (Option.some Jvm.ClassFile.FieldType.int) [((0 : Nat), (9 : Nat), (12 : Nat), (13 : Nat))]) ∈ lw_all := lw_g (lw_at lw_m6 219 rfl) rfl
theorem q1514 : (Jvm.Cond.methodLink "SearchKeeperLaw" (48 : Nat) ({ cls := "SearchKeeper", name := "notices", desc := "(I)I" } : Jvm.MethodName)) ∈ lw_all := lw_g (lw_at lw_m6 220 rfl) rfl
theorem q1522 : (Jvm.Cond.methodLink "SearchKeeperLaw" (134 : Nat) ({ cls := "SearchKeeperLaw", name := "twice", desc := "(LSearchKeeper;I[J)I" } : Jvm.MethodName)) ∈ lw_all := lw_g (lw_at lw_m6 228 rfl) rfl
theorem q1523 : (Jvm.Cond.static ({ cls := "SearchKeeperLaw", name := "twice", desc := "(LSearchKeeper;I[J)I" } : Jvm.MethodName)) ∈ lw_all := lw_g (lw_at lw_m6 229 rfl) rfl
theorem q1524 : (Jvm.Cond.codeWith ({ cls := "SearchKeeperLaw", name := "twice", desc := "(LSearchKeeper;I[J)I" } : Jvm.MethodName) method_13_code (4 : Nat) (Option.some Jvm.ClassFile.FieldType.int) [((0 : Nat), (9 : Nat), (12 : Nat), (13 : Nat)), ((0 : Nat), (9 : Nat), (15 : Nat), (17 : Nat))]) ∈ lw_all := lw_g (lw_at lw_m6 230 rfl) rfl
theorem q1525 : (Jvm.Cond.methodLink "SearchKeeperLaw" (51 : Nat) ({ cls := "SearchKeeper", name := "twice", desc := "(I)I" } : Jvm.MethodName)) ∈ lw_all := lw_g (lw_at lw_m6 231 rfl) rfl
theorem q1535 : (Jvm.Cond.methodLink "SearchKeeperLaw" (137 : Nat) ({ cls := "SearchKeeperLaw", name := "lose", desc := "(LSearchKeeper;II[J)I" } : Jvm.MethodName)) ∈ lw_all := lw_g (lw_at lw_m7 1 rfl) rfl
theorem q1536 : (Jvm.Cond.static ({ cls := "SearchKeeperLaw", name := "lose", desc := "(LSearchKeeper;II[J)I" } : Jvm.MethodName)) ∈ lw_all := lw_g (lw_at lw_m7 2 rfl) rfl
theorem q1537 : (Jvm.Cond.codeWith ({ cls := "SearchKeeperLaw", name := "lose", desc := "(LSearchKeeper;II[J)I" } : Jvm.MethodName) method_14_code (5 : Nat) (Option.some Jvm.ClassFile.FieldType.int) [((0 : Nat), (10 : Nat), (13 : Nat), (13 : Nat)), ((0 : Nat), (10 : Nat), (17 : Nat), (15 : Nat))]) ∈ lw_all := lw_g (lw_at lw_m7 3 rfl) rfl
theorem q1538 : (Jvm.Cond.methodLink "SearchKeeperLaw" (54 : Nat) ({ cls := "SearchKeeper", name := "lose", desc := "(II)I" } : Jvm.MethodName)) ∈ lw_all := lw_g (lw_at lw_m7 4 rfl) rfl
theorem q1550 : (Jvm.Cond.methodLink "SearchKeeperLaw" (140 : Nat) ({ cls := "SearchKeeperLaw", name := "pass", desc := "(LSearchKeeper;I[J)I" } : Jvm.MethodName)) ∈ lw_all := lw_g (lw_at lw_m7 16 rfl) rfl
theorem q1551 : (Jvm.Cond.static ({ cls := "SearchKeeperLaw", name := "pass", desc := "(LSearchKeeper;I[J)I" } : Jvm.MethodName)) ∈ lw_all := lw_g (lw_at lw_m7 17 rfl) rfl
theorem q1552 : (Jvm.Cond.codeWith ({ cls := "SearchKeeperLaw", name := "pass", desc := "(LSearchKeeper;I[J)I" } : Jvm.MethodName) method_15_code (4 : Nat) (Option.some Jvm.ClassFile.FieldType.int) [((0 : Nat), (9 : Nat), (12 : Nat), (15 : Nat)), ((0 : Nat), (9 : Nat), (15 : Nat), (17 : Nat))]) ∈ lw_all := lw_g (lw_at lw_m7 18 rfl) rfl
theorem q1553 : (Jvm.Cond.methodLink "SearchKeeperLaw" (57 : Nat) ({ cls := "SearchKeeper", name := "pass", desc := "(I)I" } : Jvm.MethodName)) ∈ lw_all := lw_g (lw_at lw_m7 19 rfl) rfl
theorem q1558 : (Jvm.Cond.methodLink "SearchKeeperLaw" (148 : Nat) ({ cls := "SearchKeeperLaw", name := "limits", desc := "(LSearchKeeper;II[J)I" } : Jvm.MethodName)) ∈ lw_all := lw_g (lw_at lw_m7 24 rfl) rfl
theorem q1559 : (Jvm.Cond.static ({ cls := "SearchKeeperLaw", name := "limits", desc := "(LSearchKeeper;II[J)I" } : Jvm.MethodName)) ∈ lw_all := lw_g (lw_at lw_m7 25 rfl) rfl
theorem q1560 : (Jvm.Cond.codeWith ({ cls := "SearchKeeperLaw", name := "limits", desc := "(LSearchKeeper;II[J)I" } : Jvm.MethodName) method_16_code (5 : Nat) (Option.some Jvm.ClassFile.FieldType.int) [((0 : Nat), (10 : Nat), (13 : Nat), (15 : Nat))]) ∈ lw_all := lw_g (lw_at lw_m7 26 rfl) rfl
theorem q1561 : (Jvm.Cond.methodLink "SearchKeeperLaw" (60 : Nat) ({ cls := "SearchKeeper", name := "limits", desc := "(II)I" } : Jvm.MethodName)) ∈ lw_all := lw_g (lw_at lw_m7 27 rfl) rfl
theorem q1565 : (Jvm.Cond.methodLink "SearchKeeperLaw" (151 : Nat) ({ cls := "SearchKeeperLaw", name := "work", desc := "(LSearchKeeper;I[J)I" } : Jvm.MethodName)) ∈ lw_all := lw_g (lw_at lw_m7 31 rfl) rfl
theorem q1566 : (Jvm.Cond.static ({ cls := "SearchKeeperLaw", name := "work", desc := "(LSearchKeeper;I[J)I" } : Jvm.MethodName)) ∈ lw_all := lw_g (lw_at lw_m7 32 rfl) rfl
theorem q1567 : (Jvm.Cond.codeWith ({ cls := "SearchKeeperLaw", name := "work", desc := "(LSearchKeeper;I[J)I" } : Jvm.MethodName) method_17_code (4 : Nat) (Option.some Jvm.ClassFile.FieldType.int) [((0 : Nat), (9 : Nat), (12 : Nat), (15 : Nat))]) ∈ lw_all := lw_g (lw_at lw_m7 33 rfl) rfl
theorem q1568 : (Jvm.Cond.methodLink "SearchKeeperLaw" (63 : Nat) ({ cls := "SearchKeeper", name := "work", desc := "(I)I" } : Jvm.MethodName)) ∈ lw_all := lw_g (lw_at lw_m7 34 rfl) rfl
theorem q1877 : (Jvm.Cond.methodLink "SearchKeeperLaw" (154 : Nat) ({ cls := "SearchKeeperLaw", name := "crawl", desc := "(LSearchKeeper;I[J)I" } : Jvm.MethodName)) ∈ lw_all := lw_g (lw_at lw_m8 103 rfl) rfl
theorem q1878 : (Jvm.Cond.static ({ cls := "SearchKeeperLaw", name := "crawl", desc := "(LSearchKeeper;I[J)I" } : Jvm.MethodName)) ∈ lw_all := lw_g (lw_at lw_m8 104 rfl) rfl
theorem q1879 : (Jvm.Cond.codeWith ({ cls := "SearchKeeperLaw", name := "crawl", desc := "(LSearchKeeper;I[J)I" } : Jvm.MethodName) method_18_code (4 : Nat) (Option.some Jvm.ClassFile.FieldType.int) [((0 : Nat), (9 : Nat), (12 : Nat), (13 : Nat))]) ∈ lw_all := lw_g (lw_at lw_m8 105 rfl) rfl
theorem q1880 : (Jvm.Cond.methodLink "SearchKeeperLaw" (66 : Nat) ({ cls := "SearchKeeper", name := "crawl", desc := "(I)I" } : Jvm.MethodName)) ∈ lw_all := lw_g (lw_at lw_m8 106 rfl) rfl
theorem q1884 : (Jvm.Cond.methodLink "SearchKeeperLaw" (170 : Nat) ({ cls := "SearchKeeperLaw", name := "edition", desc := "(LSearchKeeper;I[J)I" } : Jvm.MethodName)) ∈ lw_all := lw_g (lw_at lw_m8 110 rfl) rfl
theorem q1885 : (Jvm.Cond.static ({ cls := "SearchKeeperLaw", name := "edition", desc := "(LSearchKeeper;I[J)I" } : Jvm.MethodName)) ∈ lw_all := lw_g (lw_at lw_m8 111 rfl) rfl
theorem q1886 : (Jvm.Cond.codeWith ({ cls := "SearchKeeperLaw", name := "edition", desc := "(LSearchKeeper;I[J)I" } : Jvm.MethodName) method_19_code (4 : Nat) (Option.some Jvm.ClassFile.FieldType.int) [((0 : Nat), (9 : Nat), (12 : Nat), (13 : Nat))]) ∈ lw_all := lw_g (lw_at lw_m8 112 rfl) rfl
theorem q1887 : (Jvm.Cond.methodLink "SearchKeeperLaw" (69 : Nat) ({ cls := "SearchKeeper", name := "edition", desc := "(I)I" } : Jvm.MethodName)) ∈ lw_all := lw_g (lw_at lw_m8 113 rfl) rfl
theorem q1895 : (Jvm.Cond.methodLink "SearchKeeperLaw" (185 : Nat) ({ cls := "SearchKeeperLaw", name := "answers", desc := "(LSearchKeeper;IIII[J)I" } : Jvm.MethodName)) ∈ lw_all := lw_g (lw_at lw_m8 121 rfl) rfl
theorem q1896 : (Jvm.Cond.static ({ cls := "SearchKeeperLaw", name := "answers", desc := "(LSearchKeeper;IIII[J)I" } : Jvm.MethodName)) ∈ lw_all := lw_g (lw_at lw_m8 122 rfl) rfl
theorem q1897 : (Jvm.Cond.codeWith ({ cls := "SearchKeeperLaw", name := "answers", desc := "(LSearchKeeper;IIII[J)I" } : Jvm.MethodName) method_20_code (7 : Nat) (Option.some Jvm.ClassFile.FieldType.int) [((0 : Nat), (14 : Nat), (17 : Nat), (13 : Nat)), ((0 : Nat), (14 : Nat), (21 : Nat), (15 : Nat))]) ∈ lw_all := lw_g (lw_at lw_m8 123 rfl) rfl
theorem q1898 : (Jvm.Cond.methodLink "SearchKeeperLaw" (72 : Nat) ({ cls := "SearchKeeper", name := "answers", desc := "(IIII)I" } : Jvm.MethodName)) ∈ lw_all := lw_g (lw_at lw_m8 124 rfl) rfl
theorem q1939 : (Jvm.Cond.methodLink "SearchKeeperLaw" (189 : Nat) ({ cls := "SearchKeeperLaw", name := "answersAnew", desc := "(LSearchKeeper;IIII[J)I" } : Jvm.MethodName)) ∈ lw_all := lw_g (lw_at lw_m8 165 rfl) rfl
theorem q1940 : (Jvm.Cond.static ({ cls := "SearchKeeperLaw", name := "answersAnew", desc := "(LSearchKeeper;IIII[J)I" } : Jvm.MethodName)) ∈ lw_all := lw_g (lw_at lw_m8 166 rfl) rfl
theorem q1941 : (Jvm.Cond.codeWith ({ cls := "SearchKeeperLaw", name := "answersAnew", desc := "(LSearchKeeper;IIII[J)I" } : Jvm.MethodName) method_21_code (7 : Nat) (Option.some Jvm.ClassFile.FieldType.int) [((0 : Nat), (14 : Nat), (17 : Nat), (13 : Nat)), ((0 : Nat), (14 : Nat), (21 : Nat), (15 : Nat))]) ∈ lw_all := lw_g (lw_at lw_m8 167 rfl) rfl
theorem q1942 : (Jvm.Cond.methodLink "SearchKeeperLaw" (76 : Nat) ({ cls := "SearchKeeper", name := "answersAnew", desc := "(IIII)I" } : Jvm.MethodName)) ∈ lw_all := lw_g (lw_at lw_m8 168 rfl) rfl
theorem q1946 : (Jvm.Cond.methodLink "SearchKeeperLaw" (192 : Nat) ({ cls := "SearchKeeperLaw", name := "answer", desc := "(LSearchKeeper;IIII[J)I" } : Jvm.MethodName)) ∈ lw_all := lw_g (lw_at lw_m8 172 rfl) rfl
theorem q1947 : (Jvm.Cond.static ({ cls := "SearchKeeperLaw", name := "answer", desc := "(LSearchKeeper;IIII[J)I" } : Jvm.MethodName)) ∈ lw_all := lw_g (lw_at lw_m8 173 rfl) rfl
theorem q1948 : (Jvm.Cond.codeWith ({ cls := "SearchKeeperLaw", name := "answer", desc := "(LSearchKeeper;IIII[J)I" } : Jvm.MethodName) method_22_code (7 : Nat) (Option.some Jvm.ClassFile.FieldType.int) [((0 : Nat), (14 : Nat), (17 : Nat), (13 : Nat)), ((0 : Nat), (14 : Nat), (21 : Nat), (15 : Nat))]) ∈ lw_all := lw_g (lw_at lw_m8 174 rfl) rfl
theorem q1949 : (Jvm.Cond.methodLink "SearchKeeperLaw" (79 : Nat) ({ cls := "SearchKeeper", name := "answer", desc := "(IIII)I" } : Jvm.MethodName)) ∈ lw_all := lw_g (lw_at lw_m8 175 rfl) rfl
theorem q1953 : (Jvm.Cond.methodLink "SearchKeeperLaw" (195 : Nat) ({ cls := "SearchKeeperLaw", name := "closest", desc := "(LSearchKeeper;IIII[J)I" } : Jvm.MethodName)) ∈ lw_all := lw_g (lw_at lw_m8 179 rfl) rfl
theorem q1954 : (Jvm.Cond.static ({ cls := "SearchKeeperLaw", name := "closest", desc := "(LSearchKeeper;IIII[J)I" } : Jvm.MethodName)) ∈ lw_all := lw_g (lw_at lw_m8 180 rfl) rfl
theorem q1955 : (Jvm.Cond.codeWith ({ cls := "SearchKeeperLaw", name := "closest", desc := "(LSearchKeeper;IIII[J)I" } : Jvm.MethodName) method_23_code (7 : Nat) (Option.some Jvm.ClassFile.FieldType.int) [((0 : Nat), (14 : Nat), (17 : Nat), (13 : Nat)), ((0 : Nat), (14 : Nat), (21 : Nat), (15 : Nat))]) ∈ lw_all := lw_g (lw_at lw_m8 181 rfl) rfl
theorem q1956 : (Jvm.Cond.methodLink "SearchKeeperLaw" (82 : Nat) ({ cls := "SearchKeeper", name := "closest", desc := "(IIII)I" } : Jvm.MethodName)) ∈ lw_all := lw_g (lw_at lw_m8 182 rfl) rfl
theorem q1960 : (Jvm.Cond.classLink "SearchKeeperLaw" (86 : Nat) "SearchKeeperModel") ∈ lw_all := lw_g (lw_at lw_m8 186 rfl) rfl
theorem q1962 : (Jvm.Cond.methodLink "SearchKeeperLaw" (88 : Nat) ({ cls := "SearchKeeperModel", name := "<init>", desc := "()V" } : Jvm.MethodName)) ∈ lw_all := lw_g (lw_at lw_m8 188 rfl) rfl
theorem q2108 : (Jvm.Cond.methodLink "SearchKeeperLaw" (95 : Nat) ({ cls := "SearchKeeperModel", name := "thrown", desc := "()I" } : Jvm.MethodName)) ∈ lw_all := lw_g (lw_at lw_m9 94 rfl) rfl
theorem q2112 : (Jvm.Cond.methodLink "SearchKeeperLaw" (94 : Nat) ({ cls := "SearchKeeperModel", name := "make", desc := "(ICZ)I" } : Jvm.MethodName)) ∈ lw_all := lw_g (lw_at lw_m9 98 rfl) rfl
theorem q2147 : (Jvm.Cond.methodLink "SearchKeeperLaw" (102 : Nat) ({ cls := "SearchKeeperModel", name := "write", desc := "(II)I" } : Jvm.MethodName)) ∈ lw_all := lw_g (lw_at lw_m9 133 rfl) rfl
theorem q2155 : (Jvm.Cond.methodLink "SearchKeeperLaw" (106 : Nat) ({ cls := "SearchKeeperModel", name := "empty", desc := "(I)I" } : Jvm.MethodName)) ∈ lw_all := lw_g (lw_at lw_m9 141 rfl) rfl
theorem q2159 : (Jvm.Cond.methodLink "SearchKeeperLaw" (110 : Nat) ({ cls := "SearchKeeperModel", name := "move", desc := "(IIC)I" } : Jvm.MethodName)) ∈ lw_all := lw_g (lw_at lw_m9 145 rfl) rfl
theorem q2171 : (Jvm.Cond.methodLink "SearchKeeperLaw" (113 : Nat) ({ cls := "SearchKeeperModel", name := "remove", desc := "(I)I" } : Jvm.MethodName)) ∈ lw_all := lw_g (lw_at lw_m9 157 rfl) rfl
theorem q2187 : (Jvm.Cond.methodLink "SearchKeeperLaw" (117 : Nat) ({ cls := "SearchKeeperModel", name := "lock", desc := "(IZ)Z" } : Jvm.MethodName)) ∈ lw_all := lw_g (lw_at lw_m9 173 rfl) rfl
theorem q2191 : (Jvm.Cond.methodLink "SearchKeeperLaw" (120 : Nat) ({ cls := "SearchKeeperModel", name := "people", desc := "(II)I" } : Jvm.MethodName)) ∈ lw_all := lw_g (lw_at lw_m9 177 rfl) rfl
theorem q2195 : (Jvm.Cond.methodLink "SearchKeeperLaw" (123 : Nat) ({ cls := "SearchKeeperModel", name := "mayRead", desc := "(II)Z" } : Jvm.MethodName)) ∈ lw_all := lw_g (lw_at lw_m9 181 rfl) rfl
theorem q2203 : (Jvm.Cond.methodLink "SearchKeeperLaw" (127 : Nat) ({ cls := "SearchKeeperModel", name := "nodes", desc := "()I" } : Jvm.MethodName)) ∈ lw_all := lw_g (lw_at lw_m9 189 rfl) rfl
theorem q2207 : (Jvm.Cond.methodLink "SearchKeeperLaw" (130 : Nat) ({ cls := "SearchKeeperModel", name := "watch", desc := "(I)I" } : Jvm.MethodName)) ∈ lw_all := lw_g (lw_at lw_m9 193 rfl) rfl
theorem q2215 : (Jvm.Cond.methodLink "SearchKeeperLaw" (133 : Nat) ({ cls := "SearchKeeperModel", name := "notices", desc := "(I)I" } : Jvm.MethodName)) ∈ lw_all := lw_g (lw_at lw_m9 201 rfl) rfl
theorem q2219 : (Jvm.Cond.methodLink "SearchKeeperLaw" (136 : Nat) ({ cls := "SearchKeeperModel", name := "twice", desc := "(I)I" } : Jvm.MethodName)) ∈ lw_all := lw_g (lw_at lw_m9 205 rfl) rfl
theorem q2223 : (Jvm.Cond.methodLink "SearchKeeperLaw" (139 : Nat) ({ cls := "SearchKeeperModel", name := "lose", desc := "(II)I" } : Jvm.MethodName)) ∈ lw_all := lw_g (lw_at lw_m9 209 rfl) rfl
theorem q2227 : (Jvm.Cond.methodLink "SearchKeeperLaw" (142 : Nat) ({ cls := "SearchKeeperModel", name := "pass", desc := "(I)I" } : Jvm.MethodName)) ∈ lw_all := lw_g (lw_at lw_m9 213 rfl) rfl
theorem q2232 : (Jvm.Cond.methodLink "SearchKeeperLaw" (147 : Nat) ({ cls := "SearchKeeperModel", name := "battery", desc := "(Z)Z" } : Jvm.MethodName)) ∈ lw_all := lw_g (lw_at lw_m9 218 rfl) rfl
theorem q2236 : (Jvm.Cond.methodLink "SearchKeeperLaw" (150 : Nat) ({ cls := "SearchKeeperModel", name := "limits", desc := "(II)I" } : Jvm.MethodName)) ∈ lw_all := lw_g (lw_at lw_m9 222 rfl) rfl
theorem q2240 : (Jvm.Cond.methodLink "SearchKeeperLaw" (153 : Nat) ({ cls := "SearchKeeperModel", name := "work", desc := "(I)I" } : Jvm.MethodName)) ∈ lw_all := lw_g (lw_at lw_m9 226 rfl) rfl
theorem q2332 : (Jvm.Cond.methodLink "SearchKeeperLaw" (156 : Nat) ({ cls := "SearchKeeperModel", name := "crawl", desc := "(I)I" } : Jvm.MethodName)) ∈ lw_all := lw_g (lw_at lw_m10 78 rfl) rfl
theorem q2336 : (Jvm.Cond.methodLink "SearchKeeperLaw" (160 : Nat) ({ cls := "SearchKeeperModel", name := "acts", desc := "()I" } : Jvm.MethodName)) ∈ lw_all := lw_g (lw_at lw_m10 82 rfl) rfl
theorem q2340 : (Jvm.Cond.methodLink "SearchKeeperLaw" (165 : Nat) ({ cls := "SearchKeeperModel", name := "isQuiet", desc := "()Z" } : Jvm.MethodName)) ∈ lw_all := lw_g (lw_at lw_m10 86 rfl) rfl
theorem q2344 : (Jvm.Cond.methodLink "SearchKeeperLaw" (169 : Nat) ({ cls := "SearchKeeperModel", name := "entries", desc := "()I" } : Jvm.MethodName)) ∈ lw_all := lw_g (lw_at lw_m10 90 rfl) rfl
theorem q2348 : (Jvm.Cond.methodLink "SearchKeeperLaw" (172 : Nat) ({ cls := "SearchKeeperModel", name := "edition", desc := "(I)I" } : Jvm.MethodName)) ∈ lw_all := lw_g (lw_at lw_m10 94 rfl) rfl
theorem q2352 : (Jvm.Cond.methodLink "SearchKeeperLaw" (176 : Nat) ({ cls := "SearchKeeperModel", name := "stale", desc := "()I" } : Jvm.MethodName)) ∈ lw_all := lw_g (lw_at lw_m10 98 rfl) rfl
theorem q2356 : (Jvm.Cond.methodLink "SearchKeeperLaw" (180 : Nat) ({ cls := "SearchKeeperModel", name := "segments", desc := "()I" } : Jvm.MethodName)) ∈ lw_all := lw_g (lw_at lw_m10 102 rfl) rfl
theorem q2360 : (Jvm.Cond.methodLink "SearchKeeperLaw" (184 : Nat) ({ cls := "SearchKeeperModel", name := "dead", desc := "()I" } : Jvm.MethodName)) ∈ lw_all := lw_g (lw_at lw_m10 106 rfl) rfl
theorem q2364 : (Jvm.Cond.methodLink "SearchKeeperLaw" (188 : Nat) ({ cls := "SearchKeeperModel", name := "answers", desc := "(IIII)I" } : Jvm.MethodName)) ∈ lw_all := lw_g (lw_at lw_m10 110 rfl) rfl
theorem q2388 : (Jvm.Cond.methodLink "SearchKeeperLaw" (191 : Nat) ({ cls := "SearchKeeperModel", name := "answersAnew", desc := "(IIII)I" } : Jvm.MethodName)) ∈ lw_all := lw_g (lw_at lw_m10 134 rfl) rfl
theorem q2392 : (Jvm.Cond.methodLink "SearchKeeperLaw" (194 : Nat) ({ cls := "SearchKeeperModel", name := "answer", desc := "(IIII)I" } : Jvm.MethodName)) ∈ lw_all := lw_g (lw_at lw_m10 138 rfl) rfl
theorem q2400 : (Jvm.Cond.methodLink "SearchKeeperLaw" (197 : Nat) ({ cls := "SearchKeeperModel", name := "closest", desc := "(IIII)I" } : Jvm.MethodName)) ∈ lw_all := lw_g (lw_at lw_m10 146 rfl) rfl

/-! SearchKeeper -/
set_option maxRecDepth 100000
def RX1 : String := "SearchKeeper"
def TX1 : u_T := fun k => match k with
  | 0 => ("SearchKeeper", "nodes", "Ljava/util/List;", true)
  | 1 => ("SearchKeeper", "roots", "Ljava/util/List;", true)
  | 2 => ("SearchKeeper", "entries", "[LSearchKeeper$Entry;", true)
  | 3 => ("SearchKeeper", "acts", "Ljava/util/LinkedList;", true)
  | 4 => ("SearchKeeper", "segments", "Ljava/util/List;", true)
  | 5 => ("SearchKeeper", "read", "Ljava/util/BitSet;", true)
  | 6 => ("SearchKeeper", "minute", "I", false)
  | 7 => ("SearchKeeper", "isOnBattery", "Z", false)
  | 8 => ("SearchKeeper", "hour", "I", false)
  | 9 => ("SearchKeeper", "hourSteps", "I", false)
  | 10 => ("SearchKeeper", "depth", "I", false)
  | _ => ("SearchKeeper", "most", "I", false)
def tyX1 : Nat → FieldType := fun k => match k with
  | 0 => .object "java/util/List"
  | 1 => .object "java/util/List"
  | 2 => .array (.object "SearchKeeper$Entry")
  | 3 => .object "java/util/LinkedList"
  | 4 => .object "java/util/List"
  | 5 => .object "java/util/BitSet"
  | 6 => .int
  | 7 => .boolean
  | 8 => .int
  | 9 => .int
  | 10 => .int
  | _ => .int
abbrev wsX10 : List Cond := u_ws RX1 TX1 12
theorem nmX1 : ∀ a, a < 12 → ∀ b, b < 12 → a ≠ b → (TX1 a).2.1 ≠ (TX1 b).2.1 := by decide +kernel
theorem tyX1_ok : ∀ k, k < 12 → parseFieldDescriptor (TX1 k).2.2.1 = some (tyX1 k) := by decide +kernel
abbrev cX1_init : ByteArray := prog_1_method_5_code
def yX1_init : MethodName := ⟨RX1, "<init>", "()V"⟩
def dkwX1_init_4 : List UInt8 := [185, 0, 65, 2, 0, 87, 177]
abbrev dktX1_init_4 : List UInt8 := dkwX1_init_4 ++ []
def dkwX1_init_3 : List UInt8 := [5, 181, 0, 53, 42, 16, 12, 181, 0, 57, 42, 180, 0, 19, 187, 0, 60, 89, 3, 4, 183, 0, 62]
abbrev dktX1_init_3 : List UInt8 := dkwX1_init_3 ++ dktX1_init_4
def dkwX1_init_2 : List UInt8 := [187, 0, 16, 89, 183, 0, 18, 181, 0, 41, 42, 187, 0, 44, 89, 16, 60, 183, 0, 46, 181, 0, 49, 42]
abbrev dktX1_init_2 : List UInt8 := dkwX1_init_2 ++ dktX1_init_3
def dkwX1_init_1 : List UInt8 := [181, 0, 28, 42, 16, 60, 189, 0, 31, 181, 0, 33, 42, 187, 0, 25, 89, 183, 0, 27, 181, 0, 37, 42]
abbrev dktX1_init_1 : List UInt8 := dkwX1_init_1 ++ dktX1_init_2
def dkwX1_init_0 : List UInt8 := [42, 183, 0, 13, 42, 187, 0, 16, 89, 183, 0, 18, 181, 0, 19, 42, 187, 0, 25, 89, 183, 0, 27]
abbrev dktX1_init_0 : List UInt8 := dkwX1_init_0 ++ dktX1_init_1
theorem dksX1_init_0 : cX1_init.data.toList.drop 0 = dktX1_init_0 := by decide +kernel
theorem dksX1_init_1 : cX1_init.data.toList.drop 23 = dktX1_init_1 := dk_seg dksX1_init_0 23 rfl rfl
theorem dksX1_init_2 : cX1_init.data.toList.drop 47 = dktX1_init_2 := dk_seg dksX1_init_1 24 rfl rfl
theorem dksX1_init_3 : cX1_init.data.toList.drop 71 = dktX1_init_3 := dk_seg dksX1_init_2 24 rfl rfl
theorem dksX1_init_4 : cX1_init.data.toList.drop 94 = dktX1_init_4 := dk_seg dksX1_init_3 23 rfl rfl
theorem dX1_init_0 : decode cX1_init 0 = .ok (.aload_n 0, 1) := dk_42 (dk_at dksX1_init_0 0 rfl rfl)
theorem dX1_init_1 : decode cX1_init 1 = .ok (.invokespecial 13, 3) := dk_183 0 13 (dk_at dksX1_init_0 1 rfl rfl)
theorem dX1_init_4 : decode cX1_init 4 = .ok (.aload_n 0, 1) := dk_42 (dk_at dksX1_init_0 4 rfl rfl)
theorem dX1_init_5 : decode cX1_init 5 = .ok (.new 16, 3) := dk_187 0 16 (dk_at dksX1_init_0 5 rfl rfl)
theorem dX1_init_8 : decode cX1_init 8 = .ok (.dup, 1) := dk_89 (dk_at dksX1_init_0 8 rfl rfl)
theorem dX1_init_9 : decode cX1_init 9 = .ok (.invokespecial 18, 3) := dk_183 0 18 (dk_at dksX1_init_0 9 rfl rfl)
theorem dX1_init_12 : decode cX1_init 12 = .ok (.putfield 19, 3) := dk_181 0 19 (dk_at dksX1_init_0 12 rfl rfl)
theorem dX1_init_15 : decode cX1_init 15 = .ok (.aload_n 0, 1) := dk_42 (dk_at dksX1_init_0 15 rfl rfl)
theorem dX1_init_16 : decode cX1_init 16 = .ok (.new 25, 3) := dk_187 0 25 (dk_at dksX1_init_0 16 rfl rfl)
theorem dX1_init_19 : decode cX1_init 19 = .ok (.dup, 1) := dk_89 (dk_at dksX1_init_0 19 rfl rfl)
theorem dX1_init_20 : decode cX1_init 20 = .ok (.invokespecial 27, 3) := dk_183 0 27 (dk_at dksX1_init_0 20 rfl rfl)
theorem dX1_init_23 : decode cX1_init 23 = .ok (.putfield 28, 3) := dk_181 0 28 (dk_at dksX1_init_1 0 rfl rfl)
theorem dX1_init_26 : decode cX1_init 26 = .ok (.aload_n 0, 1) := dk_42 (dk_at dksX1_init_1 3 rfl rfl)
theorem dX1_init_27 : decode cX1_init 27 = .ok (.bipush 60, 2) := dk_16 60 (dk_at dksX1_init_1 4 rfl rfl)
theorem dX1_init_29 : decode cX1_init 29 = .ok (.anewarray 31, 3) := dk_189 0 31 (dk_at dksX1_init_1 6 rfl rfl)
theorem dX1_init_32 : decode cX1_init 32 = .ok (.putfield 33, 3) := dk_181 0 33 (dk_at dksX1_init_1 9 rfl rfl)
theorem dX1_init_35 : decode cX1_init 35 = .ok (.aload_n 0, 1) := dk_42 (dk_at dksX1_init_1 12 rfl rfl)
theorem dX1_init_36 : decode cX1_init 36 = .ok (.new 25, 3) := dk_187 0 25 (dk_at dksX1_init_1 13 rfl rfl)
theorem dX1_init_39 : decode cX1_init 39 = .ok (.dup, 1) := dk_89 (dk_at dksX1_init_1 16 rfl rfl)
theorem dX1_init_40 : decode cX1_init 40 = .ok (.invokespecial 27, 3) := dk_183 0 27 (dk_at dksX1_init_1 17 rfl rfl)
theorem dX1_init_43 : decode cX1_init 43 = .ok (.putfield 37, 3) := dk_181 0 37 (dk_at dksX1_init_1 20 rfl rfl)
theorem dX1_init_46 : decode cX1_init 46 = .ok (.aload_n 0, 1) := dk_42 (dk_at dksX1_init_1 23 rfl rfl)
theorem dX1_init_47 : decode cX1_init 47 = .ok (.new 16, 3) := dk_187 0 16 (dk_at dksX1_init_2 0 rfl rfl)
theorem dX1_init_50 : decode cX1_init 50 = .ok (.dup, 1) := dk_89 (dk_at dksX1_init_2 3 rfl rfl)
theorem dX1_init_51 : decode cX1_init 51 = .ok (.invokespecial 18, 3) := dk_183 0 18 (dk_at dksX1_init_2 4 rfl rfl)
theorem dX1_init_54 : decode cX1_init 54 = .ok (.putfield 41, 3) := dk_181 0 41 (dk_at dksX1_init_2 7 rfl rfl)
theorem dX1_init_57 : decode cX1_init 57 = .ok (.aload_n 0, 1) := dk_42 (dk_at dksX1_init_2 10 rfl rfl)
theorem dX1_init_58 : decode cX1_init 58 = .ok (.new 44, 3) := dk_187 0 44 (dk_at dksX1_init_2 11 rfl rfl)
theorem dX1_init_61 : decode cX1_init 61 = .ok (.dup, 1) := dk_89 (dk_at dksX1_init_2 14 rfl rfl)
theorem dX1_init_62 : decode cX1_init 62 = .ok (.bipush 60, 2) := dk_16 60 (dk_at dksX1_init_2 15 rfl rfl)
theorem dX1_init_64 : decode cX1_init 64 = .ok (.invokespecial 46, 3) := dk_183 0 46 (dk_at dksX1_init_2 17 rfl rfl)
theorem dX1_init_67 : decode cX1_init 67 = .ok (.putfield 49, 3) := dk_181 0 49 (dk_at dksX1_init_2 20 rfl rfl)
theorem dX1_init_70 : decode cX1_init 70 = .ok (.aload_n 0, 1) := dk_42 (dk_at dksX1_init_2 23 rfl rfl)
theorem dX1_init_71 : decode cX1_init 71 = .ok (.iconst 2, 1) := dk_5 (dk_at dksX1_init_3 0 rfl rfl)
theorem dX1_init_72 : decode cX1_init 72 = .ok (.putfield 53, 3) := dk_181 0 53 (dk_at dksX1_init_3 1 rfl rfl)
theorem dX1_init_75 : decode cX1_init 75 = .ok (.aload_n 0, 1) := dk_42 (dk_at dksX1_init_3 4 rfl rfl)
theorem dX1_init_76 : decode cX1_init 76 = .ok (.bipush 12, 2) := dk_16 12 (dk_at dksX1_init_3 5 rfl rfl)
theorem dX1_init_78 : decode cX1_init 78 = .ok (.putfield 57, 3) := dk_181 0 57 (dk_at dksX1_init_3 7 rfl rfl)
theorem dX1_init_81 : decode cX1_init 81 = .ok (.aload_n 0, 1) := dk_42 (dk_at dksX1_init_3 10 rfl rfl)
theorem dX1_init_82 : decode cX1_init 82 = .ok (.getfield 19, 3) := dk_180 0 19 (dk_at dksX1_init_3 11 rfl rfl)
theorem dX1_init_85 : decode cX1_init 85 = .ok (.new 60, 3) := dk_187 0 60 (dk_at dksX1_init_3 14 rfl rfl)
theorem dX1_init_88 : decode cX1_init 88 = .ok (.dup, 1) := dk_89 (dk_at dksX1_init_3 17 rfl rfl)
theorem dX1_init_89 : decode cX1_init 89 = .ok (.iconst 0, 1) := dk_3 (dk_at dksX1_init_3 18 rfl rfl)
theorem dX1_init_90 : decode cX1_init 90 = .ok (.iconst 1, 1) := dk_4 (dk_at dksX1_init_3 19 rfl rfl)
theorem dX1_init_91 : decode cX1_init 91 = .ok (.invokespecial 62, 3) := dk_183 0 62 (dk_at dksX1_init_3 20 rfl rfl)
theorem dX1_init_94 : decode cX1_init 94 = .ok (.invokeinterface 65 2, 5) := by decide +kernel
theorem dX1_init_99 : decode cX1_init 99 = .ok (.pop, 1) := dk_87 (dk_at dksX1_init_4 5 rfl rfl)
theorem dX1_init_100 : decode cX1_init 100 = .ok (.return_, 1) := dk_177 (dk_at dksX1_init_4 6 rfl rfl)
abbrev cX1_nodes : ByteArray := prog_1_method_25_code
def yX1_nodes : MethodName := ⟨RX1, "nodes", "()I"⟩
def dkwX1_nodes_2 : List UInt8 := [167, 255, 213, 27, 172]
abbrev dktX1_nodes_2 : List UInt8 := dkwX1_nodes_2 ++ []
def dkwX1_nodes_1 : List UInt8 := [185, 0, 79, 2, 0, 192, 0, 60, 180, 0, 83, 153, 0, 7, 3, 167, 0, 4, 4, 96, 60, 132, 2, 1]
abbrev dktX1_nodes_1 : List UInt8 := dkwX1_nodes_1 ++ dktX1_nodes_2
def dkwX1_nodes_0 : List UInt8 := [3, 60, 3, 61, 28, 42, 180, 0, 19, 185, 0, 71, 1, 0, 162, 0, 36, 27, 42, 180, 0, 19, 28]
abbrev dktX1_nodes_0 : List UInt8 := dkwX1_nodes_0 ++ dktX1_nodes_1
theorem dksX1_nodes_0 : cX1_nodes.data.toList.drop 0 = dktX1_nodes_0 := by decide +kernel
theorem dksX1_nodes_1 : cX1_nodes.data.toList.drop 23 = dktX1_nodes_1 := dk_seg dksX1_nodes_0 23 rfl rfl
theorem dksX1_nodes_2 : cX1_nodes.data.toList.drop 47 = dktX1_nodes_2 := dk_seg dksX1_nodes_1 24 rfl rfl
theorem dX1_nodes_0 : decode cX1_nodes 0 = .ok (.iconst 0, 1) := dk_3 (dk_at dksX1_nodes_0 0 rfl rfl)
theorem dX1_nodes_1 : decode cX1_nodes 1 = .ok (.istore_n 1, 1) := dk_60 (dk_at dksX1_nodes_0 1 rfl rfl)
theorem dX1_nodes_2 : decode cX1_nodes 2 = .ok (.iconst 0, 1) := dk_3 (dk_at dksX1_nodes_0 2 rfl rfl)
theorem dX1_nodes_3 : decode cX1_nodes 3 = .ok (.istore_n 2, 1) := dk_61 (dk_at dksX1_nodes_0 3 rfl rfl)
theorem dX1_nodes_4 : decode cX1_nodes 4 = .ok (.iload_n 2, 1) := dk_28 (dk_at dksX1_nodes_0 4 rfl rfl)
theorem dX1_nodes_5 : decode cX1_nodes 5 = .ok (.aload_n 0, 1) := dk_42 (dk_at dksX1_nodes_0 5 rfl rfl)
theorem dX1_nodes_6 : decode cX1_nodes 6 = .ok (.getfield 19, 3) := dk_180 0 19 (dk_at dksX1_nodes_0 6 rfl rfl)
theorem dX1_nodes_9 : decode cX1_nodes 9 = .ok (.invokeinterface 71 1, 5) := by decide +kernel
theorem dX1_nodes_14 : decode cX1_nodes 14 = .ok (.if_icmp .ge 36, 3) := dk_162 0 36 (dk_at dksX1_nodes_0 14 rfl rfl)
theorem dX1_nodes_17 : decode cX1_nodes 17 = .ok (.iload_n 1, 1) := dk_27 (dk_at dksX1_nodes_0 17 rfl rfl)
theorem dX1_nodes_18 : decode cX1_nodes 18 = .ok (.aload_n 0, 1) := dk_42 (dk_at dksX1_nodes_0 18 rfl rfl)
theorem dX1_nodes_19 : decode cX1_nodes 19 = .ok (.getfield 19, 3) := dk_180 0 19 (dk_at dksX1_nodes_0 19 rfl rfl)
theorem dX1_nodes_22 : decode cX1_nodes 22 = .ok (.iload_n 2, 1) := dk_28 (dk_at dksX1_nodes_0 22 rfl rfl)
theorem dX1_nodes_23 : decode cX1_nodes 23 = .ok (.invokeinterface 79 2, 5) := by decide +kernel
theorem dX1_nodes_28 : decode cX1_nodes 28 = .ok (.checkcast 60, 3) := dk_192 0 60 (dk_at dksX1_nodes_1 5 rfl rfl)
theorem dX1_nodes_31 : decode cX1_nodes 31 = .ok (.getfield 83, 3) := dk_180 0 83 (dk_at dksX1_nodes_1 8 rfl rfl)
theorem dX1_nodes_34 : decode cX1_nodes 34 = .ok (.ifCond .eq 7, 3) := dk_153 0 7 (dk_at dksX1_nodes_1 11 rfl rfl)
theorem dX1_nodes_37 : decode cX1_nodes 37 = .ok (.iconst 0, 1) := dk_3 (dk_at dksX1_nodes_1 14 rfl rfl)
theorem dX1_nodes_38 : decode cX1_nodes 38 = .ok (.goto 4, 3) := dk_167 0 4 (dk_at dksX1_nodes_1 15 rfl rfl)
theorem dX1_nodes_41 : decode cX1_nodes 41 = .ok (.iconst 1, 1) := dk_4 (dk_at dksX1_nodes_1 18 rfl rfl)
theorem dX1_nodes_42 : decode cX1_nodes 42 = .ok (.iadd, 1) := dk_96 (dk_at dksX1_nodes_1 19 rfl rfl)
theorem dX1_nodes_43 : decode cX1_nodes 43 = .ok (.istore_n 1, 1) := dk_60 (dk_at dksX1_nodes_1 20 rfl rfl)
theorem dX1_nodes_44 : decode cX1_nodes 44 = .ok (.iinc 2 1, 3) := dk_132 2 1 (dk_at dksX1_nodes_1 21 rfl rfl)
theorem dX1_nodes_47 : decode cX1_nodes 47 = .ok (.goto (-43), 3) := dk_167 255 213 (dk_at dksX1_nodes_2 0 rfl rfl)
theorem dX1_nodes_50 : decode cX1_nodes 50 = .ok (.iload_n 1, 1) := dk_27 (dk_at dksX1_nodes_2 3 rfl rfl)
theorem dX1_nodes_51 : decode cX1_nodes 51 = .ok (.ireturn, 1) := dk_172 (dk_at dksX1_nodes_2 4 rfl rfl)
abbrev cX1_battery : ByteArray := prog_1_method_51_code
def yX1_battery : MethodName := ⟨RX1, "battery", "(Z)Z"⟩
def dkwX1_battery_0 : List UInt8 := [42, 180, 1, 127, 61, 42, 27, 181, 1, 127, 28, 172]
abbrev dktX1_battery_0 : List UInt8 := dkwX1_battery_0 ++ []
theorem dksX1_battery_0 : cX1_battery.data.toList.drop 0 = dktX1_battery_0 := by decide +kernel
theorem dX1_battery_0 : decode cX1_battery 0 = .ok (.aload_n 0, 1) := dk_42 (dk_at dksX1_battery_0 0 rfl rfl)
theorem dX1_battery_1 : decode cX1_battery 1 = .ok (.getfield 383, 3) := dk_180 1 127 (dk_at dksX1_battery_0 1 rfl rfl)
theorem dX1_battery_4 : decode cX1_battery 4 = .ok (.istore_n 2, 1) := dk_61 (dk_at dksX1_battery_0 4 rfl rfl)
theorem dX1_battery_5 : decode cX1_battery 5 = .ok (.aload_n 0, 1) := dk_42 (dk_at dksX1_battery_0 5 rfl rfl)
theorem dX1_battery_6 : decode cX1_battery 6 = .ok (.iload_n 1, 1) := dk_27 (dk_at dksX1_battery_0 6 rfl rfl)
theorem dX1_battery_7 : decode cX1_battery 7 = .ok (.putfield 383, 3) := dk_181 1 127 (dk_at dksX1_battery_0 7 rfl rfl)
theorem dX1_battery_10 : decode cX1_battery 10 = .ok (.iload_n 2, 1) := dk_28 (dk_at dksX1_battery_0 10 rfl rfl)
theorem dX1_battery_11 : decode cX1_battery 11 = .ok (.ireturn, 1) := dk_172 (dk_at dksX1_battery_0 11 rfl rfl)
abbrev cX1_acts : ByteArray := prog_1_method_54_code
def yX1_acts : MethodName := ⟨RX1, "acts", "()I"⟩
def dkwX1_acts_0 : List UInt8 := [42, 180, 0, 37, 182, 0, 238, 172]
abbrev dktX1_acts_0 : List UInt8 := dkwX1_acts_0 ++ []
theorem dksX1_acts_0 : cX1_acts.data.toList.drop 0 = dktX1_acts_0 := by decide +kernel
theorem dX1_acts_0 : decode cX1_acts 0 = .ok (.aload_n 0, 1) := dk_42 (dk_at dksX1_acts_0 0 rfl rfl)
theorem dX1_acts_1 : decode cX1_acts 1 = .ok (.getfield 37, 3) := dk_180 0 37 (dk_at dksX1_acts_0 1 rfl rfl)
theorem dX1_acts_4 : decode cX1_acts 4 = .ok (.invokevirtual 238, 3) := dk_182 0 238 (dk_at dksX1_acts_0 4 rfl rfl)
theorem dX1_acts_7 : decode cX1_acts 7 = .ok (.ireturn, 1) := dk_172 (dk_at dksX1_acts_0 7 rfl rfl)
abbrev cX1_isQuiet : ByteArray := prog_1_method_55_code
def yX1_isQuiet : MethodName := ⟨RX1, "isQuiet", "()Z"⟩
def dkwX1_isQuiet_1 : List UInt8 := [4, 167, 0, 4, 3, 172]
abbrev dktX1_isQuiet_1 : List UInt8 := dkwX1_isQuiet_1 ++ []
def dkwX1_isQuiet_0 : List UInt8 := [42, 182, 1, 93, 199, 0, 24, 42, 180, 0, 37, 182, 0, 239, 153, 0, 14, 42, 182, 1, 100, 199, 0, 7]
abbrev dktX1_isQuiet_0 : List UInt8 := dkwX1_isQuiet_0 ++ dktX1_isQuiet_1
theorem dksX1_isQuiet_0 : cX1_isQuiet.data.toList.drop 0 = dktX1_isQuiet_0 := by decide +kernel
theorem dksX1_isQuiet_1 : cX1_isQuiet.data.toList.drop 24 = dktX1_isQuiet_1 := dk_seg dksX1_isQuiet_0 24 rfl rfl
theorem dX1_isQuiet_0 : decode cX1_isQuiet 0 = .ok (.aload_n 0, 1) := dk_42 (dk_at dksX1_isQuiet_0 0 rfl rfl)
theorem dX1_isQuiet_1 : decode cX1_isQuiet 1 = .ok (.invokevirtual 349, 3) := dk_182 1 93 (dk_at dksX1_isQuiet_0 1 rfl rfl)
theorem dX1_isQuiet_4 : decode cX1_isQuiet 4 = .ok (.ifnonnull 24, 3) := dk_199 0 24 (dk_at dksX1_isQuiet_0 4 rfl rfl)
theorem dX1_isQuiet_7 : decode cX1_isQuiet 7 = .ok (.aload_n 0, 1) := dk_42 (dk_at dksX1_isQuiet_0 7 rfl rfl)
theorem dX1_isQuiet_8 : decode cX1_isQuiet 8 = .ok (.getfield 37, 3) := dk_180 0 37 (dk_at dksX1_isQuiet_0 8 rfl rfl)
theorem dX1_isQuiet_11 : decode cX1_isQuiet 11 = .ok (.invokevirtual 239, 3) := dk_182 0 239 (dk_at dksX1_isQuiet_0 11 rfl rfl)
theorem dX1_isQuiet_14 : decode cX1_isQuiet 14 = .ok (.ifCond .eq 14, 3) := dk_153 0 14 (dk_at dksX1_isQuiet_0 14 rfl rfl)
theorem dX1_isQuiet_17 : decode cX1_isQuiet 17 = .ok (.aload_n 0, 1) := dk_42 (dk_at dksX1_isQuiet_0 17 rfl rfl)
theorem dX1_isQuiet_18 : decode cX1_isQuiet 18 = .ok (.invokevirtual 356, 3) := dk_182 1 100 (dk_at dksX1_isQuiet_0 18 rfl rfl)
theorem dX1_isQuiet_21 : decode cX1_isQuiet 21 = .ok (.ifnonnull 7, 3) := dk_199 0 7 (dk_at dksX1_isQuiet_0 21 rfl rfl)
theorem dX1_isQuiet_24 : decode cX1_isQuiet 24 = .ok (.iconst 1, 1) := dk_4 (dk_at dksX1_isQuiet_1 0 rfl rfl)
theorem dX1_isQuiet_25 : decode cX1_isQuiet 25 = .ok (.goto 4, 3) := dk_167 0 4 (dk_at dksX1_isQuiet_1 1 rfl rfl)
theorem dX1_isQuiet_28 : decode cX1_isQuiet 28 = .ok (.iconst 0, 1) := dk_3 (dk_at dksX1_isQuiet_1 4 rfl rfl)
theorem dX1_isQuiet_29 : decode cX1_isQuiet 29 = .ok (.ireturn, 1) := dk_172 (dk_at dksX1_isQuiet_1 5 rfl rfl)
abbrev cX1_telling : ByteArray := prog_1_method_42_code
def yX1_telling : MethodName := ⟨RX1, "telling", "()LSearchKeeper$Root;"⟩
def dkwX1_telling_2 : List UInt8 := [154, 0, 5, 44, 176, 167, 255, 218, 1, 176]
abbrev dktX1_telling_2 : List UInt8 := dkwX1_telling_2 ++ []
def dkwX1_telling_1 : List UInt8 := [185, 0, 116, 1, 0, 192, 0, 120, 77, 44, 180, 0, 232, 154, 0, 13, 44, 180, 0, 235, 182, 0, 239]
abbrev dktX1_telling_1 : List UInt8 := dkwX1_telling_1 ++ dktX1_telling_2
def dkwX1_telling_0 : List UInt8 := [42, 180, 0, 28, 185, 0, 106, 1, 0, 76, 43, 185, 0, 110, 1, 0, 153, 0, 35, 43]
abbrev dktX1_telling_0 : List UInt8 := dkwX1_telling_0 ++ dktX1_telling_1
theorem dksX1_telling_0 : cX1_telling.data.toList.drop 0 = dktX1_telling_0 := by decide +kernel
theorem dksX1_telling_1 : cX1_telling.data.toList.drop 20 = dktX1_telling_1 := dk_seg dksX1_telling_0 20 rfl rfl
theorem dksX1_telling_2 : cX1_telling.data.toList.drop 43 = dktX1_telling_2 := dk_seg dksX1_telling_1 23 rfl rfl
theorem dX1_telling_0 : decode cX1_telling 0 = .ok (.aload_n 0, 1) := dk_42 (dk_at dksX1_telling_0 0 rfl rfl)
theorem dX1_telling_1 : decode cX1_telling 1 = .ok (.getfield 28, 3) := dk_180 0 28 (dk_at dksX1_telling_0 1 rfl rfl)
theorem dX1_telling_4 : decode cX1_telling 4 = .ok (.invokeinterface 106 1, 5) := by decide +kernel
theorem dX1_telling_9 : decode cX1_telling 9 = .ok (.astore_n 1, 1) := dk_76 (dk_at dksX1_telling_0 9 rfl rfl)
theorem dX1_telling_10 : decode cX1_telling 10 = .ok (.aload_n 1, 1) := dk_43 (dk_at dksX1_telling_0 10 rfl rfl)
theorem dX1_telling_11 : decode cX1_telling 11 = .ok (.invokeinterface 110 1, 5) := by decide +kernel
theorem dX1_telling_16 : decode cX1_telling 16 = .ok (.ifCond .eq 35, 3) := dk_153 0 35 (dk_at dksX1_telling_0 16 rfl rfl)
theorem dX1_telling_19 : decode cX1_telling 19 = .ok (.aload_n 1, 1) := dk_43 (dk_at dksX1_telling_0 19 rfl rfl)
theorem dX1_telling_20 : decode cX1_telling 20 = .ok (.invokeinterface 116 1, 5) := by decide +kernel
theorem dX1_telling_25 : decode cX1_telling 25 = .ok (.checkcast 120, 3) := dk_192 0 120 (dk_at dksX1_telling_1 5 rfl rfl)
theorem dX1_telling_28 : decode cX1_telling 28 = .ok (.astore_n 2, 1) := dk_77 (dk_at dksX1_telling_1 8 rfl rfl)
theorem dX1_telling_29 : decode cX1_telling 29 = .ok (.aload_n 2, 1) := dk_44 (dk_at dksX1_telling_1 9 rfl rfl)
theorem dX1_telling_30 : decode cX1_telling 30 = .ok (.getfield 232, 3) := dk_180 0 232 (dk_at dksX1_telling_1 10 rfl rfl)
theorem dX1_telling_33 : decode cX1_telling 33 = .ok (.ifCond .ne 13, 3) := dk_154 0 13 (dk_at dksX1_telling_1 13 rfl rfl)
theorem dX1_telling_36 : decode cX1_telling 36 = .ok (.aload_n 2, 1) := dk_44 (dk_at dksX1_telling_1 16 rfl rfl)
theorem dX1_telling_37 : decode cX1_telling 37 = .ok (.getfield 235, 3) := dk_180 0 235 (dk_at dksX1_telling_1 17 rfl rfl)
theorem dX1_telling_40 : decode cX1_telling 40 = .ok (.invokevirtual 239, 3) := dk_182 0 239 (dk_at dksX1_telling_1 20 rfl rfl)
theorem dX1_telling_43 : decode cX1_telling 43 = .ok (.ifCond .ne 5, 3) := dk_154 0 5 (dk_at dksX1_telling_2 0 rfl rfl)
theorem dX1_telling_46 : decode cX1_telling 46 = .ok (.aload_n 2, 1) := dk_44 (dk_at dksX1_telling_2 3 rfl rfl)
theorem dX1_telling_47 : decode cX1_telling 47 = .ok (.areturn, 1) := dk_176 (dk_at dksX1_telling_2 4 rfl rfl)
theorem dX1_telling_48 : decode cX1_telling 48 = .ok (.goto (-38), 3) := dk_167 255 218 (dk_at dksX1_telling_2 5 rfl rfl)
theorem dX1_telling_51 : decode cX1_telling 51 = .ok (.aconst_null, 1) := dk_1 (dk_at dksX1_telling_2 8 rfl rfl)
theorem dX1_telling_52 : decode cX1_telling 52 = .ok (.areturn, 1) := dk_176 (dk_at dksX1_telling_2 9 rfl rfl)
abbrev cX1_crawling : ByteArray := prog_1_method_43_code
def yX1_crawling : MethodName := ⟨RX1, "crawling", "()LSearchKeeper$Root;"⟩
def dkwX1_crawling_1 : List UInt8 := [185, 0, 116, 1, 0, 192, 0, 120, 77, 44, 180, 1, 73, 198, 0, 5, 44, 176, 167, 255, 228, 1, 176]
abbrev dktX1_crawling_1 : List UInt8 := dkwX1_crawling_1 ++ []
def dkwX1_crawling_0 : List UInt8 := [42, 180, 0, 28, 185, 0, 106, 1, 0, 76, 43, 185, 0, 110, 1, 0, 153, 0, 25, 43]
abbrev dktX1_crawling_0 : List UInt8 := dkwX1_crawling_0 ++ dktX1_crawling_1
theorem dksX1_crawling_0 : cX1_crawling.data.toList.drop 0 = dktX1_crawling_0 := by decide +kernel
theorem dksX1_crawling_1 : cX1_crawling.data.toList.drop 20 = dktX1_crawling_1 := dk_seg dksX1_crawling_0 20 rfl rfl
theorem dX1_crawling_0 : decode cX1_crawling 0 = .ok (.aload_n 0, 1) := dk_42 (dk_at dksX1_crawling_0 0 rfl rfl)
theorem dX1_crawling_1 : decode cX1_crawling 1 = .ok (.getfield 28, 3) := dk_180 0 28 (dk_at dksX1_crawling_0 1 rfl rfl)
theorem dX1_crawling_4 : decode cX1_crawling 4 = .ok (.invokeinterface 106 1, 5) := by decide +kernel
theorem dX1_crawling_9 : decode cX1_crawling 9 = .ok (.astore_n 1, 1) := dk_76 (dk_at dksX1_crawling_0 9 rfl rfl)
theorem dX1_crawling_10 : decode cX1_crawling 10 = .ok (.aload_n 1, 1) := dk_43 (dk_at dksX1_crawling_0 10 rfl rfl)
theorem dX1_crawling_11 : decode cX1_crawling 11 = .ok (.invokeinterface 110 1, 5) := by decide +kernel
theorem dX1_crawling_16 : decode cX1_crawling 16 = .ok (.ifCond .eq 25, 3) := dk_153 0 25 (dk_at dksX1_crawling_0 16 rfl rfl)
theorem dX1_crawling_19 : decode cX1_crawling 19 = .ok (.aload_n 1, 1) := dk_43 (dk_at dksX1_crawling_0 19 rfl rfl)
theorem dX1_crawling_20 : decode cX1_crawling 20 = .ok (.invokeinterface 116 1, 5) := by decide +kernel
theorem dX1_crawling_25 : decode cX1_crawling 25 = .ok (.checkcast 120, 3) := dk_192 0 120 (dk_at dksX1_crawling_1 5 rfl rfl)
theorem dX1_crawling_28 : decode cX1_crawling 28 = .ok (.astore_n 2, 1) := dk_77 (dk_at dksX1_crawling_1 8 rfl rfl)
theorem dX1_crawling_29 : decode cX1_crawling 29 = .ok (.aload_n 2, 1) := dk_44 (dk_at dksX1_crawling_1 9 rfl rfl)
theorem dX1_crawling_30 : decode cX1_crawling 30 = .ok (.getfield 329, 3) := dk_180 1 73 (dk_at dksX1_crawling_1 10 rfl rfl)
theorem dX1_crawling_33 : decode cX1_crawling 33 = .ok (.ifnull 5, 3) := dk_198 0 5 (dk_at dksX1_crawling_1 13 rfl rfl)
theorem dX1_crawling_36 : decode cX1_crawling 36 = .ok (.aload_n 2, 1) := dk_44 (dk_at dksX1_crawling_1 16 rfl rfl)
theorem dX1_crawling_37 : decode cX1_crawling 37 = .ok (.areturn, 1) := dk_176 (dk_at dksX1_crawling_1 17 rfl rfl)
theorem dX1_crawling_38 : decode cX1_crawling 38 = .ok (.goto (-28), 3) := dk_167 255 228 (dk_at dksX1_crawling_1 18 rfl rfl)
theorem dX1_crawling_41 : decode cX1_crawling 41 = .ok (.aconst_null, 1) := dk_1 (dk_at dksX1_crawling_1 21 rfl rfl)
theorem dX1_crawling_42 : decode cX1_crawling 42 = .ok (.areturn, 1) := dk_176 (dk_at dksX1_crawling_1 22 rfl rfl)
abbrev cX1_entries : ByteArray := prog_1_method_56_code
def yX1_entries : MethodName := ⟨RX1, "entries", "()I"⟩
def dkwX1_entries_1 : List UInt8 := [4, 96, 60, 132, 2, 1, 167, 255, 230, 27, 172]
abbrev dktX1_entries_1 : List UInt8 := dkwX1_entries_1 ++ []
def dkwX1_entries_0 : List UInt8 := [3, 60, 3, 61, 28, 16, 60, 162, 0, 26, 27, 42, 180, 0, 33, 28, 50, 199, 0, 7, 3, 167, 0, 4]
abbrev dktX1_entries_0 : List UInt8 := dkwX1_entries_0 ++ dktX1_entries_1
theorem dksX1_entries_0 : cX1_entries.data.toList.drop 0 = dktX1_entries_0 := by decide +kernel
theorem dksX1_entries_1 : cX1_entries.data.toList.drop 24 = dktX1_entries_1 := dk_seg dksX1_entries_0 24 rfl rfl
theorem dX1_entries_0 : decode cX1_entries 0 = .ok (.iconst 0, 1) := dk_3 (dk_at dksX1_entries_0 0 rfl rfl)
theorem dX1_entries_1 : decode cX1_entries 1 = .ok (.istore_n 1, 1) := dk_60 (dk_at dksX1_entries_0 1 rfl rfl)
theorem dX1_entries_2 : decode cX1_entries 2 = .ok (.iconst 0, 1) := dk_3 (dk_at dksX1_entries_0 2 rfl rfl)
theorem dX1_entries_3 : decode cX1_entries 3 = .ok (.istore_n 2, 1) := dk_61 (dk_at dksX1_entries_0 3 rfl rfl)
theorem dX1_entries_4 : decode cX1_entries 4 = .ok (.iload_n 2, 1) := dk_28 (dk_at dksX1_entries_0 4 rfl rfl)
theorem dX1_entries_5 : decode cX1_entries 5 = .ok (.bipush 60, 2) := dk_16 60 (dk_at dksX1_entries_0 5 rfl rfl)
theorem dX1_entries_7 : decode cX1_entries 7 = .ok (.if_icmp .ge 26, 3) := dk_162 0 26 (dk_at dksX1_entries_0 7 rfl rfl)
theorem dX1_entries_10 : decode cX1_entries 10 = .ok (.iload_n 1, 1) := dk_27 (dk_at dksX1_entries_0 10 rfl rfl)
theorem dX1_entries_11 : decode cX1_entries 11 = .ok (.aload_n 0, 1) := dk_42 (dk_at dksX1_entries_0 11 rfl rfl)
theorem dX1_entries_12 : decode cX1_entries 12 = .ok (.getfield 33, 3) := dk_180 0 33 (dk_at dksX1_entries_0 12 rfl rfl)
theorem dX1_entries_15 : decode cX1_entries 15 = .ok (.iload_n 2, 1) := dk_28 (dk_at dksX1_entries_0 15 rfl rfl)
theorem dX1_entries_16 : decode cX1_entries 16 = .ok (.aaload, 1) := dk_50 (dk_at dksX1_entries_0 16 rfl rfl)
theorem dX1_entries_17 : decode cX1_entries 17 = .ok (.ifnonnull 7, 3) := dk_199 0 7 (dk_at dksX1_entries_0 17 rfl rfl)
theorem dX1_entries_20 : decode cX1_entries 20 = .ok (.iconst 0, 1) := dk_3 (dk_at dksX1_entries_0 20 rfl rfl)
theorem dX1_entries_21 : decode cX1_entries 21 = .ok (.goto 4, 3) := dk_167 0 4 (dk_at dksX1_entries_0 21 rfl rfl)
theorem dX1_entries_24 : decode cX1_entries 24 = .ok (.iconst 1, 1) := dk_4 (dk_at dksX1_entries_1 0 rfl rfl)
theorem dX1_entries_25 : decode cX1_entries 25 = .ok (.iadd, 1) := dk_96 (dk_at dksX1_entries_1 1 rfl rfl)
theorem dX1_entries_26 : decode cX1_entries 26 = .ok (.istore_n 1, 1) := dk_60 (dk_at dksX1_entries_1 2 rfl rfl)
theorem dX1_entries_27 : decode cX1_entries 27 = .ok (.iinc 2 1, 3) := dk_132 2 1 (dk_at dksX1_entries_1 3 rfl rfl)
theorem dX1_entries_30 : decode cX1_entries 30 = .ok (.goto (-26), 3) := dk_167 255 230 (dk_at dksX1_entries_1 6 rfl rfl)
theorem dX1_entries_33 : decode cX1_entries 33 = .ok (.iload_n 1, 1) := dk_27 (dk_at dksX1_entries_1 9 rfl rfl)
theorem dX1_entries_34 : decode cX1_entries 34 = .ok (.ireturn, 1) := dk_172 (dk_at dksX1_entries_1 10 rfl rfl)
abbrev cX1_stale : ByteArray := prog_1_method_59_code
def yX1_stale : MethodName := ⟨RX1, "stale", "()I"⟩
def dkwX1_stale_6 : List UInt8 := [60, 132, 2, 1, 167, 255, 117, 27, 172]
abbrev dktX1_stale_6 : List UInt8 := dkwX1_stale_6 ++ []
def dkwX1_stale_5 : List UInt8 := [21, 6, 153, 0, 7, 3, 167, 0, 17, 4, 167, 0, 13, 25, 4, 199, 0, 7, 3, 167, 0, 4, 4, 96]
abbrev dktX1_stale_5 : List UInt8 := dkwX1_stale_5 ++ dktX1_stale_6
def dkwX1_stale_4 : List UInt8 := [160, 0, 7, 4, 167, 0, 4, 3, 54, 6, 27, 21, 5, 153, 0, 23, 45, 180, 0, 91, 154, 0, 8]
abbrev dktX1_stale_4 : List UInt8 := dkwX1_stale_4 ++ dktX1_stale_5
def dkwX1_stale_3 : List UInt8 := [166, 0, 31, 25, 4, 180, 1, 60, 45, 180, 0, 102, 160, 0, 19, 25, 4, 180, 1, 49, 45, 180, 0, 166]
abbrev dktX1_stale_3 : List UInt8 := dkwX1_stale_3 ++ dktX1_stale_4
def dkwX1_stale_2 : List UInt8 := [198, 0, 7, 4, 167, 0, 4, 3, 54, 5, 25, 4, 198, 0, 43, 25, 4, 180, 1, 18, 45, 180, 0, 98]
abbrev dktX1_stale_2 : List UInt8 := dkwX1_stale_2 ++ dktX1_stale_3
def dkwX1_stale_1 : List UInt8 := [185, 0, 79, 2, 0, 192, 0, 60, 78, 42, 180, 0, 33, 28, 50, 58, 4, 42, 45, 182, 0, 150]
abbrev dktX1_stale_1 : List UInt8 := dkwX1_stale_1 ++ dktX1_stale_2
def dkwX1_stale_0 : List UInt8 := [3, 60, 3, 61, 28, 42, 180, 0, 19, 185, 0, 71, 1, 0, 162, 0, 132, 42, 180, 0, 19, 28]
abbrev dktX1_stale_0 : List UInt8 := dkwX1_stale_0 ++ dktX1_stale_1
theorem dksX1_stale_0 : cX1_stale.data.toList.drop 0 = dktX1_stale_0 := by decide +kernel
theorem dksX1_stale_1 : cX1_stale.data.toList.drop 22 = dktX1_stale_1 := dk_seg dksX1_stale_0 22 rfl rfl
theorem dksX1_stale_2 : cX1_stale.data.toList.drop 44 = dktX1_stale_2 := dk_seg dksX1_stale_1 22 rfl rfl
theorem dksX1_stale_3 : cX1_stale.data.toList.drop 68 = dktX1_stale_3 := dk_seg dksX1_stale_2 24 rfl rfl
theorem dksX1_stale_4 : cX1_stale.data.toList.drop 92 = dktX1_stale_4 := dk_seg dksX1_stale_3 24 rfl rfl
theorem dksX1_stale_5 : cX1_stale.data.toList.drop 115 = dktX1_stale_5 := dk_seg dksX1_stale_4 23 rfl rfl
theorem dksX1_stale_6 : cX1_stale.data.toList.drop 139 = dktX1_stale_6 := dk_seg dksX1_stale_5 24 rfl rfl
theorem dX1_stale_0 : decode cX1_stale 0 = .ok (.iconst 0, 1) := dk_3 (dk_at dksX1_stale_0 0 rfl rfl)
theorem dX1_stale_1 : decode cX1_stale 1 = .ok (.istore_n 1, 1) := dk_60 (dk_at dksX1_stale_0 1 rfl rfl)
theorem dX1_stale_2 : decode cX1_stale 2 = .ok (.iconst 0, 1) := dk_3 (dk_at dksX1_stale_0 2 rfl rfl)
theorem dX1_stale_3 : decode cX1_stale 3 = .ok (.istore_n 2, 1) := dk_61 (dk_at dksX1_stale_0 3 rfl rfl)
theorem dX1_stale_4 : decode cX1_stale 4 = .ok (.iload_n 2, 1) := dk_28 (dk_at dksX1_stale_0 4 rfl rfl)
theorem dX1_stale_5 : decode cX1_stale 5 = .ok (.aload_n 0, 1) := dk_42 (dk_at dksX1_stale_0 5 rfl rfl)
theorem dX1_stale_6 : decode cX1_stale 6 = .ok (.getfield 19, 3) := dk_180 0 19 (dk_at dksX1_stale_0 6 rfl rfl)
theorem dX1_stale_9 : decode cX1_stale 9 = .ok (.invokeinterface 71 1, 5) := by decide +kernel
theorem dX1_stale_14 : decode cX1_stale 14 = .ok (.if_icmp .ge 132, 3) := dk_162 0 132 (dk_at dksX1_stale_0 14 rfl rfl)
theorem dX1_stale_17 : decode cX1_stale 17 = .ok (.aload_n 0, 1) := dk_42 (dk_at dksX1_stale_0 17 rfl rfl)
theorem dX1_stale_18 : decode cX1_stale 18 = .ok (.getfield 19, 3) := dk_180 0 19 (dk_at dksX1_stale_0 18 rfl rfl)
theorem dX1_stale_21 : decode cX1_stale 21 = .ok (.iload_n 2, 1) := dk_28 (dk_at dksX1_stale_0 21 rfl rfl)
theorem dX1_stale_22 : decode cX1_stale 22 = .ok (.invokeinterface 79 2, 5) := by decide +kernel
theorem dX1_stale_27 : decode cX1_stale 27 = .ok (.checkcast 60, 3) := dk_192 0 60 (dk_at dksX1_stale_1 5 rfl rfl)
theorem dX1_stale_30 : decode cX1_stale 30 = .ok (.astore_n 3, 1) := dk_78 (dk_at dksX1_stale_1 8 rfl rfl)
theorem dX1_stale_31 : decode cX1_stale 31 = .ok (.aload_n 0, 1) := dk_42 (dk_at dksX1_stale_1 9 rfl rfl)
theorem dX1_stale_32 : decode cX1_stale 32 = .ok (.getfield 33, 3) := dk_180 0 33 (dk_at dksX1_stale_1 10 rfl rfl)
theorem dX1_stale_35 : decode cX1_stale 35 = .ok (.iload_n 2, 1) := dk_28 (dk_at dksX1_stale_1 13 rfl rfl)
theorem dX1_stale_36 : decode cX1_stale 36 = .ok (.aaload, 1) := dk_50 (dk_at dksX1_stale_1 14 rfl rfl)
theorem dX1_stale_37 : decode cX1_stale 37 = .ok (.astore 4, 2) := dk_58 4 (dk_at dksX1_stale_1 15 rfl rfl)
theorem dX1_stale_39 : decode cX1_stale 39 = .ok (.aload_n 0, 1) := dk_42 (dk_at dksX1_stale_1 17 rfl rfl)
theorem dX1_stale_40 : decode cX1_stale 40 = .ok (.aload_n 3, 1) := dk_45 (dk_at dksX1_stale_1 18 rfl rfl)
theorem dX1_stale_41 : decode cX1_stale 41 = .ok (.invokevirtual 150, 3) := dk_182 0 150 (dk_at dksX1_stale_1 19 rfl rfl)
theorem dX1_stale_44 : decode cX1_stale 44 = .ok (.ifnull 7, 3) := dk_198 0 7 (dk_at dksX1_stale_2 0 rfl rfl)
theorem dX1_stale_47 : decode cX1_stale 47 = .ok (.iconst 1, 1) := dk_4 (dk_at dksX1_stale_2 3 rfl rfl)
theorem dX1_stale_48 : decode cX1_stale 48 = .ok (.goto 4, 3) := dk_167 0 4 (dk_at dksX1_stale_2 4 rfl rfl)
theorem dX1_stale_51 : decode cX1_stale 51 = .ok (.iconst 0, 1) := dk_3 (dk_at dksX1_stale_2 7 rfl rfl)
theorem dX1_stale_52 : decode cX1_stale 52 = .ok (.istore 5, 2) := dk_54 5 (dk_at dksX1_stale_2 8 rfl rfl)
theorem dX1_stale_54 : decode cX1_stale 54 = .ok (.aload 4, 2) := dk_25 4 (dk_at dksX1_stale_2 10 rfl rfl)
theorem dX1_stale_56 : decode cX1_stale 56 = .ok (.ifnull 43, 3) := dk_198 0 43 (dk_at dksX1_stale_2 12 rfl rfl)
theorem dX1_stale_59 : decode cX1_stale 59 = .ok (.aload 4, 2) := dk_25 4 (dk_at dksX1_stale_2 15 rfl rfl)
theorem dX1_stale_61 : decode cX1_stale 61 = .ok (.getfield 274, 3) := dk_180 1 18 (dk_at dksX1_stale_2 17 rfl rfl)
theorem dX1_stale_64 : decode cX1_stale 64 = .ok (.aload_n 3, 1) := dk_45 (dk_at dksX1_stale_2 20 rfl rfl)
theorem dX1_stale_65 : decode cX1_stale 65 = .ok (.getfield 98, 3) := dk_180 0 98 (dk_at dksX1_stale_2 21 rfl rfl)
theorem dX1_stale_68 : decode cX1_stale 68 = .ok (.if_acmp .ne 31, 3) := dk_166 0 31 (dk_at dksX1_stale_3 0 rfl rfl)
theorem dX1_stale_71 : decode cX1_stale 71 = .ok (.aload 4, 2) := dk_25 4 (dk_at dksX1_stale_3 3 rfl rfl)
theorem dX1_stale_73 : decode cX1_stale 73 = .ok (.getfield 316, 3) := dk_180 1 60 (dk_at dksX1_stale_3 5 rfl rfl)
theorem dX1_stale_76 : decode cX1_stale 76 = .ok (.aload_n 3, 1) := dk_45 (dk_at dksX1_stale_3 8 rfl rfl)
theorem dX1_stale_77 : decode cX1_stale 77 = .ok (.getfield 102, 3) := dk_180 0 102 (dk_at dksX1_stale_3 9 rfl rfl)
theorem dX1_stale_80 : decode cX1_stale 80 = .ok (.if_icmp .ne 19, 3) := dk_160 0 19 (dk_at dksX1_stale_3 12 rfl rfl)
theorem dX1_stale_83 : decode cX1_stale 83 = .ok (.aload 4, 2) := dk_25 4 (dk_at dksX1_stale_3 15 rfl rfl)
theorem dX1_stale_85 : decode cX1_stale 85 = .ok (.getfield 305, 3) := dk_180 1 49 (dk_at dksX1_stale_3 17 rfl rfl)
theorem dX1_stale_88 : decode cX1_stale 88 = .ok (.aload_n 3, 1) := dk_45 (dk_at dksX1_stale_3 20 rfl rfl)
theorem dX1_stale_89 : decode cX1_stale 89 = .ok (.getfield 166, 3) := dk_180 0 166 (dk_at dksX1_stale_3 21 rfl rfl)
theorem dX1_stale_92 : decode cX1_stale 92 = .ok (.if_icmp .ne 7, 3) := dk_160 0 7 (dk_at dksX1_stale_4 0 rfl rfl)
theorem dX1_stale_95 : decode cX1_stale 95 = .ok (.iconst 1, 1) := dk_4 (dk_at dksX1_stale_4 3 rfl rfl)
theorem dX1_stale_96 : decode cX1_stale 96 = .ok (.goto 4, 3) := dk_167 0 4 (dk_at dksX1_stale_4 4 rfl rfl)
theorem dX1_stale_99 : decode cX1_stale 99 = .ok (.iconst 0, 1) := dk_3 (dk_at dksX1_stale_4 7 rfl rfl)
theorem dX1_stale_100 : decode cX1_stale 100 = .ok (.istore 6, 2) := dk_54 6 (dk_at dksX1_stale_4 8 rfl rfl)
theorem dX1_stale_102 : decode cX1_stale 102 = .ok (.iload_n 1, 1) := dk_27 (dk_at dksX1_stale_4 10 rfl rfl)
theorem dX1_stale_103 : decode cX1_stale 103 = .ok (.iload 5, 2) := dk_21 5 (dk_at dksX1_stale_4 11 rfl rfl)
theorem dX1_stale_105 : decode cX1_stale 105 = .ok (.ifCond .eq 23, 3) := dk_153 0 23 (dk_at dksX1_stale_4 13 rfl rfl)
theorem dX1_stale_108 : decode cX1_stale 108 = .ok (.aload_n 3, 1) := dk_45 (dk_at dksX1_stale_4 16 rfl rfl)
theorem dX1_stale_109 : decode cX1_stale 109 = .ok (.getfield 91, 3) := dk_180 0 91 (dk_at dksX1_stale_4 17 rfl rfl)
theorem dX1_stale_112 : decode cX1_stale 112 = .ok (.ifCond .ne 8, 3) := dk_154 0 8 (dk_at dksX1_stale_4 20 rfl rfl)
theorem dX1_stale_115 : decode cX1_stale 115 = .ok (.iload 6, 2) := dk_21 6 (dk_at dksX1_stale_5 0 rfl rfl)
theorem dX1_stale_117 : decode cX1_stale 117 = .ok (.ifCond .eq 7, 3) := dk_153 0 7 (dk_at dksX1_stale_5 2 rfl rfl)
theorem dX1_stale_120 : decode cX1_stale 120 = .ok (.iconst 0, 1) := dk_3 (dk_at dksX1_stale_5 5 rfl rfl)
theorem dX1_stale_121 : decode cX1_stale 121 = .ok (.goto 17, 3) := dk_167 0 17 (dk_at dksX1_stale_5 6 rfl rfl)
theorem dX1_stale_124 : decode cX1_stale 124 = .ok (.iconst 1, 1) := dk_4 (dk_at dksX1_stale_5 9 rfl rfl)
theorem dX1_stale_125 : decode cX1_stale 125 = .ok (.goto 13, 3) := dk_167 0 13 (dk_at dksX1_stale_5 10 rfl rfl)
theorem dX1_stale_128 : decode cX1_stale 128 = .ok (.aload 4, 2) := dk_25 4 (dk_at dksX1_stale_5 13 rfl rfl)
theorem dX1_stale_130 : decode cX1_stale 130 = .ok (.ifnonnull 7, 3) := dk_199 0 7 (dk_at dksX1_stale_5 15 rfl rfl)
theorem dX1_stale_133 : decode cX1_stale 133 = .ok (.iconst 0, 1) := dk_3 (dk_at dksX1_stale_5 18 rfl rfl)
theorem dX1_stale_134 : decode cX1_stale 134 = .ok (.goto 4, 3) := dk_167 0 4 (dk_at dksX1_stale_5 19 rfl rfl)
theorem dX1_stale_137 : decode cX1_stale 137 = .ok (.iconst 1, 1) := dk_4 (dk_at dksX1_stale_5 22 rfl rfl)
theorem dX1_stale_138 : decode cX1_stale 138 = .ok (.iadd, 1) := dk_96 (dk_at dksX1_stale_5 23 rfl rfl)
theorem dX1_stale_139 : decode cX1_stale 139 = .ok (.istore_n 1, 1) := dk_60 (dk_at dksX1_stale_6 0 rfl rfl)
theorem dX1_stale_140 : decode cX1_stale 140 = .ok (.iinc 2 1, 3) := dk_132 2 1 (dk_at dksX1_stale_6 1 rfl rfl)
theorem dX1_stale_143 : decode cX1_stale 143 = .ok (.goto (-139), 3) := dk_167 255 117 (dk_at dksX1_stale_6 4 rfl rfl)
theorem dX1_stale_146 : decode cX1_stale 146 = .ok (.iload_n 1, 1) := dk_27 (dk_at dksX1_stale_6 7 rfl rfl)
theorem dX1_stale_147 : decode cX1_stale 147 = .ok (.ireturn, 1) := dk_172 (dk_at dksX1_stale_6 8 rfl rfl)
abbrev cX1_above : ByteArray := prog_1_method_11_code
def yX1_above : MethodName := ⟨RX1, "above", "(LSearchKeeper$Node;)LSearchKeeper$Root;"⟩
def dkwX1_above_2 : List UInt8 := [153, 0, 5, 45, 176, 167, 255, 217, 1, 176]
abbrev dktX1_above_2 : List UInt8 := dkwX1_above_2 ++ []
def dkwX1_above_1 : List UInt8 := [185, 0, 116, 1, 0, 192, 0, 120, 78, 43, 180, 0, 83, 154, 0, 16, 43, 45, 180, 0, 122, 182, 0, 125]
abbrev dktX1_above_1 : List UInt8 := dkwX1_above_1 ++ dktX1_above_2
def dkwX1_above_0 : List UInt8 := [42, 180, 0, 28, 185, 0, 106, 1, 0, 77, 44, 185, 0, 110, 1, 0, 153, 0, 36, 44]
abbrev dktX1_above_0 : List UInt8 := dkwX1_above_0 ++ dktX1_above_1
theorem dksX1_above_0 : cX1_above.data.toList.drop 0 = dktX1_above_0 := by decide +kernel
theorem dksX1_above_1 : cX1_above.data.toList.drop 20 = dktX1_above_1 := dk_seg dksX1_above_0 20 rfl rfl
theorem dksX1_above_2 : cX1_above.data.toList.drop 44 = dktX1_above_2 := dk_seg dksX1_above_1 24 rfl rfl
theorem dX1_above_0 : decode cX1_above 0 = .ok (.aload_n 0, 1) := dk_42 (dk_at dksX1_above_0 0 rfl rfl)
theorem dX1_above_1 : decode cX1_above 1 = .ok (.getfield 28, 3) := dk_180 0 28 (dk_at dksX1_above_0 1 rfl rfl)
theorem dX1_above_4 : decode cX1_above 4 = .ok (.invokeinterface 106 1, 5) := by decide +kernel
theorem dX1_above_9 : decode cX1_above 9 = .ok (.astore_n 2, 1) := dk_77 (dk_at dksX1_above_0 9 rfl rfl)
theorem dX1_above_10 : decode cX1_above 10 = .ok (.aload_n 2, 1) := dk_44 (dk_at dksX1_above_0 10 rfl rfl)
theorem dX1_above_11 : decode cX1_above 11 = .ok (.invokeinterface 110 1, 5) := by decide +kernel
theorem dX1_above_16 : decode cX1_above 16 = .ok (.ifCond .eq 36, 3) := dk_153 0 36 (dk_at dksX1_above_0 16 rfl rfl)
theorem dX1_above_19 : decode cX1_above 19 = .ok (.aload_n 2, 1) := dk_44 (dk_at dksX1_above_0 19 rfl rfl)
theorem dX1_above_20 : decode cX1_above 20 = .ok (.invokeinterface 116 1, 5) := by decide +kernel
theorem dX1_above_25 : decode cX1_above 25 = .ok (.checkcast 120, 3) := dk_192 0 120 (dk_at dksX1_above_1 5 rfl rfl)
theorem dX1_above_28 : decode cX1_above 28 = .ok (.astore_n 3, 1) := dk_78 (dk_at dksX1_above_1 8 rfl rfl)
theorem dX1_above_29 : decode cX1_above 29 = .ok (.aload_n 1, 1) := dk_43 (dk_at dksX1_above_1 9 rfl rfl)
theorem dX1_above_30 : decode cX1_above 30 = .ok (.getfield 83, 3) := dk_180 0 83 (dk_at dksX1_above_1 10 rfl rfl)
theorem dX1_above_33 : decode cX1_above 33 = .ok (.ifCond .ne 16, 3) := dk_154 0 16 (dk_at dksX1_above_1 13 rfl rfl)
theorem dX1_above_36 : decode cX1_above 36 = .ok (.aload_n 1, 1) := dk_43 (dk_at dksX1_above_1 16 rfl rfl)
theorem dX1_above_37 : decode cX1_above 37 = .ok (.aload_n 3, 1) := dk_45 (dk_at dksX1_above_1 17 rfl rfl)
theorem dX1_above_38 : decode cX1_above 38 = .ok (.getfield 122, 3) := dk_180 0 122 (dk_at dksX1_above_1 18 rfl rfl)
theorem dX1_above_41 : decode cX1_above 41 = .ok (.invokevirtual 125, 3) := dk_182 0 125 (dk_at dksX1_above_1 21 rfl rfl)
theorem dX1_above_44 : decode cX1_above 44 = .ok (.ifCond .eq 5, 3) := dk_153 0 5 (dk_at dksX1_above_2 0 rfl rfl)
theorem dX1_above_47 : decode cX1_above 47 = .ok (.aload_n 3, 1) := dk_45 (dk_at dksX1_above_2 3 rfl rfl)
theorem dX1_above_48 : decode cX1_above 48 = .ok (.areturn, 1) := dk_176 (dk_at dksX1_above_2 4 rfl rfl)
theorem dX1_above_49 : decode cX1_above 49 = .ok (.goto (-39), 3) := dk_167 255 217 (dk_at dksX1_above_2 5 rfl rfl)
theorem dX1_above_52 : decode cX1_above 52 = .ok (.aconst_null, 1) := dk_1 (dk_at dksX1_above_2 8 rfl rfl)
theorem dX1_above_53 : decode cX1_above 53 = .ok (.areturn, 1) := dk_176 (dk_at dksX1_above_2 9 rfl rfl)
abbrev cX1_segments : ByteArray := prog_1_method_60_code
def yX1_segments : MethodName := ⟨RX1, "segments", "()I"⟩
def dkwX1_segments_0 : List UInt8 := [42, 180, 0, 41, 185, 0, 71, 1, 0, 172]
abbrev dktX1_segments_0 : List UInt8 := dkwX1_segments_0 ++ []
theorem dksX1_segments_0 : cX1_segments.data.toList.drop 0 = dktX1_segments_0 := by decide +kernel
theorem dX1_segments_0 : decode cX1_segments 0 = .ok (.aload_n 0, 1) := dk_42 (dk_at dksX1_segments_0 0 rfl rfl)
theorem dX1_segments_1 : decode cX1_segments 1 = .ok (.getfield 41, 3) := dk_180 0 41 (dk_at dksX1_segments_0 1 rfl rfl)
theorem dX1_segments_4 : decode cX1_segments 4 = .ok (.invokeinterface 71 1, 5) := by decide +kernel
theorem dX1_segments_9 : decode cX1_segments 9 = .ok (.ireturn, 1) := dk_172 (dk_at dksX1_segments_0 9 rfl rfl)
abbrev cX1_dead : ByteArray := prog_1_method_61_code
def yX1_dead : MethodName := ⟨RX1, "dead", "()I"⟩
def dkwX1_dead_1 : List UInt8 := [185, 0, 79, 2, 0, 192, 1, 34, 180, 1, 40, 96, 60, 132, 2, 1, 167, 255, 221, 27, 172]
abbrev dktX1_dead_1 : List UInt8 := dkwX1_dead_1 ++ []
def dkwX1_dead_0 : List UInt8 := [3, 60, 3, 61, 28, 42, 180, 0, 41, 185, 0, 71, 1, 0, 162, 0, 28, 27, 42, 180, 0, 41, 28]
abbrev dktX1_dead_0 : List UInt8 := dkwX1_dead_0 ++ dktX1_dead_1
theorem dksX1_dead_0 : cX1_dead.data.toList.drop 0 = dktX1_dead_0 := by decide +kernel
theorem dksX1_dead_1 : cX1_dead.data.toList.drop 23 = dktX1_dead_1 := dk_seg dksX1_dead_0 23 rfl rfl
theorem dX1_dead_0 : decode cX1_dead 0 = .ok (.iconst 0, 1) := dk_3 (dk_at dksX1_dead_0 0 rfl rfl)
theorem dX1_dead_1 : decode cX1_dead 1 = .ok (.istore_n 1, 1) := dk_60 (dk_at dksX1_dead_0 1 rfl rfl)
theorem dX1_dead_2 : decode cX1_dead 2 = .ok (.iconst 0, 1) := dk_3 (dk_at dksX1_dead_0 2 rfl rfl)
theorem dX1_dead_3 : decode cX1_dead 3 = .ok (.istore_n 2, 1) := dk_61 (dk_at dksX1_dead_0 3 rfl rfl)
theorem dX1_dead_4 : decode cX1_dead 4 = .ok (.iload_n 2, 1) := dk_28 (dk_at dksX1_dead_0 4 rfl rfl)
theorem dX1_dead_5 : decode cX1_dead 5 = .ok (.aload_n 0, 1) := dk_42 (dk_at dksX1_dead_0 5 rfl rfl)
theorem dX1_dead_6 : decode cX1_dead 6 = .ok (.getfield 41, 3) := dk_180 0 41 (dk_at dksX1_dead_0 6 rfl rfl)
theorem dX1_dead_9 : decode cX1_dead 9 = .ok (.invokeinterface 71 1, 5) := by decide +kernel
theorem dX1_dead_14 : decode cX1_dead 14 = .ok (.if_icmp .ge 28, 3) := dk_162 0 28 (dk_at dksX1_dead_0 14 rfl rfl)
theorem dX1_dead_17 : decode cX1_dead 17 = .ok (.iload_n 1, 1) := dk_27 (dk_at dksX1_dead_0 17 rfl rfl)
theorem dX1_dead_18 : decode cX1_dead 18 = .ok (.aload_n 0, 1) := dk_42 (dk_at dksX1_dead_0 18 rfl rfl)
theorem dX1_dead_19 : decode cX1_dead 19 = .ok (.getfield 41, 3) := dk_180 0 41 (dk_at dksX1_dead_0 19 rfl rfl)
theorem dX1_dead_22 : decode cX1_dead 22 = .ok (.iload_n 2, 1) := dk_28 (dk_at dksX1_dead_0 22 rfl rfl)
theorem dX1_dead_23 : decode cX1_dead 23 = .ok (.invokeinterface 79 2, 5) := by decide +kernel
theorem dX1_dead_28 : decode cX1_dead 28 = .ok (.checkcast 290, 3) := dk_192 1 34 (dk_at dksX1_dead_1 5 rfl rfl)
theorem dX1_dead_31 : decode cX1_dead 31 = .ok (.getfield 296, 3) := dk_180 1 40 (dk_at dksX1_dead_1 8 rfl rfl)
theorem dX1_dead_34 : decode cX1_dead 34 = .ok (.iadd, 1) := dk_96 (dk_at dksX1_dead_1 11 rfl rfl)
theorem dX1_dead_35 : decode cX1_dead 35 = .ok (.istore_n 1, 1) := dk_60 (dk_at dksX1_dead_1 12 rfl rfl)
theorem dX1_dead_36 : decode cX1_dead 36 = .ok (.iinc 2 1, 3) := dk_132 2 1 (dk_at dksX1_dead_1 13 rfl rfl)
theorem dX1_dead_39 : decode cX1_dead 39 = .ok (.goto (-35), 3) := dk_167 255 221 (dk_at dksX1_dead_1 16 rfl rfl)
theorem dX1_dead_42 : decode cX1_dead 42 = .ok (.iload_n 1, 1) := dk_27 (dk_at dksX1_dead_1 19 rfl rfl)
theorem dX1_dead_43 : decode cX1_dead 43 = .ok (.ireturn, 1) := dk_172 (dk_at dksX1_dead_1 20 rfl rfl)
abbrev cX1_make : ByteArray := prog_1_method_13_code
def yX1_make : MethodName := ⟨RX1, "make", "(ICZ)I"⟩
def dkwX1_make_4 : List UInt8 := [42, 25, 5, 182, 0, 150, 178, 0, 154, 25, 5, 182, 0, 160, 25, 5, 180, 0, 163, 172]
abbrev dktX1_make_4 : List UInt8 := dkwX1_make_4 ++ []
def dkwX1_make_3 : List UInt8 := [25, 4, 181, 0, 98, 25, 5, 28, 181, 0, 102, 42, 180, 0, 19, 25, 5, 185, 0, 65, 2, 0, 87, 42]
abbrev dktX1_make_3 : List UInt8 := dkwX1_make_3 ++ dktX1_make_4
def dkwX1_make_2 : List UInt8 := [184, 0, 147, 187, 0, 60, 89, 42, 180, 0, 19, 185, 0, 71, 1, 0, 29, 183, 0, 62, 58, 5, 25, 5]
abbrev dktX1_make_2 : List UInt8 := dkwX1_make_2 ++ dktX1_make_3
def dkwX1_make_1 : List UInt8 := [154, 0, 21, 42, 180, 0, 19, 185, 0, 71, 1, 0, 16, 60, 162, 0, 7, 4, 167, 0, 4, 3]
abbrev dktX1_make_1 : List UInt8 := dkwX1_make_1 ++ dktX1_make_2
def dkwX1_make_0 : List UInt8 := [42, 27, 182, 0, 133, 58, 4, 28, 184, 0, 136, 184, 0, 140, 42, 25, 4, 28, 1, 182, 0, 143]
abbrev dktX1_make_0 : List UInt8 := dkwX1_make_0 ++ dktX1_make_1
theorem dksX1_make_0 : cX1_make.data.toList.drop 0 = dktX1_make_0 := by decide +kernel
theorem dksX1_make_1 : cX1_make.data.toList.drop 22 = dktX1_make_1 := dk_seg dksX1_make_0 22 rfl rfl
theorem dksX1_make_2 : cX1_make.data.toList.drop 44 = dktX1_make_2 := dk_seg dksX1_make_1 22 rfl rfl
theorem dksX1_make_3 : cX1_make.data.toList.drop 68 = dktX1_make_3 := dk_seg dksX1_make_2 24 rfl rfl
theorem dksX1_make_4 : cX1_make.data.toList.drop 92 = dktX1_make_4 := dk_seg dksX1_make_3 24 rfl rfl
theorem dX1_make_0 : decode cX1_make 0 = .ok (.aload_n 0, 1) := dk_42 (dk_at dksX1_make_0 0 rfl rfl)
theorem dX1_make_1 : decode cX1_make 1 = .ok (.iload_n 1, 1) := dk_27 (dk_at dksX1_make_0 1 rfl rfl)
theorem dX1_make_2 : decode cX1_make 2 = .ok (.invokevirtual 133, 3) := dk_182 0 133 (dk_at dksX1_make_0 2 rfl rfl)
theorem dX1_make_5 : decode cX1_make 5 = .ok (.astore 4, 2) := dk_58 4 (dk_at dksX1_make_0 5 rfl rfl)
theorem dX1_make_7 : decode cX1_make 7 = .ok (.iload_n 2, 1) := dk_28 (dk_at dksX1_make_0 7 rfl rfl)
theorem dX1_make_8 : decode cX1_make 8 = .ok (.invokestatic 136, 3) := dk_184 0 136 (dk_at dksX1_make_0 8 rfl rfl)
theorem dX1_make_11 : decode cX1_make 11 = .ok (.invokestatic 140, 3) := dk_184 0 140 (dk_at dksX1_make_0 11 rfl rfl)
theorem dX1_make_14 : decode cX1_make 14 = .ok (.aload_n 0, 1) := dk_42 (dk_at dksX1_make_0 14 rfl rfl)
theorem dX1_make_15 : decode cX1_make 15 = .ok (.aload 4, 2) := dk_25 4 (dk_at dksX1_make_0 15 rfl rfl)
theorem dX1_make_17 : decode cX1_make 17 = .ok (.iload_n 2, 1) := dk_28 (dk_at dksX1_make_0 17 rfl rfl)
theorem dX1_make_18 : decode cX1_make 18 = .ok (.aconst_null, 1) := dk_1 (dk_at dksX1_make_0 18 rfl rfl)
theorem dX1_make_19 : decode cX1_make 19 = .ok (.invokevirtual 143, 3) := dk_182 0 143 (dk_at dksX1_make_0 19 rfl rfl)
theorem dX1_make_22 : decode cX1_make 22 = .ok (.ifCond .ne 21, 3) := dk_154 0 21 (dk_at dksX1_make_1 0 rfl rfl)
theorem dX1_make_25 : decode cX1_make 25 = .ok (.aload_n 0, 1) := dk_42 (dk_at dksX1_make_1 3 rfl rfl)
theorem dX1_make_26 : decode cX1_make 26 = .ok (.getfield 19, 3) := dk_180 0 19 (dk_at dksX1_make_1 4 rfl rfl)
theorem dX1_make_29 : decode cX1_make 29 = .ok (.invokeinterface 71 1, 5) := by decide +kernel
theorem dX1_make_34 : decode cX1_make 34 = .ok (.bipush 60, 2) := dk_16 60 (dk_at dksX1_make_1 12 rfl rfl)
theorem dX1_make_36 : decode cX1_make 36 = .ok (.if_icmp .ge 7, 3) := dk_162 0 7 (dk_at dksX1_make_1 14 rfl rfl)
theorem dX1_make_39 : decode cX1_make 39 = .ok (.iconst 1, 1) := dk_4 (dk_at dksX1_make_1 17 rfl rfl)
theorem dX1_make_40 : decode cX1_make 40 = .ok (.goto 4, 3) := dk_167 0 4 (dk_at dksX1_make_1 18 rfl rfl)
theorem dX1_make_43 : decode cX1_make 43 = .ok (.iconst 0, 1) := dk_3 (dk_at dksX1_make_1 21 rfl rfl)
theorem dX1_make_44 : decode cX1_make 44 = .ok (.invokestatic 147, 3) := dk_184 0 147 (dk_at dksX1_make_2 0 rfl rfl)
theorem dX1_make_47 : decode cX1_make 47 = .ok (.new 60, 3) := dk_187 0 60 (dk_at dksX1_make_2 3 rfl rfl)
theorem dX1_make_50 : decode cX1_make 50 = .ok (.dup, 1) := dk_89 (dk_at dksX1_make_2 6 rfl rfl)
theorem dX1_make_51 : decode cX1_make 51 = .ok (.aload_n 0, 1) := dk_42 (dk_at dksX1_make_2 7 rfl rfl)
theorem dX1_make_52 : decode cX1_make 52 = .ok (.getfield 19, 3) := dk_180 0 19 (dk_at dksX1_make_2 8 rfl rfl)
theorem dX1_make_55 : decode cX1_make 55 = .ok (.invokeinterface 71 1, 5) := by decide +kernel
theorem dX1_make_60 : decode cX1_make 60 = .ok (.iload_n 3, 1) := dk_29 (dk_at dksX1_make_2 16 rfl rfl)
theorem dX1_make_61 : decode cX1_make 61 = .ok (.invokespecial 62, 3) := dk_183 0 62 (dk_at dksX1_make_2 17 rfl rfl)
theorem dX1_make_64 : decode cX1_make 64 = .ok (.astore 5, 2) := dk_58 5 (dk_at dksX1_make_2 20 rfl rfl)
theorem dX1_make_66 : decode cX1_make 66 = .ok (.aload 5, 2) := dk_25 5 (dk_at dksX1_make_2 22 rfl rfl)
theorem dX1_make_68 : decode cX1_make 68 = .ok (.aload 4, 2) := dk_25 4 (dk_at dksX1_make_3 0 rfl rfl)
theorem dX1_make_70 : decode cX1_make 70 = .ok (.putfield 98, 3) := dk_181 0 98 (dk_at dksX1_make_3 2 rfl rfl)
theorem dX1_make_73 : decode cX1_make 73 = .ok (.aload 5, 2) := dk_25 5 (dk_at dksX1_make_3 5 rfl rfl)
theorem dX1_make_75 : decode cX1_make 75 = .ok (.iload_n 2, 1) := dk_28 (dk_at dksX1_make_3 7 rfl rfl)
theorem dX1_make_76 : decode cX1_make 76 = .ok (.putfield 102, 3) := dk_181 0 102 (dk_at dksX1_make_3 8 rfl rfl)
theorem dX1_make_79 : decode cX1_make 79 = .ok (.aload_n 0, 1) := dk_42 (dk_at dksX1_make_3 11 rfl rfl)
theorem dX1_make_80 : decode cX1_make 80 = .ok (.getfield 19, 3) := dk_180 0 19 (dk_at dksX1_make_3 12 rfl rfl)
theorem dX1_make_83 : decode cX1_make 83 = .ok (.aload 5, 2) := dk_25 5 (dk_at dksX1_make_3 15 rfl rfl)
theorem dX1_make_85 : decode cX1_make 85 = .ok (.invokeinterface 65 2, 5) := by decide +kernel
theorem dX1_make_90 : decode cX1_make 90 = .ok (.pop, 1) := dk_87 (dk_at dksX1_make_3 22 rfl rfl)
theorem dX1_make_91 : decode cX1_make 91 = .ok (.aload_n 0, 1) := dk_42 (dk_at dksX1_make_3 23 rfl rfl)
theorem dX1_make_92 : decode cX1_make 92 = .ok (.aload_n 0, 1) := dk_42 (dk_at dksX1_make_4 0 rfl rfl)
theorem dX1_make_93 : decode cX1_make 93 = .ok (.aload 5, 2) := dk_25 5 (dk_at dksX1_make_4 1 rfl rfl)
theorem dX1_make_95 : decode cX1_make 95 = .ok (.invokevirtual 150, 3) := dk_182 0 150 (dk_at dksX1_make_4 3 rfl rfl)
theorem dX1_make_98 : decode cX1_make 98 = .ok (.getstatic 154, 3) := dk_178 0 154 (dk_at dksX1_make_4 6 rfl rfl)
theorem dX1_make_101 : decode cX1_make 101 = .ok (.aload 5, 2) := dk_25 5 (dk_at dksX1_make_4 9 rfl rfl)
theorem dX1_make_103 : decode cX1_make 103 = .ok (.invokevirtual 160, 3) := dk_182 0 160 (dk_at dksX1_make_4 11 rfl rfl)
theorem dX1_make_106 : decode cX1_make 106 = .ok (.aload 5, 2) := dk_25 5 (dk_at dksX1_make_4 14 rfl rfl)
theorem dX1_make_108 : decode cX1_make 108 = .ok (.getfield 163, 3) := dk_180 0 163 (dk_at dksX1_make_4 16 rfl rfl)
theorem dX1_make_111 : decode cX1_make 111 = .ok (.ireturn, 1) := dk_172 (dk_at dksX1_make_4 19 rfl rfl)
abbrev cX1_folderAt : ByteArray := prog_1_method_7_code
def yX1_folderAt : MethodName := ⟨RX1, "folderAt", "(I)LSearchKeeper$Node;"⟩
def dkwX1_folderAt_1 : List UInt8 := [184, 0, 94, 44, 176]
abbrev dktX1_folderAt_1 : List UInt8 := dkwX1_folderAt_1 ++ []
def dkwX1_folderAt_0 : List UInt8 := [42, 27, 182, 0, 87, 77, 44, 198, 0, 14, 44, 180, 0, 91, 153, 0, 7, 4, 167, 0, 4, 3]
abbrev dktX1_folderAt_0 : List UInt8 := dkwX1_folderAt_0 ++ dktX1_folderAt_1
theorem dksX1_folderAt_0 : cX1_folderAt.data.toList.drop 0 = dktX1_folderAt_0 := by decide +kernel
theorem dksX1_folderAt_1 : cX1_folderAt.data.toList.drop 22 = dktX1_folderAt_1 := dk_seg dksX1_folderAt_0 22 rfl rfl
theorem dX1_folderAt_0 : decode cX1_folderAt 0 = .ok (.aload_n 0, 1) := dk_42 (dk_at dksX1_folderAt_0 0 rfl rfl)
theorem dX1_folderAt_1 : decode cX1_folderAt 1 = .ok (.iload_n 1, 1) := dk_27 (dk_at dksX1_folderAt_0 1 rfl rfl)
theorem dX1_folderAt_2 : decode cX1_folderAt 2 = .ok (.invokevirtual 87, 3) := dk_182 0 87 (dk_at dksX1_folderAt_0 2 rfl rfl)
theorem dX1_folderAt_5 : decode cX1_folderAt 5 = .ok (.astore_n 2, 1) := dk_77 (dk_at dksX1_folderAt_0 5 rfl rfl)
theorem dX1_folderAt_6 : decode cX1_folderAt 6 = .ok (.aload_n 2, 1) := dk_44 (dk_at dksX1_folderAt_0 6 rfl rfl)
theorem dX1_folderAt_7 : decode cX1_folderAt 7 = .ok (.ifnull 14, 3) := dk_198 0 14 (dk_at dksX1_folderAt_0 7 rfl rfl)
theorem dX1_folderAt_10 : decode cX1_folderAt 10 = .ok (.aload_n 2, 1) := dk_44 (dk_at dksX1_folderAt_0 10 rfl rfl)
theorem dX1_folderAt_11 : decode cX1_folderAt 11 = .ok (.getfield 91, 3) := dk_180 0 91 (dk_at dksX1_folderAt_0 11 rfl rfl)
theorem dX1_folderAt_14 : decode cX1_folderAt 14 = .ok (.ifCond .eq 7, 3) := dk_153 0 7 (dk_at dksX1_folderAt_0 14 rfl rfl)
theorem dX1_folderAt_17 : decode cX1_folderAt 17 = .ok (.iconst 1, 1) := dk_4 (dk_at dksX1_folderAt_0 17 rfl rfl)
theorem dX1_folderAt_18 : decode cX1_folderAt 18 = .ok (.goto 4, 3) := dk_167 0 4 (dk_at dksX1_folderAt_0 18 rfl rfl)
theorem dX1_folderAt_21 : decode cX1_folderAt 21 = .ok (.iconst 0, 1) := dk_3 (dk_at dksX1_folderAt_0 21 rfl rfl)
theorem dX1_folderAt_22 : decode cX1_folderAt 22 = .ok (.invokestatic 94, 3) := dk_184 0 94 (dk_at dksX1_folderAt_1 0 rfl rfl)
theorem dX1_folderAt_25 : decode cX1_folderAt 25 = .ok (.aload_n 2, 1) := dk_44 (dk_at dksX1_folderAt_1 3 rfl rfl)
theorem dX1_folderAt_26 : decode cX1_folderAt 26 = .ok (.areturn, 1) := dk_176 (dk_at dksX1_folderAt_1 4 rfl rfl)
abbrev cX1_nodeAt : ByteArray := prog_1_method_6_code
def yX1_nodeAt : MethodName := ⟨RX1, "nodeAt", "(I)LSearchKeeper$Node;"⟩
def dkwX1_nodeAt_2 : List UInt8 := [192, 0, 60, 167, 0, 4, 1, 176]
abbrev dktX1_nodeAt_2 : List UInt8 := dkwX1_nodeAt_2 ++ []
def dkwX1_nodeAt_1 : List UInt8 := [185, 0, 79, 2, 0, 192, 0, 60, 180, 0, 83, 154, 0, 19, 42, 180, 0, 19, 27, 185, 0, 79, 2, 0]
abbrev dktX1_nodeAt_1 : List UInt8 := dkwX1_nodeAt_1 ++ dktX1_nodeAt_2
def dkwX1_nodeAt_0 : List UInt8 := [27, 3, 42, 180, 0, 19, 185, 0, 71, 1, 0, 4, 100, 184, 0, 75, 153, 0, 38, 42, 180, 0, 19, 27]
abbrev dktX1_nodeAt_0 : List UInt8 := dkwX1_nodeAt_0 ++ dktX1_nodeAt_1
theorem dksX1_nodeAt_0 : cX1_nodeAt.data.toList.drop 0 = dktX1_nodeAt_0 := by decide +kernel
theorem dksX1_nodeAt_1 : cX1_nodeAt.data.toList.drop 24 = dktX1_nodeAt_1 := dk_seg dksX1_nodeAt_0 24 rfl rfl
theorem dksX1_nodeAt_2 : cX1_nodeAt.data.toList.drop 48 = dktX1_nodeAt_2 := dk_seg dksX1_nodeAt_1 24 rfl rfl
theorem dX1_nodeAt_0 : decode cX1_nodeAt 0 = .ok (.iload_n 1, 1) := dk_27 (dk_at dksX1_nodeAt_0 0 rfl rfl)
theorem dX1_nodeAt_1 : decode cX1_nodeAt 1 = .ok (.iconst 0, 1) := dk_3 (dk_at dksX1_nodeAt_0 1 rfl rfl)
theorem dX1_nodeAt_2 : decode cX1_nodeAt 2 = .ok (.aload_n 0, 1) := dk_42 (dk_at dksX1_nodeAt_0 2 rfl rfl)
theorem dX1_nodeAt_3 : decode cX1_nodeAt 3 = .ok (.getfield 19, 3) := dk_180 0 19 (dk_at dksX1_nodeAt_0 3 rfl rfl)
theorem dX1_nodeAt_6 : decode cX1_nodeAt 6 = .ok (.invokeinterface 71 1, 5) := by decide +kernel
theorem dX1_nodeAt_11 : decode cX1_nodeAt 11 = .ok (.iconst 1, 1) := dk_4 (dk_at dksX1_nodeAt_0 11 rfl rfl)
theorem dX1_nodeAt_12 : decode cX1_nodeAt 12 = .ok (.isub, 1) := dk_100 (dk_at dksX1_nodeAt_0 12 rfl rfl)
theorem dX1_nodeAt_13 : decode cX1_nodeAt 13 = .ok (.invokestatic 75, 3) := dk_184 0 75 (dk_at dksX1_nodeAt_0 13 rfl rfl)
theorem dX1_nodeAt_16 : decode cX1_nodeAt 16 = .ok (.ifCond .eq 38, 3) := dk_153 0 38 (dk_at dksX1_nodeAt_0 16 rfl rfl)
theorem dX1_nodeAt_19 : decode cX1_nodeAt 19 = .ok (.aload_n 0, 1) := dk_42 (dk_at dksX1_nodeAt_0 19 rfl rfl)
theorem dX1_nodeAt_20 : decode cX1_nodeAt 20 = .ok (.getfield 19, 3) := dk_180 0 19 (dk_at dksX1_nodeAt_0 20 rfl rfl)
theorem dX1_nodeAt_23 : decode cX1_nodeAt 23 = .ok (.iload_n 1, 1) := dk_27 (dk_at dksX1_nodeAt_0 23 rfl rfl)
theorem dX1_nodeAt_24 : decode cX1_nodeAt 24 = .ok (.invokeinterface 79 2, 5) := by decide +kernel
theorem dX1_nodeAt_29 : decode cX1_nodeAt 29 = .ok (.checkcast 60, 3) := dk_192 0 60 (dk_at dksX1_nodeAt_1 5 rfl rfl)
theorem dX1_nodeAt_32 : decode cX1_nodeAt 32 = .ok (.getfield 83, 3) := dk_180 0 83 (dk_at dksX1_nodeAt_1 8 rfl rfl)
theorem dX1_nodeAt_35 : decode cX1_nodeAt 35 = .ok (.ifCond .ne 19, 3) := dk_154 0 19 (dk_at dksX1_nodeAt_1 11 rfl rfl)
theorem dX1_nodeAt_38 : decode cX1_nodeAt 38 = .ok (.aload_n 0, 1) := dk_42 (dk_at dksX1_nodeAt_1 14 rfl rfl)
theorem dX1_nodeAt_39 : decode cX1_nodeAt 39 = .ok (.getfield 19, 3) := dk_180 0 19 (dk_at dksX1_nodeAt_1 15 rfl rfl)
theorem dX1_nodeAt_42 : decode cX1_nodeAt 42 = .ok (.iload_n 1, 1) := dk_27 (dk_at dksX1_nodeAt_1 18 rfl rfl)
theorem dX1_nodeAt_43 : decode cX1_nodeAt 43 = .ok (.invokeinterface 79 2, 5) := by decide +kernel
theorem dX1_nodeAt_48 : decode cX1_nodeAt 48 = .ok (.checkcast 60, 3) := dk_192 0 60 (dk_at dksX1_nodeAt_2 0 rfl rfl)
theorem dX1_nodeAt_51 : decode cX1_nodeAt 51 = .ok (.goto 4, 3) := dk_167 0 4 (dk_at dksX1_nodeAt_2 3 rfl rfl)
theorem dX1_nodeAt_54 : decode cX1_nodeAt 54 = .ok (.aconst_null, 1) := dk_1 (dk_at dksX1_nodeAt_2 6 rfl rfl)
theorem dX1_nodeAt_55 : decode cX1_nodeAt 55 = .ok (.areturn, 1) := dk_176 (dk_at dksX1_nodeAt_2 7 rfl rfl)
abbrev cX1_isIn : ByteArray := prog_1_method_4_code
def yX1_isIn : MethodName := ⟨RX1, "isIn", "(III)Z"⟩
def dkwX1_isIn_0 : List UInt8 := [26, 27, 161, 0, 12, 26, 28, 163, 0, 7, 4, 167, 0, 4, 3, 172]
abbrev dktX1_isIn_0 : List UInt8 := dkwX1_isIn_0 ++ []
theorem dksX1_isIn_0 : cX1_isIn.data.toList.drop 0 = dktX1_isIn_0 := by decide +kernel
theorem dX1_isIn_0 : decode cX1_isIn 0 = .ok (.iload_n 0, 1) := dk_26 (dk_at dksX1_isIn_0 0 rfl rfl)
theorem dX1_isIn_1 : decode cX1_isIn 1 = .ok (.iload_n 1, 1) := dk_27 (dk_at dksX1_isIn_0 1 rfl rfl)
theorem dX1_isIn_2 : decode cX1_isIn 2 = .ok (.if_icmp .lt 12, 3) := dk_161 0 12 (dk_at dksX1_isIn_0 2 rfl rfl)
theorem dX1_isIn_5 : decode cX1_isIn 5 = .ok (.iload_n 0, 1) := dk_26 (dk_at dksX1_isIn_0 5 rfl rfl)
theorem dX1_isIn_6 : decode cX1_isIn 6 = .ok (.iload_n 2, 1) := dk_28 (dk_at dksX1_isIn_0 6 rfl rfl)
theorem dX1_isIn_7 : decode cX1_isIn 7 = .ok (.if_icmp .gt 7, 3) := dk_163 0 7 (dk_at dksX1_isIn_0 7 rfl rfl)
theorem dX1_isIn_10 : decode cX1_isIn 10 = .ok (.iconst 1, 1) := dk_4 (dk_at dksX1_isIn_0 10 rfl rfl)
theorem dX1_isIn_11 : decode cX1_isIn 11 = .ok (.goto 4, 3) := dk_167 0 4 (dk_at dksX1_isIn_0 11 rfl rfl)
theorem dX1_isIn_14 : decode cX1_isIn 14 = .ok (.iconst 0, 1) := dk_3 (dk_at dksX1_isIn_0 14 rfl rfl)
theorem dX1_isIn_15 : decode cX1_isIn 15 = .ok (.ireturn, 1) := dk_172 (dk_at dksX1_isIn_0 15 rfl rfl)
abbrev cX1_need : ByteArray := prog_1_method_3_code
def yX1_need : MethodName := ⟨RX1, "need", "(Z)V"⟩
def dkwX1_need_0 : List UInt8 := [26, 154, 0, 11, 187, 0, 10, 89, 183, 0, 12, 191, 177]
abbrev dktX1_need_0 : List UInt8 := dkwX1_need_0 ++ []
theorem dksX1_need_0 : cX1_need.data.toList.drop 0 = dktX1_need_0 := by decide +kernel
theorem dX1_need_0 : decode cX1_need 0 = .ok (.iload_n 0, 1) := dk_26 (dk_at dksX1_need_0 0 rfl rfl)
theorem dX1_need_1 : decode cX1_need 1 = .ok (.ifCond .ne 11, 3) := dk_154 0 11 (dk_at dksX1_need_0 1 rfl rfl)
theorem dX1_need_4 : decode cX1_need 4 = .ok (.new 10, 3) := dk_187 0 10 (dk_at dksX1_need_0 4 rfl rfl)
theorem dX1_need_7 : decode cX1_need 7 = .ok (.dup, 1) := dk_89 (dk_at dksX1_need_0 7 rfl rfl)
theorem dX1_need_8 : decode cX1_need 8 = .ok (.invokespecial 12, 3) := dk_183 0 12 (dk_at dksX1_need_0 8 rfl rfl)
theorem dX1_need_11 : decode cX1_need 11 = .ok (.athrow, 1) := dk_191 (dk_at dksX1_need_0 11 rfl rfl)
theorem dX1_need_12 : decode cX1_need 12 = .ok (.return_, 1) := dk_177 (dk_at dksX1_need_0 12 rfl rfl)
abbrev cX1_isName : ByteArray := prog_1_method_9_code
def yX1_isName : MethodName := ⟨RX1, "isName", "(C)Z"⟩
def dkwX1_isName_0 : List UInt8 := [26, 16, 97, 161, 0, 13, 26, 16, 122, 163, 0, 7, 4, 167, 0, 4, 3, 172]
abbrev dktX1_isName_0 : List UInt8 := dkwX1_isName_0 ++ []
theorem dksX1_isName_0 : cX1_isName.data.toList.drop 0 = dktX1_isName_0 := by decide +kernel
theorem dX1_isName_0 : decode cX1_isName 0 = .ok (.iload_n 0, 1) := dk_26 (dk_at dksX1_isName_0 0 rfl rfl)
theorem dX1_isName_1 : decode cX1_isName 1 = .ok (.bipush 97, 2) := dk_16 97 (dk_at dksX1_isName_0 1 rfl rfl)
theorem dX1_isName_3 : decode cX1_isName 3 = .ok (.if_icmp .lt 13, 3) := dk_161 0 13 (dk_at dksX1_isName_0 3 rfl rfl)
theorem dX1_isName_6 : decode cX1_isName 6 = .ok (.iload_n 0, 1) := dk_26 (dk_at dksX1_isName_0 6 rfl rfl)
theorem dX1_isName_7 : decode cX1_isName 7 = .ok (.bipush 122, 2) := dk_16 122 (dk_at dksX1_isName_0 7 rfl rfl)
theorem dX1_isName_9 : decode cX1_isName 9 = .ok (.if_icmp .gt 7, 3) := dk_163 0 7 (dk_at dksX1_isName_0 9 rfl rfl)
theorem dX1_isName_12 : decode cX1_isName 12 = .ok (.iconst 1, 1) := dk_4 (dk_at dksX1_isName_0 12 rfl rfl)
theorem dX1_isName_13 : decode cX1_isName 13 = .ok (.goto 4, 3) := dk_167 0 4 (dk_at dksX1_isName_0 13 rfl rfl)
theorem dX1_isName_16 : decode cX1_isName 16 = .ok (.iconst 0, 1) := dk_3 (dk_at dksX1_isName_0 16 rfl rfl)
theorem dX1_isName_17 : decode cX1_isName 17 = .ok (.ireturn, 1) := dk_172 (dk_at dksX1_isName_0 17 rfl rfl)
abbrev cX1_check : ByteArray := prog_1_method_1_code
def yX1_check : MethodName := ⟨RX1, "check", "(Z)V"⟩
def dkwX1_check_0 : List UInt8 := [26, 154, 0, 11, 187, 0, 1, 89, 183, 0, 3, 191, 177]
abbrev dktX1_check_0 : List UInt8 := dkwX1_check_0 ++ []
theorem dksX1_check_0 : cX1_check.data.toList.drop 0 = dktX1_check_0 := by decide +kernel
theorem dX1_check_0 : decode cX1_check 0 = .ok (.iload_n 0, 1) := dk_26 (dk_at dksX1_check_0 0 rfl rfl)
theorem dX1_check_1 : decode cX1_check 1 = .ok (.ifCond .ne 11, 3) := dk_154 0 11 (dk_at dksX1_check_0 1 rfl rfl)
theorem dX1_check_4 : decode cX1_check 4 = .ok (.new 1, 3) := dk_187 0 1 (dk_at dksX1_check_0 4 rfl rfl)
theorem dX1_check_7 : decode cX1_check 7 = .ok (.dup, 1) := dk_89 (dk_at dksX1_check_0 7 rfl rfl)
theorem dX1_check_8 : decode cX1_check 8 = .ok (.invokespecial 3, 3) := dk_183 0 3 (dk_at dksX1_check_0 8 rfl rfl)
theorem dX1_check_11 : decode cX1_check 11 = .ok (.athrow, 1) := dk_191 (dk_at dksX1_check_0 11 rfl rfl)
theorem dX1_check_12 : decode cX1_check 12 = .ok (.return_, 1) := dk_177 (dk_at dksX1_check_0 12 rfl rfl)
abbrev cX1_isTaken : ByteArray := prog_1_method_10_code
def yX1_isTaken : MethodName := ⟨RX1, "isTaken", "(LSearchKeeper$Node;CLSearchKeeper$Node;)Z"⟩
def dkwX1_isTaken_3 : List UInt8 := [160, 0, 7, 4, 167, 0, 4, 3, 54, 4, 132, 5, 1, 167, 255, 179, 21, 4, 172]
abbrev dktX1_isTaken_3 : List UInt8 := dkwX1_isTaken_3 ++ []
def dkwX1_isTaken_2 : List UInt8 := [154, 0, 31, 25, 6, 45, 165, 0, 25, 25, 6, 180, 0, 98, 43, 166, 0, 16, 25, 6, 180, 0, 102, 28]
abbrev dktX1_isTaken_2 : List UInt8 := dkwX1_isTaken_2 ++ dktX1_isTaken_3
def dkwX1_isTaken_1 : List UInt8 := [21, 5, 185, 0, 79, 2, 0, 192, 0, 60, 58, 6, 21, 4, 154, 0, 35, 25, 6, 180, 0, 83]
abbrev dktX1_isTaken_1 : List UInt8 := dkwX1_isTaken_1 ++ dktX1_isTaken_2
def dkwX1_isTaken_0 : List UInt8 := [3, 54, 4, 3, 54, 5, 21, 5, 42, 180, 0, 19, 185, 0, 71, 1, 0, 162, 0, 69, 42, 180, 0, 19]
abbrev dktX1_isTaken_0 : List UInt8 := dkwX1_isTaken_0 ++ dktX1_isTaken_1
theorem dksX1_isTaken_0 : cX1_isTaken.data.toList.drop 0 = dktX1_isTaken_0 := by decide +kernel
theorem dksX1_isTaken_1 : cX1_isTaken.data.toList.drop 24 = dktX1_isTaken_1 := dk_seg dksX1_isTaken_0 24 rfl rfl
theorem dksX1_isTaken_2 : cX1_isTaken.data.toList.drop 46 = dktX1_isTaken_2 := dk_seg dksX1_isTaken_1 22 rfl rfl
theorem dksX1_isTaken_3 : cX1_isTaken.data.toList.drop 70 = dktX1_isTaken_3 := dk_seg dksX1_isTaken_2 24 rfl rfl
theorem dX1_isTaken_0 : decode cX1_isTaken 0 = .ok (.iconst 0, 1) := dk_3 (dk_at dksX1_isTaken_0 0 rfl rfl)
theorem dX1_isTaken_1 : decode cX1_isTaken 1 = .ok (.istore 4, 2) := dk_54 4 (dk_at dksX1_isTaken_0 1 rfl rfl)
theorem dX1_isTaken_3 : decode cX1_isTaken 3 = .ok (.iconst 0, 1) := dk_3 (dk_at dksX1_isTaken_0 3 rfl rfl)
theorem dX1_isTaken_4 : decode cX1_isTaken 4 = .ok (.istore 5, 2) := dk_54 5 (dk_at dksX1_isTaken_0 4 rfl rfl)
theorem dX1_isTaken_6 : decode cX1_isTaken 6 = .ok (.iload 5, 2) := dk_21 5 (dk_at dksX1_isTaken_0 6 rfl rfl)
theorem dX1_isTaken_8 : decode cX1_isTaken 8 = .ok (.aload_n 0, 1) := dk_42 (dk_at dksX1_isTaken_0 8 rfl rfl)
theorem dX1_isTaken_9 : decode cX1_isTaken 9 = .ok (.getfield 19, 3) := dk_180 0 19 (dk_at dksX1_isTaken_0 9 rfl rfl)
theorem dX1_isTaken_12 : decode cX1_isTaken 12 = .ok (.invokeinterface 71 1, 5) := by decide +kernel
theorem dX1_isTaken_17 : decode cX1_isTaken 17 = .ok (.if_icmp .ge 69, 3) := dk_162 0 69 (dk_at dksX1_isTaken_0 17 rfl rfl)
theorem dX1_isTaken_20 : decode cX1_isTaken 20 = .ok (.aload_n 0, 1) := dk_42 (dk_at dksX1_isTaken_0 20 rfl rfl)
theorem dX1_isTaken_21 : decode cX1_isTaken 21 = .ok (.getfield 19, 3) := dk_180 0 19 (dk_at dksX1_isTaken_0 21 rfl rfl)
theorem dX1_isTaken_24 : decode cX1_isTaken 24 = .ok (.iload 5, 2) := dk_21 5 (dk_at dksX1_isTaken_1 0 rfl rfl)
theorem dX1_isTaken_26 : decode cX1_isTaken 26 = .ok (.invokeinterface 79 2, 5) := by decide +kernel
theorem dX1_isTaken_31 : decode cX1_isTaken 31 = .ok (.checkcast 60, 3) := dk_192 0 60 (dk_at dksX1_isTaken_1 7 rfl rfl)
theorem dX1_isTaken_34 : decode cX1_isTaken 34 = .ok (.astore 6, 2) := dk_58 6 (dk_at dksX1_isTaken_1 10 rfl rfl)
theorem dX1_isTaken_36 : decode cX1_isTaken 36 = .ok (.iload 4, 2) := dk_21 4 (dk_at dksX1_isTaken_1 12 rfl rfl)
theorem dX1_isTaken_38 : decode cX1_isTaken 38 = .ok (.ifCond .ne 35, 3) := dk_154 0 35 (dk_at dksX1_isTaken_1 14 rfl rfl)
theorem dX1_isTaken_41 : decode cX1_isTaken 41 = .ok (.aload 6, 2) := dk_25 6 (dk_at dksX1_isTaken_1 17 rfl rfl)
theorem dX1_isTaken_43 : decode cX1_isTaken 43 = .ok (.getfield 83, 3) := dk_180 0 83 (dk_at dksX1_isTaken_1 19 rfl rfl)
theorem dX1_isTaken_46 : decode cX1_isTaken 46 = .ok (.ifCond .ne 31, 3) := dk_154 0 31 (dk_at dksX1_isTaken_2 0 rfl rfl)
theorem dX1_isTaken_49 : decode cX1_isTaken 49 = .ok (.aload 6, 2) := dk_25 6 (dk_at dksX1_isTaken_2 3 rfl rfl)
theorem dX1_isTaken_51 : decode cX1_isTaken 51 = .ok (.aload_n 3, 1) := dk_45 (dk_at dksX1_isTaken_2 5 rfl rfl)
theorem dX1_isTaken_52 : decode cX1_isTaken 52 = .ok (.if_acmp .eq 25, 3) := dk_165 0 25 (dk_at dksX1_isTaken_2 6 rfl rfl)
theorem dX1_isTaken_55 : decode cX1_isTaken 55 = .ok (.aload 6, 2) := dk_25 6 (dk_at dksX1_isTaken_2 9 rfl rfl)
theorem dX1_isTaken_57 : decode cX1_isTaken 57 = .ok (.getfield 98, 3) := dk_180 0 98 (dk_at dksX1_isTaken_2 11 rfl rfl)
theorem dX1_isTaken_60 : decode cX1_isTaken 60 = .ok (.aload_n 1, 1) := dk_43 (dk_at dksX1_isTaken_2 14 rfl rfl)
theorem dX1_isTaken_61 : decode cX1_isTaken 61 = .ok (.if_acmp .ne 16, 3) := dk_166 0 16 (dk_at dksX1_isTaken_2 15 rfl rfl)
theorem dX1_isTaken_64 : decode cX1_isTaken 64 = .ok (.aload 6, 2) := dk_25 6 (dk_at dksX1_isTaken_2 18 rfl rfl)
theorem dX1_isTaken_66 : decode cX1_isTaken 66 = .ok (.getfield 102, 3) := dk_180 0 102 (dk_at dksX1_isTaken_2 20 rfl rfl)
theorem dX1_isTaken_69 : decode cX1_isTaken 69 = .ok (.iload_n 2, 1) := dk_28 (dk_at dksX1_isTaken_2 23 rfl rfl)
theorem dX1_isTaken_70 : decode cX1_isTaken 70 = .ok (.if_icmp .ne 7, 3) := dk_160 0 7 (dk_at dksX1_isTaken_3 0 rfl rfl)
theorem dX1_isTaken_73 : decode cX1_isTaken 73 = .ok (.iconst 1, 1) := dk_4 (dk_at dksX1_isTaken_3 3 rfl rfl)
theorem dX1_isTaken_74 : decode cX1_isTaken 74 = .ok (.goto 4, 3) := dk_167 0 4 (dk_at dksX1_isTaken_3 4 rfl rfl)
theorem dX1_isTaken_77 : decode cX1_isTaken 77 = .ok (.iconst 0, 1) := dk_3 (dk_at dksX1_isTaken_3 7 rfl rfl)
theorem dX1_isTaken_78 : decode cX1_isTaken 78 = .ok (.istore 4, 2) := dk_54 4 (dk_at dksX1_isTaken_3 8 rfl rfl)
theorem dX1_isTaken_80 : decode cX1_isTaken 80 = .ok (.iinc 5 1, 3) := dk_132 5 1 (dk_at dksX1_isTaken_3 10 rfl rfl)
theorem dX1_isTaken_83 : decode cX1_isTaken 83 = .ok (.goto (-77), 3) := dk_167 255 179 (dk_at dksX1_isTaken_3 13 rfl rfl)
theorem dX1_isTaken_86 : decode cX1_isTaken 86 = .ok (.iload 4, 2) := dk_21 4 (dk_at dksX1_isTaken_3 16 rfl rfl)
theorem dX1_isTaken_88 : decode cX1_isTaken 88 = .ok (.ireturn, 1) := dk_172 (dk_at dksX1_isTaken_3 18 rfl rfl)
abbrev cX1_possible : ByteArray := prog_1_method_2_code
def yX1_possible : MethodName := ⟨RX1, "possible", "(Z)V"⟩
def dkwX1_possible_0 : List UInt8 := [26, 154, 0, 11, 187, 0, 7, 89, 183, 0, 9, 191, 177]
abbrev dktX1_possible_0 : List UInt8 := dkwX1_possible_0 ++ []
theorem dksX1_possible_0 : cX1_possible.data.toList.drop 0 = dktX1_possible_0 := by decide +kernel
theorem dX1_possible_0 : decode cX1_possible 0 = .ok (.iload_n 0, 1) := dk_26 (dk_at dksX1_possible_0 0 rfl rfl)
theorem dX1_possible_1 : decode cX1_possible 1 = .ok (.ifCond .ne 11, 3) := dk_154 0 11 (dk_at dksX1_possible_0 1 rfl rfl)
theorem dX1_possible_4 : decode cX1_possible 4 = .ok (.new 7, 3) := dk_187 0 7 (dk_at dksX1_possible_0 4 rfl rfl)
theorem dX1_possible_7 : decode cX1_possible 7 = .ok (.dup, 1) := dk_89 (dk_at dksX1_possible_0 7 rfl rfl)
theorem dX1_possible_8 : decode cX1_possible 8 = .ok (.invokespecial 9, 3) := dk_183 0 9 (dk_at dksX1_possible_0 8 rfl rfl)
theorem dX1_possible_11 : decode cX1_possible 11 = .ok (.athrow, 1) := dk_191 (dk_at dksX1_possible_0 11 rfl rfl)
theorem dX1_possible_12 : decode cX1_possible 12 = .ok (.return_, 1) := dk_177 (dk_at dksX1_possible_0 12 rfl rfl)
abbrev cX1_tell : ByteArray := prog_1_method_12_code
def yX1_tell : MethodName := ⟨RX1, "tell", "(LSearchKeeper$Root;LSearchKeeper$Notice;LSearchKeeper$Node;)V"⟩
def dkwX1_tell_0 : List UInt8 := [43, 198, 0, 9, 43, 44, 45, 182, 0, 129, 177]
abbrev dktX1_tell_0 : List UInt8 := dkwX1_tell_0 ++ []
theorem dksX1_tell_0 : cX1_tell.data.toList.drop 0 = dktX1_tell_0 := by decide +kernel
theorem dX1_tell_0 : decode cX1_tell 0 = .ok (.aload_n 1, 1) := dk_43 (dk_at dksX1_tell_0 0 rfl rfl)
theorem dX1_tell_1 : decode cX1_tell 1 = .ok (.ifnull 9, 3) := dk_198 0 9 (dk_at dksX1_tell_0 1 rfl rfl)
theorem dX1_tell_4 : decode cX1_tell 4 = .ok (.aload_n 1, 1) := dk_43 (dk_at dksX1_tell_0 4 rfl rfl)
theorem dX1_tell_5 : decode cX1_tell 5 = .ok (.aload_n 2, 1) := dk_44 (dk_at dksX1_tell_0 5 rfl rfl)
theorem dX1_tell_6 : decode cX1_tell 6 = .ok (.aload_n 3, 1) := dk_45 (dk_at dksX1_tell_0 6 rfl rfl)
theorem dX1_tell_7 : decode cX1_tell 7 = .ok (.invokevirtual 129, 3) := dk_182 0 129 (dk_at dksX1_tell_0 7 rfl rfl)
theorem dX1_tell_10 : decode cX1_tell 10 = .ok (.return_, 1) := dk_177 (dk_at dksX1_tell_0 10 rfl rfl)
abbrev cX1_write : ByteArray := prog_1_method_16_code
def yX1_write : MethodName := ⟨RX1, "write", "(II)I"⟩
def dkwX1_write_3 : List UInt8 := [184, 0, 185, 185, 0, 65, 2, 0, 87, 42, 45, 182, 0, 191, 45, 180, 0, 166, 172]
abbrev dktX1_write_3 : List UInt8 := dkwX1_write_3 ++ []
def dkwX1_write_2 : List UInt8 := [185, 0, 71, 1, 0, 16, 20, 162, 0, 7, 4, 167, 0, 4, 3, 184, 0, 147, 45, 180, 0, 182, 28]
abbrev dktX1_write_2 : List UInt8 := dkwX1_write_2 ++ dktX1_write_3
def dkwX1_write_1 : List UInt8 := [160, 0, 7, 4, 167, 0, 4, 3, 184, 0, 140, 45, 180, 0, 179, 154, 0, 21, 45, 180, 0, 182]
abbrev dktX1_write_1 : List UInt8 := dkwX1_write_1 ++ dktX1_write_2
def dkwX1_write_0 : List UInt8 := [42, 27, 182, 0, 172, 78, 28, 184, 0, 175, 154, 0, 15, 28, 16, 254, 159, 0, 9, 28, 16, 253]
abbrev dktX1_write_0 : List UInt8 := dkwX1_write_0 ++ dktX1_write_1
theorem dksX1_write_0 : cX1_write.data.toList.drop 0 = dktX1_write_0 := by decide +kernel
theorem dksX1_write_1 : cX1_write.data.toList.drop 22 = dktX1_write_1 := dk_seg dksX1_write_0 22 rfl rfl
theorem dksX1_write_2 : cX1_write.data.toList.drop 44 = dktX1_write_2 := dk_seg dksX1_write_1 22 rfl rfl
theorem dksX1_write_3 : cX1_write.data.toList.drop 67 = dktX1_write_3 := dk_seg dksX1_write_2 23 rfl rfl
theorem dX1_write_0 : decode cX1_write 0 = .ok (.aload_n 0, 1) := dk_42 (dk_at dksX1_write_0 0 rfl rfl)
theorem dX1_write_1 : decode cX1_write 1 = .ok (.iload_n 1, 1) := dk_27 (dk_at dksX1_write_0 1 rfl rfl)
theorem dX1_write_2 : decode cX1_write 2 = .ok (.invokevirtual 172, 3) := dk_182 0 172 (dk_at dksX1_write_0 2 rfl rfl)
theorem dX1_write_5 : decode cX1_write 5 = .ok (.astore_n 3, 1) := dk_78 (dk_at dksX1_write_0 5 rfl rfl)
theorem dX1_write_6 : decode cX1_write 6 = .ok (.iload_n 2, 1) := dk_28 (dk_at dksX1_write_0 6 rfl rfl)
theorem dX1_write_7 : decode cX1_write 7 = .ok (.invokestatic 175, 3) := dk_184 0 175 (dk_at dksX1_write_0 7 rfl rfl)
theorem dX1_write_10 : decode cX1_write 10 = .ok (.ifCond .ne 15, 3) := dk_154 0 15 (dk_at dksX1_write_0 10 rfl rfl)
theorem dX1_write_13 : decode cX1_write 13 = .ok (.iload_n 2, 1) := dk_28 (dk_at dksX1_write_0 13 rfl rfl)
theorem dX1_write_14 : decode cX1_write 14 = .ok (.bipush (-2), 2) := dk_16 254 (dk_at dksX1_write_0 14 rfl rfl)
theorem dX1_write_16 : decode cX1_write 16 = .ok (.if_icmp .eq 9, 3) := dk_159 0 9 (dk_at dksX1_write_0 16 rfl rfl)
theorem dX1_write_19 : decode cX1_write 19 = .ok (.iload_n 2, 1) := dk_28 (dk_at dksX1_write_0 19 rfl rfl)
theorem dX1_write_20 : decode cX1_write 20 = .ok (.bipush (-3), 2) := dk_16 253 (dk_at dksX1_write_0 20 rfl rfl)
theorem dX1_write_22 : decode cX1_write 22 = .ok (.if_icmp .ne 7, 3) := dk_160 0 7 (dk_at dksX1_write_1 0 rfl rfl)
theorem dX1_write_25 : decode cX1_write 25 = .ok (.iconst 1, 1) := dk_4 (dk_at dksX1_write_1 3 rfl rfl)
theorem dX1_write_26 : decode cX1_write 26 = .ok (.goto 4, 3) := dk_167 0 4 (dk_at dksX1_write_1 4 rfl rfl)
theorem dX1_write_29 : decode cX1_write 29 = .ok (.iconst 0, 1) := dk_3 (dk_at dksX1_write_1 7 rfl rfl)
theorem dX1_write_30 : decode cX1_write 30 = .ok (.invokestatic 140, 3) := dk_184 0 140 (dk_at dksX1_write_1 8 rfl rfl)
theorem dX1_write_33 : decode cX1_write 33 = .ok (.aload_n 3, 1) := dk_45 (dk_at dksX1_write_1 11 rfl rfl)
theorem dX1_write_34 : decode cX1_write 34 = .ok (.getfield 179, 3) := dk_180 0 179 (dk_at dksX1_write_1 12 rfl rfl)
theorem dX1_write_37 : decode cX1_write 37 = .ok (.ifCond .ne 21, 3) := dk_154 0 21 (dk_at dksX1_write_1 15 rfl rfl)
theorem dX1_write_40 : decode cX1_write 40 = .ok (.aload_n 3, 1) := dk_45 (dk_at dksX1_write_1 18 rfl rfl)
theorem dX1_write_41 : decode cX1_write 41 = .ok (.getfield 182, 3) := dk_180 0 182 (dk_at dksX1_write_1 19 rfl rfl)
theorem dX1_write_44 : decode cX1_write 44 = .ok (.invokeinterface 71 1, 5) := by decide +kernel
theorem dX1_write_49 : decode cX1_write 49 = .ok (.bipush 20, 2) := dk_16 20 (dk_at dksX1_write_2 5 rfl rfl)
theorem dX1_write_51 : decode cX1_write 51 = .ok (.if_icmp .ge 7, 3) := dk_162 0 7 (dk_at dksX1_write_2 7 rfl rfl)
theorem dX1_write_54 : decode cX1_write 54 = .ok (.iconst 1, 1) := dk_4 (dk_at dksX1_write_2 10 rfl rfl)
theorem dX1_write_55 : decode cX1_write 55 = .ok (.goto 4, 3) := dk_167 0 4 (dk_at dksX1_write_2 11 rfl rfl)
theorem dX1_write_58 : decode cX1_write 58 = .ok (.iconst 0, 1) := dk_3 (dk_at dksX1_write_2 14 rfl rfl)
theorem dX1_write_59 : decode cX1_write 59 = .ok (.invokestatic 147, 3) := dk_184 0 147 (dk_at dksX1_write_2 15 rfl rfl)
theorem dX1_write_62 : decode cX1_write 62 = .ok (.aload_n 3, 1) := dk_45 (dk_at dksX1_write_2 18 rfl rfl)
theorem dX1_write_63 : decode cX1_write 63 = .ok (.getfield 182, 3) := dk_180 0 182 (dk_at dksX1_write_2 19 rfl rfl)
theorem dX1_write_66 : decode cX1_write 66 = .ok (.iload_n 2, 1) := dk_28 (dk_at dksX1_write_2 22 rfl rfl)
theorem dX1_write_67 : decode cX1_write 67 = .ok (.invokestatic 185, 3) := dk_184 0 185 (dk_at dksX1_write_3 0 rfl rfl)
theorem dX1_write_70 : decode cX1_write 70 = .ok (.invokeinterface 65 2, 5) := by decide +kernel
theorem dX1_write_75 : decode cX1_write 75 = .ok (.pop, 1) := dk_87 (dk_at dksX1_write_3 8 rfl rfl)
theorem dX1_write_76 : decode cX1_write 76 = .ok (.aload_n 0, 1) := dk_42 (dk_at dksX1_write_3 9 rfl rfl)
theorem dX1_write_77 : decode cX1_write 77 = .ok (.aload_n 3, 1) := dk_45 (dk_at dksX1_write_3 10 rfl rfl)
theorem dX1_write_78 : decode cX1_write 78 = .ok (.invokevirtual 191, 3) := dk_182 0 191 (dk_at dksX1_write_3 11 rfl rfl)
theorem dX1_write_81 : decode cX1_write 81 = .ok (.aload_n 3, 1) := dk_45 (dk_at dksX1_write_3 14 rfl rfl)
theorem dX1_write_82 : decode cX1_write 82 = .ok (.getfield 166, 3) := dk_180 0 166 (dk_at dksX1_write_3 15 rfl rfl)
theorem dX1_write_85 : decode cX1_write 85 = .ok (.ireturn, 1) := dk_172 (dk_at dksX1_write_3 18 rfl rfl)
abbrev cX1_fileAt : ByteArray := prog_1_method_8_code
def yX1_fileAt : MethodName := ⟨RX1, "fileAt", "(I)LSearchKeeper$Node;"⟩
def dkwX1_fileAt_1 : List UInt8 := [184, 0, 94, 44, 176]
abbrev dktX1_fileAt_1 : List UInt8 := dkwX1_fileAt_1 ++ []
def dkwX1_fileAt_0 : List UInt8 := [42, 27, 182, 0, 87, 77, 44, 198, 0, 14, 44, 180, 0, 91, 154, 0, 7, 4, 167, 0, 4, 3]
abbrev dktX1_fileAt_0 : List UInt8 := dkwX1_fileAt_0 ++ dktX1_fileAt_1
theorem dksX1_fileAt_0 : cX1_fileAt.data.toList.drop 0 = dktX1_fileAt_0 := by decide +kernel
theorem dksX1_fileAt_1 : cX1_fileAt.data.toList.drop 22 = dktX1_fileAt_1 := dk_seg dksX1_fileAt_0 22 rfl rfl
theorem dX1_fileAt_0 : decode cX1_fileAt 0 = .ok (.aload_n 0, 1) := dk_42 (dk_at dksX1_fileAt_0 0 rfl rfl)
theorem dX1_fileAt_1 : decode cX1_fileAt 1 = .ok (.iload_n 1, 1) := dk_27 (dk_at dksX1_fileAt_0 1 rfl rfl)
theorem dX1_fileAt_2 : decode cX1_fileAt 2 = .ok (.invokevirtual 87, 3) := dk_182 0 87 (dk_at dksX1_fileAt_0 2 rfl rfl)
theorem dX1_fileAt_5 : decode cX1_fileAt 5 = .ok (.astore_n 2, 1) := dk_77 (dk_at dksX1_fileAt_0 5 rfl rfl)
theorem dX1_fileAt_6 : decode cX1_fileAt 6 = .ok (.aload_n 2, 1) := dk_44 (dk_at dksX1_fileAt_0 6 rfl rfl)
theorem dX1_fileAt_7 : decode cX1_fileAt 7 = .ok (.ifnull 14, 3) := dk_198 0 14 (dk_at dksX1_fileAt_0 7 rfl rfl)
theorem dX1_fileAt_10 : decode cX1_fileAt 10 = .ok (.aload_n 2, 1) := dk_44 (dk_at dksX1_fileAt_0 10 rfl rfl)
theorem dX1_fileAt_11 : decode cX1_fileAt 11 = .ok (.getfield 91, 3) := dk_180 0 91 (dk_at dksX1_fileAt_0 11 rfl rfl)
theorem dX1_fileAt_14 : decode cX1_fileAt 14 = .ok (.ifCond .ne 7, 3) := dk_154 0 7 (dk_at dksX1_fileAt_0 14 rfl rfl)
theorem dX1_fileAt_17 : decode cX1_fileAt 17 = .ok (.iconst 1, 1) := dk_4 (dk_at dksX1_fileAt_0 17 rfl rfl)
theorem dX1_fileAt_18 : decode cX1_fileAt 18 = .ok (.goto 4, 3) := dk_167 0 4 (dk_at dksX1_fileAt_0 18 rfl rfl)
theorem dX1_fileAt_21 : decode cX1_fileAt 21 = .ok (.iconst 0, 1) := dk_3 (dk_at dksX1_fileAt_0 21 rfl rfl)
theorem dX1_fileAt_22 : decode cX1_fileAt 22 = .ok (.invokestatic 94, 3) := dk_184 0 94 (dk_at dksX1_fileAt_1 0 rfl rfl)
theorem dX1_fileAt_25 : decode cX1_fileAt 25 = .ok (.aload_n 2, 1) := dk_44 (dk_at dksX1_fileAt_1 3 rfl rfl)
theorem dX1_fileAt_26 : decode cX1_fileAt 26 = .ok (.areturn, 1) := dk_176 (dk_at dksX1_fileAt_1 4 rfl rfl)
abbrev cX1_isWord : ByteArray := prog_1_method_15_code
def yX1_isWord : MethodName := ⟨RX1, "isWord", "(I)Z"⟩
def dkwX1_isWord_0 : List UInt8 := [26, 3, 16, 99, 184, 0, 75, 172]
abbrev dktX1_isWord_0 : List UInt8 := dkwX1_isWord_0 ++ []
theorem dksX1_isWord_0 : cX1_isWord.data.toList.drop 0 = dktX1_isWord_0 := by decide +kernel
theorem dX1_isWord_0 : decode cX1_isWord 0 = .ok (.iload_n 0, 1) := dk_26 (dk_at dksX1_isWord_0 0 rfl rfl)
theorem dX1_isWord_1 : decode cX1_isWord 1 = .ok (.iconst 0, 1) := dk_3 (dk_at dksX1_isWord_0 1 rfl rfl)
theorem dX1_isWord_2 : decode cX1_isWord 2 = .ok (.bipush 99, 2) := dk_16 99 (dk_at dksX1_isWord_0 2 rfl rfl)
theorem dX1_isWord_4 : decode cX1_isWord 4 = .ok (.invokestatic 75, 3) := dk_184 0 75 (dk_at dksX1_isWord_0 4 rfl rfl)
theorem dX1_isWord_7 : decode cX1_isWord 7 = .ok (.ireturn, 1) := dk_172 (dk_at dksX1_isWord_0 7 rfl rfl)
abbrev cX1_written : ByteArray := prog_1_method_14_code
def yX1_written : MethodName := ⟨RX1, "written", "(LSearchKeeper$Node;)V"⟩
def dkwX1_written_0 : List UInt8 := [43, 89, 180, 0, 166, 4, 96, 181, 0, 166, 42, 42, 43, 182, 0, 150, 178, 0, 169, 43, 182, 0, 160, 177]
abbrev dktX1_written_0 : List UInt8 := dkwX1_written_0 ++ []
theorem dksX1_written_0 : cX1_written.data.toList.drop 0 = dktX1_written_0 := by decide +kernel
theorem dX1_written_0 : decode cX1_written 0 = .ok (.aload_n 1, 1) := dk_43 (dk_at dksX1_written_0 0 rfl rfl)
theorem dX1_written_1 : decode cX1_written 1 = .ok (.dup, 1) := dk_89 (dk_at dksX1_written_0 1 rfl rfl)
theorem dX1_written_2 : decode cX1_written 2 = .ok (.getfield 166, 3) := dk_180 0 166 (dk_at dksX1_written_0 2 rfl rfl)
theorem dX1_written_5 : decode cX1_written 5 = .ok (.iconst 1, 1) := dk_4 (dk_at dksX1_written_0 5 rfl rfl)
theorem dX1_written_6 : decode cX1_written 6 = .ok (.iadd, 1) := dk_96 (dk_at dksX1_written_0 6 rfl rfl)
theorem dX1_written_7 : decode cX1_written 7 = .ok (.putfield 166, 3) := dk_181 0 166 (dk_at dksX1_written_0 7 rfl rfl)
theorem dX1_written_10 : decode cX1_written 10 = .ok (.aload_n 0, 1) := dk_42 (dk_at dksX1_written_0 10 rfl rfl)
theorem dX1_written_11 : decode cX1_written 11 = .ok (.aload_n 0, 1) := dk_42 (dk_at dksX1_written_0 11 rfl rfl)
theorem dX1_written_12 : decode cX1_written 12 = .ok (.aload_n 1, 1) := dk_43 (dk_at dksX1_written_0 12 rfl rfl)
theorem dX1_written_13 : decode cX1_written 13 = .ok (.invokevirtual 150, 3) := dk_182 0 150 (dk_at dksX1_written_0 13 rfl rfl)
theorem dX1_written_16 : decode cX1_written 16 = .ok (.getstatic 169, 3) := dk_178 0 169 (dk_at dksX1_written_0 16 rfl rfl)
theorem dX1_written_19 : decode cX1_written 19 = .ok (.aload_n 1, 1) := dk_43 (dk_at dksX1_written_0 19 rfl rfl)
theorem dX1_written_20 : decode cX1_written 20 = .ok (.invokevirtual 160, 3) := dk_182 0 160 (dk_at dksX1_written_0 20 rfl rfl)
theorem dX1_written_23 : decode cX1_written 23 = .ok (.return_, 1) := dk_177 (dk_at dksX1_written_0 23 rfl rfl)
abbrev cX1_empty : ByteArray := prog_1_method_17_code
def yX1_empty : MethodName := ⟨RX1, "empty", "(I)I"⟩
def dkwX1_empty_2 : List UInt8 := [172]
abbrev dktX1_empty_2 : List UInt8 := dkwX1_empty_2 ++ []
def dkwX1_empty_1 : List UInt8 := [180, 0, 182, 185, 0, 71, 1, 0, 62, 44, 180, 0, 182, 185, 0, 195, 1, 0, 42, 44, 182, 0, 191, 29]
abbrev dktX1_empty_1 : List UInt8 := dkwX1_empty_1 ++ dktX1_empty_2
def dkwX1_empty_0 : List UInt8 := [42, 27, 182, 0, 172, 77, 44, 180, 0, 179, 154, 0, 7, 4, 167, 0, 4, 3, 184, 0, 147, 44]
abbrev dktX1_empty_0 : List UInt8 := dkwX1_empty_0 ++ dktX1_empty_1
theorem dksX1_empty_0 : cX1_empty.data.toList.drop 0 = dktX1_empty_0 := by decide +kernel
theorem dksX1_empty_1 : cX1_empty.data.toList.drop 22 = dktX1_empty_1 := dk_seg dksX1_empty_0 22 rfl rfl
theorem dksX1_empty_2 : cX1_empty.data.toList.drop 46 = dktX1_empty_2 := dk_seg dksX1_empty_1 24 rfl rfl
theorem dX1_empty_0 : decode cX1_empty 0 = .ok (.aload_n 0, 1) := dk_42 (dk_at dksX1_empty_0 0 rfl rfl)
theorem dX1_empty_1 : decode cX1_empty 1 = .ok (.iload_n 1, 1) := dk_27 (dk_at dksX1_empty_0 1 rfl rfl)
theorem dX1_empty_2 : decode cX1_empty 2 = .ok (.invokevirtual 172, 3) := dk_182 0 172 (dk_at dksX1_empty_0 2 rfl rfl)
theorem dX1_empty_5 : decode cX1_empty 5 = .ok (.astore_n 2, 1) := dk_77 (dk_at dksX1_empty_0 5 rfl rfl)
theorem dX1_empty_6 : decode cX1_empty 6 = .ok (.aload_n 2, 1) := dk_44 (dk_at dksX1_empty_0 6 rfl rfl)
theorem dX1_empty_7 : decode cX1_empty 7 = .ok (.getfield 179, 3) := dk_180 0 179 (dk_at dksX1_empty_0 7 rfl rfl)
theorem dX1_empty_10 : decode cX1_empty 10 = .ok (.ifCond .ne 7, 3) := dk_154 0 7 (dk_at dksX1_empty_0 10 rfl rfl)
theorem dX1_empty_13 : decode cX1_empty 13 = .ok (.iconst 1, 1) := dk_4 (dk_at dksX1_empty_0 13 rfl rfl)
theorem dX1_empty_14 : decode cX1_empty 14 = .ok (.goto 4, 3) := dk_167 0 4 (dk_at dksX1_empty_0 14 rfl rfl)
theorem dX1_empty_17 : decode cX1_empty 17 = .ok (.iconst 0, 1) := dk_3 (dk_at dksX1_empty_0 17 rfl rfl)
theorem dX1_empty_18 : decode cX1_empty 18 = .ok (.invokestatic 147, 3) := dk_184 0 147 (dk_at dksX1_empty_0 18 rfl rfl)
theorem dX1_empty_21 : decode cX1_empty 21 = .ok (.aload_n 2, 1) := dk_44 (dk_at dksX1_empty_0 21 rfl rfl)
theorem dX1_empty_22 : decode cX1_empty 22 = .ok (.getfield 182, 3) := dk_180 0 182 (dk_at dksX1_empty_1 0 rfl rfl)
theorem dX1_empty_25 : decode cX1_empty 25 = .ok (.invokeinterface 71 1, 5) := by decide +kernel
theorem dX1_empty_30 : decode cX1_empty 30 = .ok (.istore_n 3, 1) := dk_62 (dk_at dksX1_empty_1 8 rfl rfl)
theorem dX1_empty_31 : decode cX1_empty 31 = .ok (.aload_n 2, 1) := dk_44 (dk_at dksX1_empty_1 9 rfl rfl)
theorem dX1_empty_32 : decode cX1_empty 32 = .ok (.getfield 182, 3) := dk_180 0 182 (dk_at dksX1_empty_1 10 rfl rfl)
theorem dX1_empty_35 : decode cX1_empty 35 = .ok (.invokeinterface 195 1, 5) := by decide +kernel
theorem dX1_empty_40 : decode cX1_empty 40 = .ok (.aload_n 0, 1) := dk_42 (dk_at dksX1_empty_1 18 rfl rfl)
theorem dX1_empty_41 : decode cX1_empty 41 = .ok (.aload_n 2, 1) := dk_44 (dk_at dksX1_empty_1 19 rfl rfl)
theorem dX1_empty_42 : decode cX1_empty 42 = .ok (.invokevirtual 191, 3) := dk_182 0 191 (dk_at dksX1_empty_1 20 rfl rfl)
theorem dX1_empty_45 : decode cX1_empty 45 = .ok (.iload_n 3, 1) := dk_29 (dk_at dksX1_empty_1 23 rfl rfl)
theorem dX1_empty_46 : decode cX1_empty 46 = .ok (.ireturn, 1) := dk_172 (dk_at dksX1_empty_2 0 rfl rfl)
abbrev cX1_move : ByteArray := prog_1_method_19_code
def yX1_move : MethodName := ⟨RX1, "move", "(IIC)I"⟩
def dkwX1_move_6 : List UInt8 := [178, 0, 205, 25, 4, 182, 0, 160, 42, 25, 8, 178, 0, 154, 25, 4, 182, 0, 160, 21, 6, 172]
abbrev dktX1_move_6 : List UInt8 := dkwX1_move_6 ++ []
def dkwX1_move_5 : List UInt8 := [25, 4, 29, 181, 0, 102, 42, 25, 4, 182, 0, 150, 58, 8, 25, 7, 25, 8, 165, 0, 14, 42, 25, 7]
abbrev dktX1_move_5 : List UInt8 := dkwX1_move_5 ++ dktX1_move_6
def dkwX1_move_4 : List UInt8 := [180, 0, 98, 180, 0, 163, 54, 6, 42, 25, 4, 182, 0, 150, 58, 7, 25, 4, 25, 5, 181, 0, 98]
abbrev dktX1_move_4 : List UInt8 := dkwX1_move_4 ++ dktX1_move_5
def dkwX1_move_3 : List UInt8 := [154, 0, 18, 42, 25, 4, 25, 5, 182, 0, 201, 154, 0, 7, 4, 167, 0, 4, 3, 184, 0, 147, 25, 4]
abbrev dktX1_move_3 : List UInt8 := dkwX1_move_3 ++ dktX1_move_4
def dkwX1_move_2 : List UInt8 := [165, 0, 40, 25, 5, 25, 4, 182, 0, 125, 154, 0, 30, 42, 25, 5, 29, 25, 4, 182, 0, 143]
abbrev dktX1_move_2 : List UInt8 := dkwX1_move_2 ++ dktX1_move_3
def dkwX1_move_1 : List UInt8 := [3, 184, 0, 94, 42, 28, 182, 0, 133, 58, 5, 29, 184, 0, 136, 184, 0, 140, 25, 5, 25, 4]
abbrev dktX1_move_1 : List UInt8 := dkwX1_move_1 ++ dktX1_move_2
def dkwX1_move_0 : List UInt8 := [42, 27, 182, 0, 87, 58, 4, 25, 4, 198, 0, 15, 25, 4, 180, 0, 98, 198, 0, 7, 4, 167, 0, 4]
abbrev dktX1_move_0 : List UInt8 := dkwX1_move_0 ++ dktX1_move_1
theorem dksX1_move_0 : cX1_move.data.toList.drop 0 = dktX1_move_0 := by decide +kernel
theorem dksX1_move_1 : cX1_move.data.toList.drop 24 = dktX1_move_1 := dk_seg dksX1_move_0 24 rfl rfl
theorem dksX1_move_2 : cX1_move.data.toList.drop 46 = dktX1_move_2 := dk_seg dksX1_move_1 22 rfl rfl
theorem dksX1_move_3 : cX1_move.data.toList.drop 68 = dktX1_move_3 := dk_seg dksX1_move_2 22 rfl rfl
theorem dksX1_move_4 : cX1_move.data.toList.drop 92 = dktX1_move_4 := dk_seg dksX1_move_3 24 rfl rfl
theorem dksX1_move_5 : cX1_move.data.toList.drop 115 = dktX1_move_5 := dk_seg dksX1_move_4 23 rfl rfl
theorem dksX1_move_6 : cX1_move.data.toList.drop 139 = dktX1_move_6 := dk_seg dksX1_move_5 24 rfl rfl
theorem dX1_move_0 : decode cX1_move 0 = .ok (.aload_n 0, 1) := dk_42 (dk_at dksX1_move_0 0 rfl rfl)
theorem dX1_move_1 : decode cX1_move 1 = .ok (.iload_n 1, 1) := dk_27 (dk_at dksX1_move_0 1 rfl rfl)
theorem dX1_move_2 : decode cX1_move 2 = .ok (.invokevirtual 87, 3) := dk_182 0 87 (dk_at dksX1_move_0 2 rfl rfl)
theorem dX1_move_5 : decode cX1_move 5 = .ok (.astore 4, 2) := dk_58 4 (dk_at dksX1_move_0 5 rfl rfl)
theorem dX1_move_7 : decode cX1_move 7 = .ok (.aload 4, 2) := dk_25 4 (dk_at dksX1_move_0 7 rfl rfl)
theorem dX1_move_9 : decode cX1_move 9 = .ok (.ifnull 15, 3) := dk_198 0 15 (dk_at dksX1_move_0 9 rfl rfl)
theorem dX1_move_12 : decode cX1_move 12 = .ok (.aload 4, 2) := dk_25 4 (dk_at dksX1_move_0 12 rfl rfl)
theorem dX1_move_14 : decode cX1_move 14 = .ok (.getfield 98, 3) := dk_180 0 98 (dk_at dksX1_move_0 14 rfl rfl)
theorem dX1_move_17 : decode cX1_move 17 = .ok (.ifnull 7, 3) := dk_198 0 7 (dk_at dksX1_move_0 17 rfl rfl)
theorem dX1_move_20 : decode cX1_move 20 = .ok (.iconst 1, 1) := dk_4 (dk_at dksX1_move_0 20 rfl rfl)
theorem dX1_move_21 : decode cX1_move 21 = .ok (.goto 4, 3) := dk_167 0 4 (dk_at dksX1_move_0 21 rfl rfl)
theorem dX1_move_24 : decode cX1_move 24 = .ok (.iconst 0, 1) := dk_3 (dk_at dksX1_move_1 0 rfl rfl)
theorem dX1_move_25 : decode cX1_move 25 = .ok (.invokestatic 94, 3) := dk_184 0 94 (dk_at dksX1_move_1 1 rfl rfl)
theorem dX1_move_28 : decode cX1_move 28 = .ok (.aload_n 0, 1) := dk_42 (dk_at dksX1_move_1 4 rfl rfl)
theorem dX1_move_29 : decode cX1_move 29 = .ok (.iload_n 2, 1) := dk_28 (dk_at dksX1_move_1 5 rfl rfl)
theorem dX1_move_30 : decode cX1_move 30 = .ok (.invokevirtual 133, 3) := dk_182 0 133 (dk_at dksX1_move_1 6 rfl rfl)
theorem dX1_move_33 : decode cX1_move 33 = .ok (.astore 5, 2) := dk_58 5 (dk_at dksX1_move_1 9 rfl rfl)
theorem dX1_move_35 : decode cX1_move 35 = .ok (.iload_n 3, 1) := dk_29 (dk_at dksX1_move_1 11 rfl rfl)
theorem dX1_move_36 : decode cX1_move 36 = .ok (.invokestatic 136, 3) := dk_184 0 136 (dk_at dksX1_move_1 12 rfl rfl)
theorem dX1_move_39 : decode cX1_move 39 = .ok (.invokestatic 140, 3) := dk_184 0 140 (dk_at dksX1_move_1 15 rfl rfl)
theorem dX1_move_42 : decode cX1_move 42 = .ok (.aload 5, 2) := dk_25 5 (dk_at dksX1_move_1 18 rfl rfl)
theorem dX1_move_44 : decode cX1_move 44 = .ok (.aload 4, 2) := dk_25 4 (dk_at dksX1_move_1 20 rfl rfl)
theorem dX1_move_46 : decode cX1_move 46 = .ok (.if_acmp .eq 40, 3) := dk_165 0 40 (dk_at dksX1_move_2 0 rfl rfl)
theorem dX1_move_49 : decode cX1_move 49 = .ok (.aload 5, 2) := dk_25 5 (dk_at dksX1_move_2 3 rfl rfl)
theorem dX1_move_51 : decode cX1_move 51 = .ok (.aload 4, 2) := dk_25 4 (dk_at dksX1_move_2 5 rfl rfl)
theorem dX1_move_53 : decode cX1_move 53 = .ok (.invokevirtual 125, 3) := dk_182 0 125 (dk_at dksX1_move_2 7 rfl rfl)
theorem dX1_move_56 : decode cX1_move 56 = .ok (.ifCond .ne 30, 3) := dk_154 0 30 (dk_at dksX1_move_2 10 rfl rfl)
theorem dX1_move_59 : decode cX1_move 59 = .ok (.aload_n 0, 1) := dk_42 (dk_at dksX1_move_2 13 rfl rfl)
theorem dX1_move_60 : decode cX1_move 60 = .ok (.aload 5, 2) := dk_25 5 (dk_at dksX1_move_2 14 rfl rfl)
theorem dX1_move_62 : decode cX1_move 62 = .ok (.iload_n 3, 1) := dk_29 (dk_at dksX1_move_2 16 rfl rfl)
theorem dX1_move_63 : decode cX1_move 63 = .ok (.aload 4, 2) := dk_25 4 (dk_at dksX1_move_2 17 rfl rfl)
theorem dX1_move_65 : decode cX1_move 65 = .ok (.invokevirtual 143, 3) := dk_182 0 143 (dk_at dksX1_move_2 19 rfl rfl)
theorem dX1_move_68 : decode cX1_move 68 = .ok (.ifCond .ne 18, 3) := dk_154 0 18 (dk_at dksX1_move_3 0 rfl rfl)
theorem dX1_move_71 : decode cX1_move 71 = .ok (.aload_n 0, 1) := dk_42 (dk_at dksX1_move_3 3 rfl rfl)
theorem dX1_move_72 : decode cX1_move 72 = .ok (.aload 4, 2) := dk_25 4 (dk_at dksX1_move_3 4 rfl rfl)
theorem dX1_move_74 : decode cX1_move 74 = .ok (.aload 5, 2) := dk_25 5 (dk_at dksX1_move_3 6 rfl rfl)
theorem dX1_move_76 : decode cX1_move 76 = .ok (.invokevirtual 201, 3) := dk_182 0 201 (dk_at dksX1_move_3 8 rfl rfl)
theorem dX1_move_79 : decode cX1_move 79 = .ok (.ifCond .ne 7, 3) := dk_154 0 7 (dk_at dksX1_move_3 11 rfl rfl)
theorem dX1_move_82 : decode cX1_move 82 = .ok (.iconst 1, 1) := dk_4 (dk_at dksX1_move_3 14 rfl rfl)
theorem dX1_move_83 : decode cX1_move 83 = .ok (.goto 4, 3) := dk_167 0 4 (dk_at dksX1_move_3 15 rfl rfl)
theorem dX1_move_86 : decode cX1_move 86 = .ok (.iconst 0, 1) := dk_3 (dk_at dksX1_move_3 18 rfl rfl)
theorem dX1_move_87 : decode cX1_move 87 = .ok (.invokestatic 147, 3) := dk_184 0 147 (dk_at dksX1_move_3 19 rfl rfl)
theorem dX1_move_90 : decode cX1_move 90 = .ok (.aload 4, 2) := dk_25 4 (dk_at dksX1_move_3 22 rfl rfl)
theorem dX1_move_92 : decode cX1_move 92 = .ok (.getfield 98, 3) := dk_180 0 98 (dk_at dksX1_move_4 0 rfl rfl)
theorem dX1_move_95 : decode cX1_move 95 = .ok (.getfield 163, 3) := dk_180 0 163 (dk_at dksX1_move_4 3 rfl rfl)
theorem dX1_move_98 : decode cX1_move 98 = .ok (.istore 6, 2) := dk_54 6 (dk_at dksX1_move_4 6 rfl rfl)
theorem dX1_move_100 : decode cX1_move 100 = .ok (.aload_n 0, 1) := dk_42 (dk_at dksX1_move_4 8 rfl rfl)
theorem dX1_move_101 : decode cX1_move 101 = .ok (.aload 4, 2) := dk_25 4 (dk_at dksX1_move_4 9 rfl rfl)
theorem dX1_move_103 : decode cX1_move 103 = .ok (.invokevirtual 150, 3) := dk_182 0 150 (dk_at dksX1_move_4 11 rfl rfl)
theorem dX1_move_106 : decode cX1_move 106 = .ok (.astore 7, 2) := dk_58 7 (dk_at dksX1_move_4 14 rfl rfl)
theorem dX1_move_108 : decode cX1_move 108 = .ok (.aload 4, 2) := dk_25 4 (dk_at dksX1_move_4 16 rfl rfl)
theorem dX1_move_110 : decode cX1_move 110 = .ok (.aload 5, 2) := dk_25 5 (dk_at dksX1_move_4 18 rfl rfl)
theorem dX1_move_112 : decode cX1_move 112 = .ok (.putfield 98, 3) := dk_181 0 98 (dk_at dksX1_move_4 20 rfl rfl)
theorem dX1_move_115 : decode cX1_move 115 = .ok (.aload 4, 2) := dk_25 4 (dk_at dksX1_move_5 0 rfl rfl)
theorem dX1_move_117 : decode cX1_move 117 = .ok (.iload_n 3, 1) := dk_29 (dk_at dksX1_move_5 2 rfl rfl)
theorem dX1_move_118 : decode cX1_move 118 = .ok (.putfield 102, 3) := dk_181 0 102 (dk_at dksX1_move_5 3 rfl rfl)
theorem dX1_move_121 : decode cX1_move 121 = .ok (.aload_n 0, 1) := dk_42 (dk_at dksX1_move_5 6 rfl rfl)
theorem dX1_move_122 : decode cX1_move 122 = .ok (.aload 4, 2) := dk_25 4 (dk_at dksX1_move_5 7 rfl rfl)
theorem dX1_move_124 : decode cX1_move 124 = .ok (.invokevirtual 150, 3) := dk_182 0 150 (dk_at dksX1_move_5 9 rfl rfl)
theorem dX1_move_127 : decode cX1_move 127 = .ok (.astore 8, 2) := dk_58 8 (dk_at dksX1_move_5 12 rfl rfl)
theorem dX1_move_129 : decode cX1_move 129 = .ok (.aload 7, 2) := dk_25 7 (dk_at dksX1_move_5 14 rfl rfl)
theorem dX1_move_131 : decode cX1_move 131 = .ok (.aload 8, 2) := dk_25 8 (dk_at dksX1_move_5 16 rfl rfl)
theorem dX1_move_133 : decode cX1_move 133 = .ok (.if_acmp .eq 14, 3) := dk_165 0 14 (dk_at dksX1_move_5 18 rfl rfl)
theorem dX1_move_136 : decode cX1_move 136 = .ok (.aload_n 0, 1) := dk_42 (dk_at dksX1_move_5 21 rfl rfl)
theorem dX1_move_137 : decode cX1_move 137 = .ok (.aload 7, 2) := dk_25 7 (dk_at dksX1_move_5 22 rfl rfl)
theorem dX1_move_139 : decode cX1_move 139 = .ok (.getstatic 205, 3) := dk_178 0 205 (dk_at dksX1_move_6 0 rfl rfl)
theorem dX1_move_142 : decode cX1_move 142 = .ok (.aload 4, 2) := dk_25 4 (dk_at dksX1_move_6 3 rfl rfl)
theorem dX1_move_144 : decode cX1_move 144 = .ok (.invokevirtual 160, 3) := dk_182 0 160 (dk_at dksX1_move_6 5 rfl rfl)
theorem dX1_move_147 : decode cX1_move 147 = .ok (.aload_n 0, 1) := dk_42 (dk_at dksX1_move_6 8 rfl rfl)
theorem dX1_move_148 : decode cX1_move 148 = .ok (.aload 8, 2) := dk_25 8 (dk_at dksX1_move_6 9 rfl rfl)
theorem dX1_move_150 : decode cX1_move 150 = .ok (.getstatic 154, 3) := dk_178 0 154 (dk_at dksX1_move_6 11 rfl rfl)
theorem dX1_move_153 : decode cX1_move 153 = .ok (.aload 4, 2) := dk_25 4 (dk_at dksX1_move_6 14 rfl rfl)
theorem dX1_move_155 : decode cX1_move 155 = .ok (.invokevirtual 160, 3) := dk_182 0 160 (dk_at dksX1_move_6 16 rfl rfl)
theorem dX1_move_158 : decode cX1_move 158 = .ok (.iload 6, 2) := dk_21 6 (dk_at dksX1_move_6 19 rfl rfl)
theorem dX1_move_160 : decode cX1_move 160 = .ok (.ireturn, 1) := dk_172 (dk_at dksX1_move_6 21 rfl rfl)
abbrev cX1_wouldNest : ByteArray := prog_1_method_18_code
def yX1_wouldNest : MethodName := ⟨RX1, "wouldNest", "(LSearchKeeper$Node;LSearchKeeper$Node;)Z"⟩
def dkwX1_wouldNest_4 : List UInt8 := [153, 0, 12, 21, 4, 153, 0, 7, 4, 167, 0, 4, 3, 172]
abbrev dktX1_wouldNest_4 : List UInt8 := dkwX1_wouldNest_4 ++ []
def dkwX1_wouldNest_3 : List UInt8 := [154, 0, 12, 25, 6, 44, 182, 0, 198, 153, 0, 7, 4, 167, 0, 4, 3, 54, 4, 167, 255, 182, 29]
abbrev dktX1_wouldNest_3 : List UInt8 := dkwX1_wouldNest_3 ++ dktX1_wouldNest_4
def dkwX1_wouldNest_2 : List UInt8 := [43, 165, 0, 15, 25, 6, 180, 0, 122, 43, 182, 0, 125, 153, 0, 7, 4, 167, 0, 4, 3, 62, 21, 4]
abbrev dktX1_wouldNest_2 : List UInt8 := dkwX1_wouldNest_2 ++ dktX1_wouldNest_3
def dkwX1_wouldNest_1 : List UInt8 := [153, 0, 70, 25, 5, 185, 0, 116, 1, 0, 192, 0, 120, 58, 6, 29, 154, 0, 24, 25, 6, 180, 0, 122]
abbrev dktX1_wouldNest_1 : List UInt8 := dkwX1_wouldNest_1 ++ dktX1_wouldNest_2
def dkwX1_wouldNest_0 : List UInt8 := [3, 62, 3, 54, 4, 42, 180, 0, 28, 185, 0, 106, 1, 0, 58, 5, 25, 5, 185, 0, 110, 1, 0]
abbrev dktX1_wouldNest_0 : List UInt8 := dkwX1_wouldNest_0 ++ dktX1_wouldNest_1
theorem dksX1_wouldNest_0 : cX1_wouldNest.data.toList.drop 0 = dktX1_wouldNest_0 := by decide +kernel
theorem dksX1_wouldNest_1 : cX1_wouldNest.data.toList.drop 23 = dktX1_wouldNest_1 := dk_seg dksX1_wouldNest_0 23 rfl rfl
theorem dksX1_wouldNest_2 : cX1_wouldNest.data.toList.drop 47 = dktX1_wouldNest_2 := dk_seg dksX1_wouldNest_1 24 rfl rfl
theorem dksX1_wouldNest_3 : cX1_wouldNest.data.toList.drop 71 = dktX1_wouldNest_3 := dk_seg dksX1_wouldNest_2 24 rfl rfl
theorem dksX1_wouldNest_4 : cX1_wouldNest.data.toList.drop 94 = dktX1_wouldNest_4 := dk_seg dksX1_wouldNest_3 23 rfl rfl
theorem dX1_wouldNest_0 : decode cX1_wouldNest 0 = .ok (.iconst 0, 1) := dk_3 (dk_at dksX1_wouldNest_0 0 rfl rfl)
theorem dX1_wouldNest_1 : decode cX1_wouldNest 1 = .ok (.istore_n 3, 1) := dk_62 (dk_at dksX1_wouldNest_0 1 rfl rfl)
theorem dX1_wouldNest_2 : decode cX1_wouldNest 2 = .ok (.iconst 0, 1) := dk_3 (dk_at dksX1_wouldNest_0 2 rfl rfl)
theorem dX1_wouldNest_3 : decode cX1_wouldNest 3 = .ok (.istore 4, 2) := dk_54 4 (dk_at dksX1_wouldNest_0 3 rfl rfl)
theorem dX1_wouldNest_5 : decode cX1_wouldNest 5 = .ok (.aload_n 0, 1) := dk_42 (dk_at dksX1_wouldNest_0 5 rfl rfl)
theorem dX1_wouldNest_6 : decode cX1_wouldNest 6 = .ok (.getfield 28, 3) := dk_180 0 28 (dk_at dksX1_wouldNest_0 6 rfl rfl)
theorem dX1_wouldNest_9 : decode cX1_wouldNest 9 = .ok (.invokeinterface 106 1, 5) := by decide +kernel
theorem dX1_wouldNest_14 : decode cX1_wouldNest 14 = .ok (.astore 5, 2) := dk_58 5 (dk_at dksX1_wouldNest_0 14 rfl rfl)
theorem dX1_wouldNest_16 : decode cX1_wouldNest 16 = .ok (.aload 5, 2) := dk_25 5 (dk_at dksX1_wouldNest_0 16 rfl rfl)
theorem dX1_wouldNest_18 : decode cX1_wouldNest 18 = .ok (.invokeinterface 110 1, 5) := by decide +kernel
theorem dX1_wouldNest_23 : decode cX1_wouldNest 23 = .ok (.ifCond .eq 70, 3) := dk_153 0 70 (dk_at dksX1_wouldNest_1 0 rfl rfl)
theorem dX1_wouldNest_26 : decode cX1_wouldNest 26 = .ok (.aload 5, 2) := dk_25 5 (dk_at dksX1_wouldNest_1 3 rfl rfl)
theorem dX1_wouldNest_28 : decode cX1_wouldNest 28 = .ok (.invokeinterface 116 1, 5) := by decide +kernel
theorem dX1_wouldNest_33 : decode cX1_wouldNest 33 = .ok (.checkcast 120, 3) := dk_192 0 120 (dk_at dksX1_wouldNest_1 10 rfl rfl)
theorem dX1_wouldNest_36 : decode cX1_wouldNest 36 = .ok (.astore 6, 2) := dk_58 6 (dk_at dksX1_wouldNest_1 13 rfl rfl)
theorem dX1_wouldNest_38 : decode cX1_wouldNest 38 = .ok (.iload_n 3, 1) := dk_29 (dk_at dksX1_wouldNest_1 15 rfl rfl)
theorem dX1_wouldNest_39 : decode cX1_wouldNest 39 = .ok (.ifCond .ne 24, 3) := dk_154 0 24 (dk_at dksX1_wouldNest_1 16 rfl rfl)
theorem dX1_wouldNest_42 : decode cX1_wouldNest 42 = .ok (.aload 6, 2) := dk_25 6 (dk_at dksX1_wouldNest_1 19 rfl rfl)
theorem dX1_wouldNest_44 : decode cX1_wouldNest 44 = .ok (.getfield 122, 3) := dk_180 0 122 (dk_at dksX1_wouldNest_1 21 rfl rfl)
theorem dX1_wouldNest_47 : decode cX1_wouldNest 47 = .ok (.aload_n 1, 1) := dk_43 (dk_at dksX1_wouldNest_2 0 rfl rfl)
theorem dX1_wouldNest_48 : decode cX1_wouldNest 48 = .ok (.if_acmp .eq 15, 3) := dk_165 0 15 (dk_at dksX1_wouldNest_2 1 rfl rfl)
theorem dX1_wouldNest_51 : decode cX1_wouldNest 51 = .ok (.aload 6, 2) := dk_25 6 (dk_at dksX1_wouldNest_2 4 rfl rfl)
theorem dX1_wouldNest_53 : decode cX1_wouldNest 53 = .ok (.getfield 122, 3) := dk_180 0 122 (dk_at dksX1_wouldNest_2 6 rfl rfl)
theorem dX1_wouldNest_56 : decode cX1_wouldNest 56 = .ok (.aload_n 1, 1) := dk_43 (dk_at dksX1_wouldNest_2 9 rfl rfl)
theorem dX1_wouldNest_57 : decode cX1_wouldNest 57 = .ok (.invokevirtual 125, 3) := dk_182 0 125 (dk_at dksX1_wouldNest_2 10 rfl rfl)
theorem dX1_wouldNest_60 : decode cX1_wouldNest 60 = .ok (.ifCond .eq 7, 3) := dk_153 0 7 (dk_at dksX1_wouldNest_2 13 rfl rfl)
theorem dX1_wouldNest_63 : decode cX1_wouldNest 63 = .ok (.iconst 1, 1) := dk_4 (dk_at dksX1_wouldNest_2 16 rfl rfl)
theorem dX1_wouldNest_64 : decode cX1_wouldNest 64 = .ok (.goto 4, 3) := dk_167 0 4 (dk_at dksX1_wouldNest_2 17 rfl rfl)
theorem dX1_wouldNest_67 : decode cX1_wouldNest 67 = .ok (.iconst 0, 1) := dk_3 (dk_at dksX1_wouldNest_2 20 rfl rfl)
theorem dX1_wouldNest_68 : decode cX1_wouldNest 68 = .ok (.istore_n 3, 1) := dk_62 (dk_at dksX1_wouldNest_2 21 rfl rfl)
theorem dX1_wouldNest_69 : decode cX1_wouldNest 69 = .ok (.iload 4, 2) := dk_21 4 (dk_at dksX1_wouldNest_2 22 rfl rfl)
theorem dX1_wouldNest_71 : decode cX1_wouldNest 71 = .ok (.ifCond .ne 12, 3) := dk_154 0 12 (dk_at dksX1_wouldNest_3 0 rfl rfl)
theorem dX1_wouldNest_74 : decode cX1_wouldNest 74 = .ok (.aload 6, 2) := dk_25 6 (dk_at dksX1_wouldNest_3 3 rfl rfl)
theorem dX1_wouldNest_76 : decode cX1_wouldNest 76 = .ok (.aload_n 2, 1) := dk_44 (dk_at dksX1_wouldNest_3 5 rfl rfl)
theorem dX1_wouldNest_77 : decode cX1_wouldNest 77 = .ok (.invokevirtual 198, 3) := dk_182 0 198 (dk_at dksX1_wouldNest_3 6 rfl rfl)
theorem dX1_wouldNest_80 : decode cX1_wouldNest 80 = .ok (.ifCond .eq 7, 3) := dk_153 0 7 (dk_at dksX1_wouldNest_3 9 rfl rfl)
theorem dX1_wouldNest_83 : decode cX1_wouldNest 83 = .ok (.iconst 1, 1) := dk_4 (dk_at dksX1_wouldNest_3 12 rfl rfl)
theorem dX1_wouldNest_84 : decode cX1_wouldNest 84 = .ok (.goto 4, 3) := dk_167 0 4 (dk_at dksX1_wouldNest_3 13 rfl rfl)
theorem dX1_wouldNest_87 : decode cX1_wouldNest 87 = .ok (.iconst 0, 1) := dk_3 (dk_at dksX1_wouldNest_3 16 rfl rfl)
theorem dX1_wouldNest_88 : decode cX1_wouldNest 88 = .ok (.istore 4, 2) := dk_54 4 (dk_at dksX1_wouldNest_3 17 rfl rfl)
theorem dX1_wouldNest_90 : decode cX1_wouldNest 90 = .ok (.goto (-74), 3) := dk_167 255 182 (dk_at dksX1_wouldNest_3 19 rfl rfl)
theorem dX1_wouldNest_93 : decode cX1_wouldNest 93 = .ok (.iload_n 3, 1) := dk_29 (dk_at dksX1_wouldNest_3 22 rfl rfl)
theorem dX1_wouldNest_94 : decode cX1_wouldNest 94 = .ok (.ifCond .eq 12, 3) := dk_153 0 12 (dk_at dksX1_wouldNest_4 0 rfl rfl)
theorem dX1_wouldNest_97 : decode cX1_wouldNest 97 = .ok (.iload 4, 2) := dk_21 4 (dk_at dksX1_wouldNest_4 3 rfl rfl)
theorem dX1_wouldNest_99 : decode cX1_wouldNest 99 = .ok (.ifCond .eq 7, 3) := dk_153 0 7 (dk_at dksX1_wouldNest_4 5 rfl rfl)
theorem dX1_wouldNest_102 : decode cX1_wouldNest 102 = .ok (.iconst 1, 1) := dk_4 (dk_at dksX1_wouldNest_4 8 rfl rfl)
theorem dX1_wouldNest_103 : decode cX1_wouldNest 103 = .ok (.goto 4, 3) := dk_167 0 4 (dk_at dksX1_wouldNest_4 9 rfl rfl)
theorem dX1_wouldNest_106 : decode cX1_wouldNest 106 = .ok (.iconst 0, 1) := dk_3 (dk_at dksX1_wouldNest_4 12 rfl rfl)
theorem dX1_wouldNest_107 : decode cX1_wouldNest 107 = .ok (.ireturn, 1) := dk_172 (dk_at dksX1_wouldNest_4 13 rfl rfl)
abbrev cX1_remove : ByteArray := prog_1_method_20_code
def yX1_remove : MethodName := ⟨RX1, "remove", "(I)I"⟩
def dkwX1_remove_10 : List UInt8 := [167, 255, 217, 21, 4, 153, 0, 7, 42, 182, 0, 211, 29, 172]
abbrev dktX1_remove_10 : List UInt8 := dkwX1_remove_10 ++ []
def dkwX1_remove_9 : List UInt8 := [192, 0, 120, 180, 0, 122, 180, 0, 83, 153, 255, 230, 25, 5, 185, 0, 208, 1, 0, 4, 54, 4]
abbrev dktX1_remove_9 : List UInt8 := dkwX1_remove_9 ++ dktX1_remove_10
def dkwX1_remove_8 : List UInt8 := [185, 0, 106, 1, 0, 58, 5, 25, 5, 185, 0, 110, 1, 0, 153, 0, 35, 25, 5, 185, 0, 116, 1, 0]
abbrev dktX1_remove_8 : List UInt8 := dkwX1_remove_8 ++ dktX1_remove_9
def dkwX1_remove_7 : List UInt8 := [153, 0, 7, 4, 167, 0, 4, 3, 181, 0, 83, 132, 4, 255, 167, 255, 199, 3, 54, 4, 42, 180, 0, 28]
abbrev dktX1_remove_7 : List UInt8 := dkwX1_remove_7 ++ dktX1_remove_8
def dkwX1_remove_6 : List UInt8 := [58, 5, 25, 5, 25, 5, 180, 0, 83, 154, 0, 18, 25, 5, 44, 165, 0, 12, 25, 5, 44, 182, 0, 125]
abbrev dktX1_remove_6 : List UInt8 := dkwX1_remove_6 ++ dktX1_remove_7
def dkwX1_remove_5 : List UInt8 := [4, 100, 54, 4, 21, 4, 155, 0, 58, 42, 180, 0, 19, 21, 4, 185, 0, 79, 2, 0, 192, 0, 60]
abbrev dktX1_remove_5 : List UInt8 := dkwX1_remove_5 ++ dktX1_remove_6
def dkwX1_remove_4 : List UInt8 := [182, 0, 125, 153, 0, 6, 132, 3, 1, 132, 4, 1, 167, 255, 197, 42, 180, 0, 19, 185, 0, 71, 1, 0]
abbrev dktX1_remove_4 : List UInt8 := dkwX1_remove_4 ++ dktX1_remove_5
def dkwX1_remove_3 : List UInt8 := [192, 0, 60, 58, 5, 25, 5, 180, 0, 83, 154, 0, 21, 25, 5, 44, 165, 0, 12, 25, 5, 44]
abbrev dktX1_remove_3 : List UInt8 := dkwX1_remove_3 ++ dktX1_remove_4
def dkwX1_remove_2 : List UInt8 := [180, 0, 19, 185, 0, 71, 1, 0, 162, 0, 51, 42, 180, 0, 19, 21, 4, 185, 0, 79, 2, 0]
abbrev dktX1_remove_2 : List UInt8 := dkwX1_remove_2 ++ dktX1_remove_3
def dkwX1_remove_1 : List UInt8 := [184, 0, 94, 42, 42, 44, 182, 0, 150, 178, 0, 205, 44, 182, 0, 160, 3, 62, 3, 54, 4, 21, 4, 42]
abbrev dktX1_remove_1 : List UInt8 := dkwX1_remove_1 ++ dktX1_remove_2
def dkwX1_remove_0 : List UInt8 := [42, 27, 182, 0, 87, 77, 44, 198, 0, 14, 44, 180, 0, 98, 198, 0, 7, 4, 167, 0, 4, 3]
abbrev dktX1_remove_0 : List UInt8 := dkwX1_remove_0 ++ dktX1_remove_1
theorem dksX1_remove_0 : cX1_remove.data.toList.drop 0 = dktX1_remove_0 := by decide +kernel
theorem dksX1_remove_1 : cX1_remove.data.toList.drop 22 = dktX1_remove_1 := dk_seg dksX1_remove_0 22 rfl rfl
theorem dksX1_remove_2 : cX1_remove.data.toList.drop 46 = dktX1_remove_2 := dk_seg dksX1_remove_1 24 rfl rfl
theorem dksX1_remove_3 : cX1_remove.data.toList.drop 68 = dktX1_remove_3 := dk_seg dksX1_remove_2 22 rfl rfl
theorem dksX1_remove_4 : cX1_remove.data.toList.drop 90 = dktX1_remove_4 := dk_seg dksX1_remove_3 22 rfl rfl
theorem dksX1_remove_5 : cX1_remove.data.toList.drop 114 = dktX1_remove_5 := dk_seg dksX1_remove_4 24 rfl rfl
theorem dksX1_remove_6 : cX1_remove.data.toList.drop 137 = dktX1_remove_6 := dk_seg dksX1_remove_5 23 rfl rfl
theorem dksX1_remove_7 : cX1_remove.data.toList.drop 161 = dktX1_remove_7 := dk_seg dksX1_remove_6 24 rfl rfl
theorem dksX1_remove_8 : cX1_remove.data.toList.drop 185 = dktX1_remove_8 := dk_seg dksX1_remove_7 24 rfl rfl
theorem dksX1_remove_9 : cX1_remove.data.toList.drop 209 = dktX1_remove_9 := dk_seg dksX1_remove_8 24 rfl rfl
theorem dksX1_remove_10 : cX1_remove.data.toList.drop 231 = dktX1_remove_10 := dk_seg dksX1_remove_9 22 rfl rfl
theorem dX1_remove_0 : decode cX1_remove 0 = .ok (.aload_n 0, 1) := dk_42 (dk_at dksX1_remove_0 0 rfl rfl)
theorem dX1_remove_1 : decode cX1_remove 1 = .ok (.iload_n 1, 1) := dk_27 (dk_at dksX1_remove_0 1 rfl rfl)
theorem dX1_remove_2 : decode cX1_remove 2 = .ok (.invokevirtual 87, 3) := dk_182 0 87 (dk_at dksX1_remove_0 2 rfl rfl)
theorem dX1_remove_5 : decode cX1_remove 5 = .ok (.astore_n 2, 1) := dk_77 (dk_at dksX1_remove_0 5 rfl rfl)
theorem dX1_remove_6 : decode cX1_remove 6 = .ok (.aload_n 2, 1) := dk_44 (dk_at dksX1_remove_0 6 rfl rfl)
theorem dX1_remove_7 : decode cX1_remove 7 = .ok (.ifnull 14, 3) := dk_198 0 14 (dk_at dksX1_remove_0 7 rfl rfl)
theorem dX1_remove_10 : decode cX1_remove 10 = .ok (.aload_n 2, 1) := dk_44 (dk_at dksX1_remove_0 10 rfl rfl)
theorem dX1_remove_11 : decode cX1_remove 11 = .ok (.getfield 98, 3) := dk_180 0 98 (dk_at dksX1_remove_0 11 rfl rfl)
theorem dX1_remove_14 : decode cX1_remove 14 = .ok (.ifnull 7, 3) := dk_198 0 7 (dk_at dksX1_remove_0 14 rfl rfl)
theorem dX1_remove_17 : decode cX1_remove 17 = .ok (.iconst 1, 1) := dk_4 (dk_at dksX1_remove_0 17 rfl rfl)
theorem dX1_remove_18 : decode cX1_remove 18 = .ok (.goto 4, 3) := dk_167 0 4 (dk_at dksX1_remove_0 18 rfl rfl)
theorem dX1_remove_21 : decode cX1_remove 21 = .ok (.iconst 0, 1) := dk_3 (dk_at dksX1_remove_0 21 rfl rfl)
theorem dX1_remove_22 : decode cX1_remove 22 = .ok (.invokestatic 94, 3) := dk_184 0 94 (dk_at dksX1_remove_1 0 rfl rfl)
theorem dX1_remove_25 : decode cX1_remove 25 = .ok (.aload_n 0, 1) := dk_42 (dk_at dksX1_remove_1 3 rfl rfl)
theorem dX1_remove_26 : decode cX1_remove 26 = .ok (.aload_n 0, 1) := dk_42 (dk_at dksX1_remove_1 4 rfl rfl)
theorem dX1_remove_27 : decode cX1_remove 27 = .ok (.aload_n 2, 1) := dk_44 (dk_at dksX1_remove_1 5 rfl rfl)
theorem dX1_remove_28 : decode cX1_remove 28 = .ok (.invokevirtual 150, 3) := dk_182 0 150 (dk_at dksX1_remove_1 6 rfl rfl)
theorem dX1_remove_31 : decode cX1_remove 31 = .ok (.getstatic 205, 3) := dk_178 0 205 (dk_at dksX1_remove_1 9 rfl rfl)
theorem dX1_remove_34 : decode cX1_remove 34 = .ok (.aload_n 2, 1) := dk_44 (dk_at dksX1_remove_1 12 rfl rfl)
theorem dX1_remove_35 : decode cX1_remove 35 = .ok (.invokevirtual 160, 3) := dk_182 0 160 (dk_at dksX1_remove_1 13 rfl rfl)
theorem dX1_remove_38 : decode cX1_remove 38 = .ok (.iconst 0, 1) := dk_3 (dk_at dksX1_remove_1 16 rfl rfl)
theorem dX1_remove_39 : decode cX1_remove 39 = .ok (.istore_n 3, 1) := dk_62 (dk_at dksX1_remove_1 17 rfl rfl)
theorem dX1_remove_40 : decode cX1_remove 40 = .ok (.iconst 0, 1) := dk_3 (dk_at dksX1_remove_1 18 rfl rfl)
theorem dX1_remove_41 : decode cX1_remove 41 = .ok (.istore 4, 2) := dk_54 4 (dk_at dksX1_remove_1 19 rfl rfl)
theorem dX1_remove_43 : decode cX1_remove 43 = .ok (.iload 4, 2) := dk_21 4 (dk_at dksX1_remove_1 21 rfl rfl)
theorem dX1_remove_45 : decode cX1_remove 45 = .ok (.aload_n 0, 1) := dk_42 (dk_at dksX1_remove_1 23 rfl rfl)
theorem dX1_remove_46 : decode cX1_remove 46 = .ok (.getfield 19, 3) := dk_180 0 19 (dk_at dksX1_remove_2 0 rfl rfl)
theorem dX1_remove_49 : decode cX1_remove 49 = .ok (.invokeinterface 71 1, 5) := by decide +kernel
theorem dX1_remove_54 : decode cX1_remove 54 = .ok (.if_icmp .ge 51, 3) := dk_162 0 51 (dk_at dksX1_remove_2 8 rfl rfl)
theorem dX1_remove_57 : decode cX1_remove 57 = .ok (.aload_n 0, 1) := dk_42 (dk_at dksX1_remove_2 11 rfl rfl)
theorem dX1_remove_58 : decode cX1_remove 58 = .ok (.getfield 19, 3) := dk_180 0 19 (dk_at dksX1_remove_2 12 rfl rfl)
theorem dX1_remove_61 : decode cX1_remove 61 = .ok (.iload 4, 2) := dk_21 4 (dk_at dksX1_remove_2 15 rfl rfl)
theorem dX1_remove_63 : decode cX1_remove 63 = .ok (.invokeinterface 79 2, 5) := by decide +kernel
theorem dX1_remove_68 : decode cX1_remove 68 = .ok (.checkcast 60, 3) := dk_192 0 60 (dk_at dksX1_remove_3 0 rfl rfl)
theorem dX1_remove_71 : decode cX1_remove 71 = .ok (.astore 5, 2) := dk_58 5 (dk_at dksX1_remove_3 3 rfl rfl)
theorem dX1_remove_73 : decode cX1_remove 73 = .ok (.aload 5, 2) := dk_25 5 (dk_at dksX1_remove_3 5 rfl rfl)
theorem dX1_remove_75 : decode cX1_remove 75 = .ok (.getfield 83, 3) := dk_180 0 83 (dk_at dksX1_remove_3 7 rfl rfl)
theorem dX1_remove_78 : decode cX1_remove 78 = .ok (.ifCond .ne 21, 3) := dk_154 0 21 (dk_at dksX1_remove_3 10 rfl rfl)
theorem dX1_remove_81 : decode cX1_remove 81 = .ok (.aload 5, 2) := dk_25 5 (dk_at dksX1_remove_3 13 rfl rfl)
theorem dX1_remove_83 : decode cX1_remove 83 = .ok (.aload_n 2, 1) := dk_44 (dk_at dksX1_remove_3 15 rfl rfl)
theorem dX1_remove_84 : decode cX1_remove 84 = .ok (.if_acmp .eq 12, 3) := dk_165 0 12 (dk_at dksX1_remove_3 16 rfl rfl)
theorem dX1_remove_87 : decode cX1_remove 87 = .ok (.aload 5, 2) := dk_25 5 (dk_at dksX1_remove_3 19 rfl rfl)
theorem dX1_remove_89 : decode cX1_remove 89 = .ok (.aload_n 2, 1) := dk_44 (dk_at dksX1_remove_3 21 rfl rfl)
theorem dX1_remove_90 : decode cX1_remove 90 = .ok (.invokevirtual 125, 3) := dk_182 0 125 (dk_at dksX1_remove_4 0 rfl rfl)
theorem dX1_remove_93 : decode cX1_remove 93 = .ok (.ifCond .eq 6, 3) := dk_153 0 6 (dk_at dksX1_remove_4 3 rfl rfl)
theorem dX1_remove_96 : decode cX1_remove 96 = .ok (.iinc 3 1, 3) := dk_132 3 1 (dk_at dksX1_remove_4 6 rfl rfl)
theorem dX1_remove_99 : decode cX1_remove 99 = .ok (.iinc 4 1, 3) := dk_132 4 1 (dk_at dksX1_remove_4 9 rfl rfl)
theorem dX1_remove_102 : decode cX1_remove 102 = .ok (.goto (-59), 3) := dk_167 255 197 (dk_at dksX1_remove_4 12 rfl rfl)
theorem dX1_remove_105 : decode cX1_remove 105 = .ok (.aload_n 0, 1) := dk_42 (dk_at dksX1_remove_4 15 rfl rfl)
theorem dX1_remove_106 : decode cX1_remove 106 = .ok (.getfield 19, 3) := dk_180 0 19 (dk_at dksX1_remove_4 16 rfl rfl)
theorem dX1_remove_109 : decode cX1_remove 109 = .ok (.invokeinterface 71 1, 5) := by decide +kernel
theorem dX1_remove_114 : decode cX1_remove 114 = .ok (.iconst 1, 1) := dk_4 (dk_at dksX1_remove_5 0 rfl rfl)
theorem dX1_remove_115 : decode cX1_remove 115 = .ok (.isub, 1) := dk_100 (dk_at dksX1_remove_5 1 rfl rfl)
theorem dX1_remove_116 : decode cX1_remove 116 = .ok (.istore 4, 2) := dk_54 4 (dk_at dksX1_remove_5 2 rfl rfl)
theorem dX1_remove_118 : decode cX1_remove 118 = .ok (.iload 4, 2) := dk_21 4 (dk_at dksX1_remove_5 4 rfl rfl)
theorem dX1_remove_120 : decode cX1_remove 120 = .ok (.ifCond .lt 58, 3) := dk_155 0 58 (dk_at dksX1_remove_5 6 rfl rfl)
theorem dX1_remove_123 : decode cX1_remove 123 = .ok (.aload_n 0, 1) := dk_42 (dk_at dksX1_remove_5 9 rfl rfl)
theorem dX1_remove_124 : decode cX1_remove 124 = .ok (.getfield 19, 3) := dk_180 0 19 (dk_at dksX1_remove_5 10 rfl rfl)
theorem dX1_remove_127 : decode cX1_remove 127 = .ok (.iload 4, 2) := dk_21 4 (dk_at dksX1_remove_5 13 rfl rfl)
theorem dX1_remove_129 : decode cX1_remove 129 = .ok (.invokeinterface 79 2, 5) := by decide +kernel
theorem dX1_remove_134 : decode cX1_remove 134 = .ok (.checkcast 60, 3) := dk_192 0 60 (dk_at dksX1_remove_5 20 rfl rfl)
theorem dX1_remove_137 : decode cX1_remove 137 = .ok (.astore 5, 2) := dk_58 5 (dk_at dksX1_remove_6 0 rfl rfl)
theorem dX1_remove_139 : decode cX1_remove 139 = .ok (.aload 5, 2) := dk_25 5 (dk_at dksX1_remove_6 2 rfl rfl)
theorem dX1_remove_141 : decode cX1_remove 141 = .ok (.aload 5, 2) := dk_25 5 (dk_at dksX1_remove_6 4 rfl rfl)
theorem dX1_remove_143 : decode cX1_remove 143 = .ok (.getfield 83, 3) := dk_180 0 83 (dk_at dksX1_remove_6 6 rfl rfl)
theorem dX1_remove_146 : decode cX1_remove 146 = .ok (.ifCond .ne 18, 3) := dk_154 0 18 (dk_at dksX1_remove_6 9 rfl rfl)
theorem dX1_remove_149 : decode cX1_remove 149 = .ok (.aload 5, 2) := dk_25 5 (dk_at dksX1_remove_6 12 rfl rfl)
theorem dX1_remove_151 : decode cX1_remove 151 = .ok (.aload_n 2, 1) := dk_44 (dk_at dksX1_remove_6 14 rfl rfl)
theorem dX1_remove_152 : decode cX1_remove 152 = .ok (.if_acmp .eq 12, 3) := dk_165 0 12 (dk_at dksX1_remove_6 15 rfl rfl)
theorem dX1_remove_155 : decode cX1_remove 155 = .ok (.aload 5, 2) := dk_25 5 (dk_at dksX1_remove_6 18 rfl rfl)
theorem dX1_remove_157 : decode cX1_remove 157 = .ok (.aload_n 2, 1) := dk_44 (dk_at dksX1_remove_6 20 rfl rfl)
theorem dX1_remove_158 : decode cX1_remove 158 = .ok (.invokevirtual 125, 3) := dk_182 0 125 (dk_at dksX1_remove_6 21 rfl rfl)
theorem dX1_remove_161 : decode cX1_remove 161 = .ok (.ifCond .eq 7, 3) := dk_153 0 7 (dk_at dksX1_remove_7 0 rfl rfl)
theorem dX1_remove_164 : decode cX1_remove 164 = .ok (.iconst 1, 1) := dk_4 (dk_at dksX1_remove_7 3 rfl rfl)
theorem dX1_remove_165 : decode cX1_remove 165 = .ok (.goto 4, 3) := dk_167 0 4 (dk_at dksX1_remove_7 4 rfl rfl)
theorem dX1_remove_168 : decode cX1_remove 168 = .ok (.iconst 0, 1) := dk_3 (dk_at dksX1_remove_7 7 rfl rfl)
theorem dX1_remove_169 : decode cX1_remove 169 = .ok (.putfield 83, 3) := dk_181 0 83 (dk_at dksX1_remove_7 8 rfl rfl)
theorem dX1_remove_172 : decode cX1_remove 172 = .ok (.iinc 4 (-1), 3) := dk_132 4 255 (dk_at dksX1_remove_7 11 rfl rfl)
theorem dX1_remove_175 : decode cX1_remove 175 = .ok (.goto (-57), 3) := dk_167 255 199 (dk_at dksX1_remove_7 14 rfl rfl)
theorem dX1_remove_178 : decode cX1_remove 178 = .ok (.iconst 0, 1) := dk_3 (dk_at dksX1_remove_7 17 rfl rfl)
theorem dX1_remove_179 : decode cX1_remove 179 = .ok (.istore 4, 2) := dk_54 4 (dk_at dksX1_remove_7 18 rfl rfl)
theorem dX1_remove_181 : decode cX1_remove 181 = .ok (.aload_n 0, 1) := dk_42 (dk_at dksX1_remove_7 20 rfl rfl)
theorem dX1_remove_182 : decode cX1_remove 182 = .ok (.getfield 28, 3) := dk_180 0 28 (dk_at dksX1_remove_7 21 rfl rfl)
theorem dX1_remove_185 : decode cX1_remove 185 = .ok (.invokeinterface 106 1, 5) := by decide +kernel
theorem dX1_remove_190 : decode cX1_remove 190 = .ok (.astore 5, 2) := dk_58 5 (dk_at dksX1_remove_8 5 rfl rfl)
theorem dX1_remove_192 : decode cX1_remove 192 = .ok (.aload 5, 2) := dk_25 5 (dk_at dksX1_remove_8 7 rfl rfl)
theorem dX1_remove_194 : decode cX1_remove 194 = .ok (.invokeinterface 110 1, 5) := by decide +kernel
theorem dX1_remove_199 : decode cX1_remove 199 = .ok (.ifCond .eq 35, 3) := dk_153 0 35 (dk_at dksX1_remove_8 14 rfl rfl)
theorem dX1_remove_202 : decode cX1_remove 202 = .ok (.aload 5, 2) := dk_25 5 (dk_at dksX1_remove_8 17 rfl rfl)
theorem dX1_remove_204 : decode cX1_remove 204 = .ok (.invokeinterface 116 1, 5) := by decide +kernel
theorem dX1_remove_209 : decode cX1_remove 209 = .ok (.checkcast 120, 3) := dk_192 0 120 (dk_at dksX1_remove_9 0 rfl rfl)
theorem dX1_remove_212 : decode cX1_remove 212 = .ok (.getfield 122, 3) := dk_180 0 122 (dk_at dksX1_remove_9 3 rfl rfl)
theorem dX1_remove_215 : decode cX1_remove 215 = .ok (.getfield 83, 3) := dk_180 0 83 (dk_at dksX1_remove_9 6 rfl rfl)
theorem dX1_remove_218 : decode cX1_remove 218 = .ok (.ifCond .eq (-26), 3) := dk_153 255 230 (dk_at dksX1_remove_9 9 rfl rfl)
theorem dX1_remove_221 : decode cX1_remove 221 = .ok (.aload 5, 2) := dk_25 5 (dk_at dksX1_remove_9 12 rfl rfl)
theorem dX1_remove_223 : decode cX1_remove 223 = .ok (.invokeinterface 208 1, 5) := by decide +kernel
theorem dX1_remove_228 : decode cX1_remove 228 = .ok (.iconst 1, 1) := dk_4 (dk_at dksX1_remove_9 19 rfl rfl)
theorem dX1_remove_229 : decode cX1_remove 229 = .ok (.istore 4, 2) := dk_54 4 (dk_at dksX1_remove_9 20 rfl rfl)
theorem dX1_remove_231 : decode cX1_remove 231 = .ok (.goto (-39), 3) := dk_167 255 217 (dk_at dksX1_remove_10 0 rfl rfl)
theorem dX1_remove_234 : decode cX1_remove 234 = .ok (.iload 4, 2) := dk_21 4 (dk_at dksX1_remove_10 3 rfl rfl)
theorem dX1_remove_236 : decode cX1_remove 236 = .ok (.ifCond .eq 7, 3) := dk_153 0 7 (dk_at dksX1_remove_10 5 rfl rfl)
theorem dX1_remove_239 : decode cX1_remove 239 = .ok (.aload_n 0, 1) := dk_42 (dk_at dksX1_remove_10 8 rfl rfl)
theorem dX1_remove_240 : decode cX1_remove 240 = .ok (.invokevirtual 211, 3) := dk_182 0 211 (dk_at dksX1_remove_10 9 rfl rfl)
theorem dX1_remove_243 : decode cX1_remove 243 = .ok (.iload_n 3, 1) := dk_29 (dk_at dksX1_remove_10 12 rfl rfl)
theorem dX1_remove_244 : decode cX1_remove 244 = .ok (.ireturn, 1) := dk_172 (dk_at dksX1_remove_10 13 rfl rfl)
abbrev cX1_lookAtAll : ByteArray := prog_1_method_34_code
def yX1_lookAtAll : MethodName := ⟨RX1, "lookAtAll", "()V"⟩
def dkwX1_lookAtAll_1 : List UInt8 := [180, 1, 22, 3, 182, 1, 23, 132, 1, 1, 167, 255, 224, 177]
abbrev dktX1_lookAtAll_1 : List UInt8 := dkwX1_lookAtAll_1 ++ []
def dkwX1_lookAtAll_0 : List UInt8 := [3, 60, 27, 16, 60, 162, 0, 32, 42, 180, 0, 33, 27, 50, 198, 0, 17, 42, 42, 180, 0, 33, 27, 50]
abbrev dktX1_lookAtAll_0 : List UInt8 := dkwX1_lookAtAll_0 ++ dktX1_lookAtAll_1
theorem dksX1_lookAtAll_0 : cX1_lookAtAll.data.toList.drop 0 = dktX1_lookAtAll_0 := by decide +kernel
theorem dksX1_lookAtAll_1 : cX1_lookAtAll.data.toList.drop 24 = dktX1_lookAtAll_1 := dk_seg dksX1_lookAtAll_0 24 rfl rfl
theorem dX1_lookAtAll_0 : decode cX1_lookAtAll 0 = .ok (.iconst 0, 1) := dk_3 (dk_at dksX1_lookAtAll_0 0 rfl rfl)
theorem dX1_lookAtAll_1 : decode cX1_lookAtAll 1 = .ok (.istore_n 1, 1) := dk_60 (dk_at dksX1_lookAtAll_0 1 rfl rfl)
theorem dX1_lookAtAll_2 : decode cX1_lookAtAll 2 = .ok (.iload_n 1, 1) := dk_27 (dk_at dksX1_lookAtAll_0 2 rfl rfl)
theorem dX1_lookAtAll_3 : decode cX1_lookAtAll 3 = .ok (.bipush 60, 2) := dk_16 60 (dk_at dksX1_lookAtAll_0 3 rfl rfl)
theorem dX1_lookAtAll_5 : decode cX1_lookAtAll 5 = .ok (.if_icmp .ge 32, 3) := dk_162 0 32 (dk_at dksX1_lookAtAll_0 5 rfl rfl)
theorem dX1_lookAtAll_8 : decode cX1_lookAtAll 8 = .ok (.aload_n 0, 1) := dk_42 (dk_at dksX1_lookAtAll_0 8 rfl rfl)
theorem dX1_lookAtAll_9 : decode cX1_lookAtAll 9 = .ok (.getfield 33, 3) := dk_180 0 33 (dk_at dksX1_lookAtAll_0 9 rfl rfl)
theorem dX1_lookAtAll_12 : decode cX1_lookAtAll 12 = .ok (.iload_n 1, 1) := dk_27 (dk_at dksX1_lookAtAll_0 12 rfl rfl)
theorem dX1_lookAtAll_13 : decode cX1_lookAtAll 13 = .ok (.aaload, 1) := dk_50 (dk_at dksX1_lookAtAll_0 13 rfl rfl)
theorem dX1_lookAtAll_14 : decode cX1_lookAtAll 14 = .ok (.ifnull 17, 3) := dk_198 0 17 (dk_at dksX1_lookAtAll_0 14 rfl rfl)
theorem dX1_lookAtAll_17 : decode cX1_lookAtAll 17 = .ok (.aload_n 0, 1) := dk_42 (dk_at dksX1_lookAtAll_0 17 rfl rfl)
theorem dX1_lookAtAll_18 : decode cX1_lookAtAll 18 = .ok (.aload_n 0, 1) := dk_42 (dk_at dksX1_lookAtAll_0 18 rfl rfl)
theorem dX1_lookAtAll_19 : decode cX1_lookAtAll 19 = .ok (.getfield 33, 3) := dk_180 0 33 (dk_at dksX1_lookAtAll_0 19 rfl rfl)
theorem dX1_lookAtAll_22 : decode cX1_lookAtAll 22 = .ok (.iload_n 1, 1) := dk_27 (dk_at dksX1_lookAtAll_0 22 rfl rfl)
theorem dX1_lookAtAll_23 : decode cX1_lookAtAll 23 = .ok (.aaload, 1) := dk_50 (dk_at dksX1_lookAtAll_0 23 rfl rfl)
theorem dX1_lookAtAll_24 : decode cX1_lookAtAll 24 = .ok (.getfield 278, 3) := dk_180 1 22 (dk_at dksX1_lookAtAll_1 0 rfl rfl)
theorem dX1_lookAtAll_27 : decode cX1_lookAtAll 27 = .ok (.iconst 0, 1) := dk_3 (dk_at dksX1_lookAtAll_1 3 rfl rfl)
theorem dX1_lookAtAll_28 : decode cX1_lookAtAll 28 = .ok (.invokevirtual 279, 3) := dk_182 1 23 (dk_at dksX1_lookAtAll_1 4 rfl rfl)
theorem dX1_lookAtAll_31 : decode cX1_lookAtAll 31 = .ok (.iinc 1 1, 3) := dk_132 1 1 (dk_at dksX1_lookAtAll_1 7 rfl rfl)
theorem dX1_lookAtAll_34 : decode cX1_lookAtAll 34 = .ok (.goto (-32), 3) := dk_167 255 224 (dk_at dksX1_lookAtAll_1 10 rfl rfl)
theorem dX1_lookAtAll_37 : decode cX1_lookAtAll 37 = .ok (.return_, 1) := dk_177 (dk_at dksX1_lookAtAll_1 13 rfl rfl)
abbrev cX1_add : ByteArray := prog_1_method_31_code
def yX1_add : MethodName := ⟨RX1, "add", "(LSearchKeeper$Node;Z)V"⟩
def dkwX1_add_2 : List UInt8 := [42, 180, 0, 37, 187, 1, 5, 89, 43, 28, 183, 1, 11, 182, 1, 14, 177]
abbrev dktX1_add_2 : List UInt8 := dkwX1_add_2 ++ []
def dkwX1_add_1 : List UInt8 := [192, 1, 5, 58, 4, 25, 4, 180, 1, 7, 43, 166, 0, 10, 25, 4, 28, 181, 1, 8, 177, 167, 255, 220]
abbrev dktX1_add_1 : List UInt8 := dkwX1_add_1 ++ dktX1_add_2
def dkwX1_add_0 : List UInt8 := [42, 180, 0, 37, 182, 1, 4, 78, 45, 185, 0, 110, 1, 0, 153, 0, 33, 45, 185, 0, 116, 1, 0]
abbrev dktX1_add_0 : List UInt8 := dkwX1_add_0 ++ dktX1_add_1
theorem dksX1_add_0 : cX1_add.data.toList.drop 0 = dktX1_add_0 := by decide +kernel
theorem dksX1_add_1 : cX1_add.data.toList.drop 23 = dktX1_add_1 := dk_seg dksX1_add_0 23 rfl rfl
theorem dksX1_add_2 : cX1_add.data.toList.drop 47 = dktX1_add_2 := dk_seg dksX1_add_1 24 rfl rfl
theorem dX1_add_0 : decode cX1_add 0 = .ok (.aload_n 0, 1) := dk_42 (dk_at dksX1_add_0 0 rfl rfl)
theorem dX1_add_1 : decode cX1_add 1 = .ok (.getfield 37, 3) := dk_180 0 37 (dk_at dksX1_add_0 1 rfl rfl)
theorem dX1_add_4 : decode cX1_add 4 = .ok (.invokevirtual 260, 3) := dk_182 1 4 (dk_at dksX1_add_0 4 rfl rfl)
theorem dX1_add_7 : decode cX1_add 7 = .ok (.astore_n 3, 1) := dk_78 (dk_at dksX1_add_0 7 rfl rfl)
theorem dX1_add_8 : decode cX1_add 8 = .ok (.aload_n 3, 1) := dk_45 (dk_at dksX1_add_0 8 rfl rfl)
theorem dX1_add_9 : decode cX1_add 9 = .ok (.invokeinterface 110 1, 5) := by decide +kernel
theorem dX1_add_14 : decode cX1_add 14 = .ok (.ifCond .eq 33, 3) := dk_153 0 33 (dk_at dksX1_add_0 14 rfl rfl)
theorem dX1_add_17 : decode cX1_add 17 = .ok (.aload_n 3, 1) := dk_45 (dk_at dksX1_add_0 17 rfl rfl)
theorem dX1_add_18 : decode cX1_add 18 = .ok (.invokeinterface 116 1, 5) := by decide +kernel
theorem dX1_add_23 : decode cX1_add 23 = .ok (.checkcast 261, 3) := dk_192 1 5 (dk_at dksX1_add_1 0 rfl rfl)
theorem dX1_add_26 : decode cX1_add 26 = .ok (.astore 4, 2) := dk_58 4 (dk_at dksX1_add_1 3 rfl rfl)
theorem dX1_add_28 : decode cX1_add 28 = .ok (.aload 4, 2) := dk_25 4 (dk_at dksX1_add_1 5 rfl rfl)
theorem dX1_add_30 : decode cX1_add 30 = .ok (.getfield 263, 3) := dk_180 1 7 (dk_at dksX1_add_1 7 rfl rfl)
theorem dX1_add_33 : decode cX1_add 33 = .ok (.aload_n 1, 1) := dk_43 (dk_at dksX1_add_1 10 rfl rfl)
theorem dX1_add_34 : decode cX1_add 34 = .ok (.if_acmp .ne 10, 3) := dk_166 0 10 (dk_at dksX1_add_1 11 rfl rfl)
theorem dX1_add_37 : decode cX1_add 37 = .ok (.aload 4, 2) := dk_25 4 (dk_at dksX1_add_1 14 rfl rfl)
theorem dX1_add_39 : decode cX1_add 39 = .ok (.iload_n 2, 1) := dk_28 (dk_at dksX1_add_1 16 rfl rfl)
theorem dX1_add_40 : decode cX1_add 40 = .ok (.putfield 264, 3) := dk_181 1 8 (dk_at dksX1_add_1 17 rfl rfl)
theorem dX1_add_43 : decode cX1_add 43 = .ok (.return_, 1) := dk_177 (dk_at dksX1_add_1 20 rfl rfl)
theorem dX1_add_44 : decode cX1_add 44 = .ok (.goto (-36), 3) := dk_167 255 220 (dk_at dksX1_add_1 21 rfl rfl)
theorem dX1_add_47 : decode cX1_add 47 = .ok (.aload_n 0, 1) := dk_42 (dk_at dksX1_add_2 0 rfl rfl)
theorem dX1_add_48 : decode cX1_add 48 = .ok (.getfield 37, 3) := dk_180 0 37 (dk_at dksX1_add_2 1 rfl rfl)
theorem dX1_add_51 : decode cX1_add 51 = .ok (.new 261, 3) := dk_187 1 5 (dk_at dksX1_add_2 4 rfl rfl)
theorem dX1_add_54 : decode cX1_add 54 = .ok (.dup, 1) := dk_89 (dk_at dksX1_add_2 7 rfl rfl)
theorem dX1_add_55 : decode cX1_add 55 = .ok (.aload_n 1, 1) := dk_43 (dk_at dksX1_add_2 8 rfl rfl)
theorem dX1_add_56 : decode cX1_add 56 = .ok (.iload_n 2, 1) := dk_28 (dk_at dksX1_add_2 9 rfl rfl)
theorem dX1_add_57 : decode cX1_add 57 = .ok (.invokespecial 267, 3) := dk_183 1 11 (dk_at dksX1_add_2 10 rfl rfl)
theorem dX1_add_60 : decode cX1_add 60 = .ok (.invokevirtual 270, 3) := dk_182 1 14 (dk_at dksX1_add_2 13 rfl rfl)
theorem dX1_add_63 : decode cX1_add 63 = .ok (.return_, 1) := dk_177 (dk_at dksX1_add_2 16 rfl rfl)
abbrev cX1_lock : ByteArray := prog_1_method_21_code
def yX1_lock : MethodName := ⟨RX1, "lock", "(IZ)Z"⟩
def dkwX1_lock_0 : List UInt8 := [42, 27, 182, 0, 172, 78, 45, 180, 0, 179, 54, 4, 45, 28, 181, 0, 179, 21, 4, 172]
abbrev dktX1_lock_0 : List UInt8 := dkwX1_lock_0 ++ []
theorem dksX1_lock_0 : cX1_lock.data.toList.drop 0 = dktX1_lock_0 := by decide +kernel
theorem dX1_lock_0 : decode cX1_lock 0 = .ok (.aload_n 0, 1) := dk_42 (dk_at dksX1_lock_0 0 rfl rfl)
theorem dX1_lock_1 : decode cX1_lock 1 = .ok (.iload_n 1, 1) := dk_27 (dk_at dksX1_lock_0 1 rfl rfl)
theorem dX1_lock_2 : decode cX1_lock 2 = .ok (.invokevirtual 172, 3) := dk_182 0 172 (dk_at dksX1_lock_0 2 rfl rfl)
theorem dX1_lock_5 : decode cX1_lock 5 = .ok (.astore_n 3, 1) := dk_78 (dk_at dksX1_lock_0 5 rfl rfl)
theorem dX1_lock_6 : decode cX1_lock 6 = .ok (.aload_n 3, 1) := dk_45 (dk_at dksX1_lock_0 6 rfl rfl)
theorem dX1_lock_7 : decode cX1_lock 7 = .ok (.getfield 179, 3) := dk_180 0 179 (dk_at dksX1_lock_0 7 rfl rfl)
theorem dX1_lock_10 : decode cX1_lock 10 = .ok (.istore 4, 2) := dk_54 4 (dk_at dksX1_lock_0 10 rfl rfl)
theorem dX1_lock_12 : decode cX1_lock 12 = .ok (.aload_n 3, 1) := dk_45 (dk_at dksX1_lock_0 12 rfl rfl)
theorem dX1_lock_13 : decode cX1_lock 13 = .ok (.iload_n 2, 1) := dk_28 (dk_at dksX1_lock_0 13 rfl rfl)
theorem dX1_lock_14 : decode cX1_lock 14 = .ok (.putfield 179, 3) := dk_181 0 179 (dk_at dksX1_lock_0 14 rfl rfl)
theorem dX1_lock_17 : decode cX1_lock 17 = .ok (.iload 4, 2) := dk_21 4 (dk_at dksX1_lock_0 17 rfl rfl)
theorem dX1_lock_19 : decode cX1_lock 19 = .ok (.ireturn, 1) := dk_172 (dk_at dksX1_lock_0 19 rfl rfl)
abbrev cX1_people : ByteArray := prog_1_method_22_code
def yX1_people : MethodName := ⟨RX1, "people", "(II)I"⟩
def dkwX1_people_1 : List UInt8 := [184, 0, 75, 184, 0, 140, 45, 180, 0, 214, 54, 4, 45, 28, 181, 0, 214, 21, 4, 172]
abbrev dktX1_people_1 : List UInt8 := dkwX1_people_1 ++ []
def dkwX1_people_0 : List UInt8 := [42, 27, 182, 0, 87, 78, 45, 198, 0, 7, 4, 167, 0, 4, 3, 184, 0, 94, 28, 3, 16, 15]
abbrev dktX1_people_0 : List UInt8 := dkwX1_people_0 ++ dktX1_people_1
theorem dksX1_people_0 : cX1_people.data.toList.drop 0 = dktX1_people_0 := by decide +kernel
theorem dksX1_people_1 : cX1_people.data.toList.drop 22 = dktX1_people_1 := dk_seg dksX1_people_0 22 rfl rfl
theorem dX1_people_0 : decode cX1_people 0 = .ok (.aload_n 0, 1) := dk_42 (dk_at dksX1_people_0 0 rfl rfl)
theorem dX1_people_1 : decode cX1_people 1 = .ok (.iload_n 1, 1) := dk_27 (dk_at dksX1_people_0 1 rfl rfl)
theorem dX1_people_2 : decode cX1_people 2 = .ok (.invokevirtual 87, 3) := dk_182 0 87 (dk_at dksX1_people_0 2 rfl rfl)
theorem dX1_people_5 : decode cX1_people 5 = .ok (.astore_n 3, 1) := dk_78 (dk_at dksX1_people_0 5 rfl rfl)
theorem dX1_people_6 : decode cX1_people 6 = .ok (.aload_n 3, 1) := dk_45 (dk_at dksX1_people_0 6 rfl rfl)
theorem dX1_people_7 : decode cX1_people 7 = .ok (.ifnull 7, 3) := dk_198 0 7 (dk_at dksX1_people_0 7 rfl rfl)
theorem dX1_people_10 : decode cX1_people 10 = .ok (.iconst 1, 1) := dk_4 (dk_at dksX1_people_0 10 rfl rfl)
theorem dX1_people_11 : decode cX1_people 11 = .ok (.goto 4, 3) := dk_167 0 4 (dk_at dksX1_people_0 11 rfl rfl)
theorem dX1_people_14 : decode cX1_people 14 = .ok (.iconst 0, 1) := dk_3 (dk_at dksX1_people_0 14 rfl rfl)
theorem dX1_people_15 : decode cX1_people 15 = .ok (.invokestatic 94, 3) := dk_184 0 94 (dk_at dksX1_people_0 15 rfl rfl)
theorem dX1_people_18 : decode cX1_people 18 = .ok (.iload_n 2, 1) := dk_28 (dk_at dksX1_people_0 18 rfl rfl)
theorem dX1_people_19 : decode cX1_people 19 = .ok (.iconst 0, 1) := dk_3 (dk_at dksX1_people_0 19 rfl rfl)
theorem dX1_people_20 : decode cX1_people 20 = .ok (.bipush 15, 2) := dk_16 15 (dk_at dksX1_people_0 20 rfl rfl)
theorem dX1_people_22 : decode cX1_people 22 = .ok (.invokestatic 75, 3) := dk_184 0 75 (dk_at dksX1_people_1 0 rfl rfl)
theorem dX1_people_25 : decode cX1_people 25 = .ok (.invokestatic 140, 3) := dk_184 0 140 (dk_at dksX1_people_1 3 rfl rfl)
theorem dX1_people_28 : decode cX1_people 28 = .ok (.aload_n 3, 1) := dk_45 (dk_at dksX1_people_1 6 rfl rfl)
theorem dX1_people_29 : decode cX1_people 29 = .ok (.getfield 214, 3) := dk_180 0 214 (dk_at dksX1_people_1 7 rfl rfl)
theorem dX1_people_32 : decode cX1_people 32 = .ok (.istore 4, 2) := dk_54 4 (dk_at dksX1_people_1 10 rfl rfl)
theorem dX1_people_34 : decode cX1_people 34 = .ok (.aload_n 3, 1) := dk_45 (dk_at dksX1_people_1 12 rfl rfl)
theorem dX1_people_35 : decode cX1_people 35 = .ok (.iload_n 2, 1) := dk_28 (dk_at dksX1_people_1 13 rfl rfl)
theorem dX1_people_36 : decode cX1_people 36 = .ok (.putfield 214, 3) := dk_181 0 214 (dk_at dksX1_people_1 14 rfl rfl)
theorem dX1_people_39 : decode cX1_people 39 = .ok (.iload 4, 2) := dk_21 4 (dk_at dksX1_people_1 17 rfl rfl)
theorem dX1_people_41 : decode cX1_people 41 = .ok (.ireturn, 1) := dk_172 (dk_at dksX1_people_1 19 rfl rfl)
abbrev cX1_mayRead : ByteArray := prog_1_method_24_code
def yX1_mayRead : MethodName := ⟨RX1, "mayRead", "(II)Z"⟩
def dkwX1_mayRead_1 : List UInt8 := [182, 0, 220, 172]
abbrev dktX1_mayRead_1 : List UInt8 := dkwX1_mayRead_1 ++ []
def dkwX1_mayRead_0 : List UInt8 := [27, 184, 0, 217, 42, 28, 182, 0, 87, 78, 45, 198, 0, 7, 4, 167, 0, 4, 3, 184, 0, 94, 45, 27]
abbrev dktX1_mayRead_0 : List UInt8 := dkwX1_mayRead_0 ++ dktX1_mayRead_1
theorem dksX1_mayRead_0 : cX1_mayRead.data.toList.drop 0 = dktX1_mayRead_0 := by decide +kernel
theorem dksX1_mayRead_1 : cX1_mayRead.data.toList.drop 24 = dktX1_mayRead_1 := dk_seg dksX1_mayRead_0 24 rfl rfl
theorem dX1_mayRead_0 : decode cX1_mayRead 0 = .ok (.iload_n 1, 1) := dk_27 (dk_at dksX1_mayRead_0 0 rfl rfl)
theorem dX1_mayRead_1 : decode cX1_mayRead 1 = .ok (.invokestatic 217, 3) := dk_184 0 217 (dk_at dksX1_mayRead_0 1 rfl rfl)
theorem dX1_mayRead_4 : decode cX1_mayRead 4 = .ok (.aload_n 0, 1) := dk_42 (dk_at dksX1_mayRead_0 4 rfl rfl)
theorem dX1_mayRead_5 : decode cX1_mayRead 5 = .ok (.iload_n 2, 1) := dk_28 (dk_at dksX1_mayRead_0 5 rfl rfl)
theorem dX1_mayRead_6 : decode cX1_mayRead 6 = .ok (.invokevirtual 87, 3) := dk_182 0 87 (dk_at dksX1_mayRead_0 6 rfl rfl)
theorem dX1_mayRead_9 : decode cX1_mayRead 9 = .ok (.astore_n 3, 1) := dk_78 (dk_at dksX1_mayRead_0 9 rfl rfl)
theorem dX1_mayRead_10 : decode cX1_mayRead 10 = .ok (.aload_n 3, 1) := dk_45 (dk_at dksX1_mayRead_0 10 rfl rfl)
theorem dX1_mayRead_11 : decode cX1_mayRead 11 = .ok (.ifnull 7, 3) := dk_198 0 7 (dk_at dksX1_mayRead_0 11 rfl rfl)
theorem dX1_mayRead_14 : decode cX1_mayRead 14 = .ok (.iconst 1, 1) := dk_4 (dk_at dksX1_mayRead_0 14 rfl rfl)
theorem dX1_mayRead_15 : decode cX1_mayRead 15 = .ok (.goto 4, 3) := dk_167 0 4 (dk_at dksX1_mayRead_0 15 rfl rfl)
theorem dX1_mayRead_18 : decode cX1_mayRead 18 = .ok (.iconst 0, 1) := dk_3 (dk_at dksX1_mayRead_0 18 rfl rfl)
theorem dX1_mayRead_19 : decode cX1_mayRead 19 = .ok (.invokestatic 94, 3) := dk_184 0 94 (dk_at dksX1_mayRead_0 19 rfl rfl)
theorem dX1_mayRead_22 : decode cX1_mayRead 22 = .ok (.aload_n 3, 1) := dk_45 (dk_at dksX1_mayRead_0 22 rfl rfl)
theorem dX1_mayRead_23 : decode cX1_mayRead 23 = .ok (.iload_n 1, 1) := dk_27 (dk_at dksX1_mayRead_0 23 rfl rfl)
theorem dX1_mayRead_24 : decode cX1_mayRead 24 = .ok (.invokevirtual 220, 3) := dk_182 0 220 (dk_at dksX1_mayRead_1 0 rfl rfl)
theorem dX1_mayRead_27 : decode cX1_mayRead 27 = .ok (.ireturn, 1) := dk_172 (dk_at dksX1_mayRead_1 3 rfl rfl)
abbrev cX1_checkPerson : ByteArray := prog_1_method_23_code
def yX1_checkPerson : MethodName := ⟨RX1, "checkPerson", "(I)V"⟩
def dkwX1_checkPerson_0 : List UInt8 := [26, 3, 6, 184, 0, 75, 184, 0, 94, 177]
abbrev dktX1_checkPerson_0 : List UInt8 := dkwX1_checkPerson_0 ++ []
theorem dksX1_checkPerson_0 : cX1_checkPerson.data.toList.drop 0 = dktX1_checkPerson_0 := by decide +kernel
theorem dX1_checkPerson_0 : decode cX1_checkPerson 0 = .ok (.iload_n 0, 1) := dk_26 (dk_at dksX1_checkPerson_0 0 rfl rfl)
theorem dX1_checkPerson_1 : decode cX1_checkPerson 1 = .ok (.iconst 0, 1) := dk_3 (dk_at dksX1_checkPerson_0 1 rfl rfl)
theorem dX1_checkPerson_2 : decode cX1_checkPerson 2 = .ok (.iconst 3, 1) := dk_6 (dk_at dksX1_checkPerson_0 2 rfl rfl)
theorem dX1_checkPerson_3 : decode cX1_checkPerson 3 = .ok (.invokestatic 75, 3) := dk_184 0 75 (dk_at dksX1_checkPerson_0 3 rfl rfl)
theorem dX1_checkPerson_6 : decode cX1_checkPerson 6 = .ok (.invokestatic 94, 3) := dk_184 0 94 (dk_at dksX1_checkPerson_0 6 rfl rfl)
theorem dX1_checkPerson_9 : decode cX1_checkPerson 9 = .ok (.return_, 1) := dk_177 (dk_at dksX1_checkPerson_0 9 rfl rfl)
abbrev cX1_watch : ByteArray := prog_1_method_26_code
def yX1_watch : MethodName := ⟨RX1, "watch", "(I)I"⟩
def dkwX1_watch_8 : List UInt8 := [185, 0, 65, 2, 0, 87, 42, 180, 0, 28, 185, 0, 71, 1, 0, 172]
abbrev dktX1_watch_8 : List UInt8 := dkwX1_watch_8 ++ []
def dkwX1_watch_7 : List UInt8 := [184, 0, 147, 187, 0, 120, 89, 44, 183, 0, 223, 58, 5, 25, 5, 182, 0, 225, 42, 180, 0, 28, 25, 5]
abbrev dktX1_watch_7 : List UInt8 := dkwX1_watch_7 ++ dktX1_watch_8
def dkwX1_watch_6 : List UInt8 := [25, 6, 180, 0, 122, 182, 0, 125, 154, 0, 7, 4, 167, 0, 4, 3, 54, 4, 167, 255, 198, 21, 4]
abbrev dktX1_watch_6 : List UInt8 := dkwX1_watch_6 ++ dktX1_watch_7
def dkwX1_watch_5 : List UInt8 := [192, 0, 120, 58, 6, 21, 4, 153, 0, 31, 25, 6, 180, 0, 122, 44, 182, 0, 125, 154, 0, 19, 44]
abbrev dktX1_watch_5 : List UInt8 := dkwX1_watch_5 ++ dktX1_watch_6
def dkwX1_watch_4 : List UInt8 := [185, 0, 106, 1, 0, 58, 5, 25, 5, 185, 0, 110, 1, 0, 153, 0, 54, 25, 5, 185, 0, 116, 1, 0]
abbrev dktX1_watch_4 : List UInt8 := dkwX1_watch_4 ++ dktX1_watch_5
def dkwX1_watch_3 : List UInt8 := [185, 0, 71, 1, 0, 6, 162, 0, 7, 4, 167, 0, 4, 3, 54, 4, 42, 180, 0, 28]
abbrev dktX1_watch_3 : List UInt8 := dkwX1_watch_3 ++ dktX1_watch_4
def dkwX1_watch_2 : List UInt8 := [185, 0, 208, 1, 0, 42, 182, 0, 211, 42, 180, 0, 28, 185, 0, 71, 1, 0, 172, 42, 180, 0, 28]
abbrev dktX1_watch_2 : List UInt8 := dkwX1_watch_2 ++ dktX1_watch_3
def dkwX1_watch_1 : List UInt8 := [153, 0, 39, 45, 185, 0, 116, 1, 0, 192, 0, 120, 180, 0, 122, 44, 166, 255, 234, 45]
abbrev dktX1_watch_1 : List UInt8 := dkwX1_watch_1 ++ dktX1_watch_2
def dkwX1_watch_0 : List UInt8 := [42, 27, 182, 0, 133, 77, 42, 180, 0, 28, 185, 0, 106, 1, 0, 78, 45, 185, 0, 110, 1, 0]
abbrev dktX1_watch_0 : List UInt8 := dkwX1_watch_0 ++ dktX1_watch_1
theorem dksX1_watch_0 : cX1_watch.data.toList.drop 0 = dktX1_watch_0 := by decide +kernel
theorem dksX1_watch_1 : cX1_watch.data.toList.drop 22 = dktX1_watch_1 := dk_seg dksX1_watch_0 22 rfl rfl
theorem dksX1_watch_2 : cX1_watch.data.toList.drop 42 = dktX1_watch_2 := dk_seg dksX1_watch_1 20 rfl rfl
theorem dksX1_watch_3 : cX1_watch.data.toList.drop 65 = dktX1_watch_3 := dk_seg dksX1_watch_2 23 rfl rfl
theorem dksX1_watch_4 : cX1_watch.data.toList.drop 85 = dktX1_watch_4 := dk_seg dksX1_watch_3 20 rfl rfl
theorem dksX1_watch_5 : cX1_watch.data.toList.drop 109 = dktX1_watch_5 := dk_seg dksX1_watch_4 24 rfl rfl
theorem dksX1_watch_6 : cX1_watch.data.toList.drop 132 = dktX1_watch_6 := dk_seg dksX1_watch_5 23 rfl rfl
theorem dksX1_watch_7 : cX1_watch.data.toList.drop 155 = dktX1_watch_7 := dk_seg dksX1_watch_6 23 rfl rfl
theorem dksX1_watch_8 : cX1_watch.data.toList.drop 179 = dktX1_watch_8 := dk_seg dksX1_watch_7 24 rfl rfl
theorem dX1_watch_0 : decode cX1_watch 0 = .ok (.aload_n 0, 1) := dk_42 (dk_at dksX1_watch_0 0 rfl rfl)
theorem dX1_watch_1 : decode cX1_watch 1 = .ok (.iload_n 1, 1) := dk_27 (dk_at dksX1_watch_0 1 rfl rfl)
theorem dX1_watch_2 : decode cX1_watch 2 = .ok (.invokevirtual 133, 3) := dk_182 0 133 (dk_at dksX1_watch_0 2 rfl rfl)
theorem dX1_watch_5 : decode cX1_watch 5 = .ok (.astore_n 2, 1) := dk_77 (dk_at dksX1_watch_0 5 rfl rfl)
theorem dX1_watch_6 : decode cX1_watch 6 = .ok (.aload_n 0, 1) := dk_42 (dk_at dksX1_watch_0 6 rfl rfl)
theorem dX1_watch_7 : decode cX1_watch 7 = .ok (.getfield 28, 3) := dk_180 0 28 (dk_at dksX1_watch_0 7 rfl rfl)
theorem dX1_watch_10 : decode cX1_watch 10 = .ok (.invokeinterface 106 1, 5) := by decide +kernel
theorem dX1_watch_15 : decode cX1_watch 15 = .ok (.astore_n 3, 1) := dk_78 (dk_at dksX1_watch_0 15 rfl rfl)
theorem dX1_watch_16 : decode cX1_watch 16 = .ok (.aload_n 3, 1) := dk_45 (dk_at dksX1_watch_0 16 rfl rfl)
theorem dX1_watch_17 : decode cX1_watch 17 = .ok (.invokeinterface 110 1, 5) := by decide +kernel
theorem dX1_watch_22 : decode cX1_watch 22 = .ok (.ifCond .eq 39, 3) := dk_153 0 39 (dk_at dksX1_watch_1 0 rfl rfl)
theorem dX1_watch_25 : decode cX1_watch 25 = .ok (.aload_n 3, 1) := dk_45 (dk_at dksX1_watch_1 3 rfl rfl)
theorem dX1_watch_26 : decode cX1_watch 26 = .ok (.invokeinterface 116 1, 5) := by decide +kernel
theorem dX1_watch_31 : decode cX1_watch 31 = .ok (.checkcast 120, 3) := dk_192 0 120 (dk_at dksX1_watch_1 9 rfl rfl)
theorem dX1_watch_34 : decode cX1_watch 34 = .ok (.getfield 122, 3) := dk_180 0 122 (dk_at dksX1_watch_1 12 rfl rfl)
theorem dX1_watch_37 : decode cX1_watch 37 = .ok (.aload_n 2, 1) := dk_44 (dk_at dksX1_watch_1 15 rfl rfl)
theorem dX1_watch_38 : decode cX1_watch 38 = .ok (.if_acmp .ne (-22), 3) := dk_166 255 234 (dk_at dksX1_watch_1 16 rfl rfl)
theorem dX1_watch_41 : decode cX1_watch 41 = .ok (.aload_n 3, 1) := dk_45 (dk_at dksX1_watch_1 19 rfl rfl)
theorem dX1_watch_42 : decode cX1_watch 42 = .ok (.invokeinterface 208 1, 5) := by decide +kernel
theorem dX1_watch_47 : decode cX1_watch 47 = .ok (.aload_n 0, 1) := dk_42 (dk_at dksX1_watch_2 5 rfl rfl)
theorem dX1_watch_48 : decode cX1_watch 48 = .ok (.invokevirtual 211, 3) := dk_182 0 211 (dk_at dksX1_watch_2 6 rfl rfl)
theorem dX1_watch_51 : decode cX1_watch 51 = .ok (.aload_n 0, 1) := dk_42 (dk_at dksX1_watch_2 9 rfl rfl)
theorem dX1_watch_52 : decode cX1_watch 52 = .ok (.getfield 28, 3) := dk_180 0 28 (dk_at dksX1_watch_2 10 rfl rfl)
theorem dX1_watch_55 : decode cX1_watch 55 = .ok (.invokeinterface 71 1, 5) := by decide +kernel
theorem dX1_watch_60 : decode cX1_watch 60 = .ok (.ireturn, 1) := dk_172 (dk_at dksX1_watch_2 18 rfl rfl)
theorem dX1_watch_61 : decode cX1_watch 61 = .ok (.aload_n 0, 1) := dk_42 (dk_at dksX1_watch_2 19 rfl rfl)
theorem dX1_watch_62 : decode cX1_watch 62 = .ok (.getfield 28, 3) := dk_180 0 28 (dk_at dksX1_watch_2 20 rfl rfl)
theorem dX1_watch_65 : decode cX1_watch 65 = .ok (.invokeinterface 71 1, 5) := by decide +kernel
theorem dX1_watch_70 : decode cX1_watch 70 = .ok (.iconst 3, 1) := dk_6 (dk_at dksX1_watch_3 5 rfl rfl)
theorem dX1_watch_71 : decode cX1_watch 71 = .ok (.if_icmp .ge 7, 3) := dk_162 0 7 (dk_at dksX1_watch_3 6 rfl rfl)
theorem dX1_watch_74 : decode cX1_watch 74 = .ok (.iconst 1, 1) := dk_4 (dk_at dksX1_watch_3 9 rfl rfl)
theorem dX1_watch_75 : decode cX1_watch 75 = .ok (.goto 4, 3) := dk_167 0 4 (dk_at dksX1_watch_3 10 rfl rfl)
theorem dX1_watch_78 : decode cX1_watch 78 = .ok (.iconst 0, 1) := dk_3 (dk_at dksX1_watch_3 13 rfl rfl)
theorem dX1_watch_79 : decode cX1_watch 79 = .ok (.istore 4, 2) := dk_54 4 (dk_at dksX1_watch_3 14 rfl rfl)
theorem dX1_watch_81 : decode cX1_watch 81 = .ok (.aload_n 0, 1) := dk_42 (dk_at dksX1_watch_3 16 rfl rfl)
theorem dX1_watch_82 : decode cX1_watch 82 = .ok (.getfield 28, 3) := dk_180 0 28 (dk_at dksX1_watch_3 17 rfl rfl)
theorem dX1_watch_85 : decode cX1_watch 85 = .ok (.invokeinterface 106 1, 5) := by decide +kernel
theorem dX1_watch_90 : decode cX1_watch 90 = .ok (.astore 5, 2) := dk_58 5 (dk_at dksX1_watch_4 5 rfl rfl)
theorem dX1_watch_92 : decode cX1_watch 92 = .ok (.aload 5, 2) := dk_25 5 (dk_at dksX1_watch_4 7 rfl rfl)
theorem dX1_watch_94 : decode cX1_watch 94 = .ok (.invokeinterface 110 1, 5) := by decide +kernel
theorem dX1_watch_99 : decode cX1_watch 99 = .ok (.ifCond .eq 54, 3) := dk_153 0 54 (dk_at dksX1_watch_4 14 rfl rfl)
theorem dX1_watch_102 : decode cX1_watch 102 = .ok (.aload 5, 2) := dk_25 5 (dk_at dksX1_watch_4 17 rfl rfl)
theorem dX1_watch_104 : decode cX1_watch 104 = .ok (.invokeinterface 116 1, 5) := by decide +kernel
theorem dX1_watch_109 : decode cX1_watch 109 = .ok (.checkcast 120, 3) := dk_192 0 120 (dk_at dksX1_watch_5 0 rfl rfl)
theorem dX1_watch_112 : decode cX1_watch 112 = .ok (.astore 6, 2) := dk_58 6 (dk_at dksX1_watch_5 3 rfl rfl)
theorem dX1_watch_114 : decode cX1_watch 114 = .ok (.iload 4, 2) := dk_21 4 (dk_at dksX1_watch_5 5 rfl rfl)
theorem dX1_watch_116 : decode cX1_watch 116 = .ok (.ifCond .eq 31, 3) := dk_153 0 31 (dk_at dksX1_watch_5 7 rfl rfl)
theorem dX1_watch_119 : decode cX1_watch 119 = .ok (.aload 6, 2) := dk_25 6 (dk_at dksX1_watch_5 10 rfl rfl)
theorem dX1_watch_121 : decode cX1_watch 121 = .ok (.getfield 122, 3) := dk_180 0 122 (dk_at dksX1_watch_5 12 rfl rfl)
theorem dX1_watch_124 : decode cX1_watch 124 = .ok (.aload_n 2, 1) := dk_44 (dk_at dksX1_watch_5 15 rfl rfl)
theorem dX1_watch_125 : decode cX1_watch 125 = .ok (.invokevirtual 125, 3) := dk_182 0 125 (dk_at dksX1_watch_5 16 rfl rfl)
theorem dX1_watch_128 : decode cX1_watch 128 = .ok (.ifCond .ne 19, 3) := dk_154 0 19 (dk_at dksX1_watch_5 19 rfl rfl)
theorem dX1_watch_131 : decode cX1_watch 131 = .ok (.aload_n 2, 1) := dk_44 (dk_at dksX1_watch_5 22 rfl rfl)
theorem dX1_watch_132 : decode cX1_watch 132 = .ok (.aload 6, 2) := dk_25 6 (dk_at dksX1_watch_6 0 rfl rfl)
theorem dX1_watch_134 : decode cX1_watch 134 = .ok (.getfield 122, 3) := dk_180 0 122 (dk_at dksX1_watch_6 2 rfl rfl)
theorem dX1_watch_137 : decode cX1_watch 137 = .ok (.invokevirtual 125, 3) := dk_182 0 125 (dk_at dksX1_watch_6 5 rfl rfl)
theorem dX1_watch_140 : decode cX1_watch 140 = .ok (.ifCond .ne 7, 3) := dk_154 0 7 (dk_at dksX1_watch_6 8 rfl rfl)
theorem dX1_watch_143 : decode cX1_watch 143 = .ok (.iconst 1, 1) := dk_4 (dk_at dksX1_watch_6 11 rfl rfl)
theorem dX1_watch_144 : decode cX1_watch 144 = .ok (.goto 4, 3) := dk_167 0 4 (dk_at dksX1_watch_6 12 rfl rfl)
theorem dX1_watch_147 : decode cX1_watch 147 = .ok (.iconst 0, 1) := dk_3 (dk_at dksX1_watch_6 15 rfl rfl)
theorem dX1_watch_148 : decode cX1_watch 148 = .ok (.istore 4, 2) := dk_54 4 (dk_at dksX1_watch_6 16 rfl rfl)
theorem dX1_watch_150 : decode cX1_watch 150 = .ok (.goto (-58), 3) := dk_167 255 198 (dk_at dksX1_watch_6 18 rfl rfl)
theorem dX1_watch_153 : decode cX1_watch 153 = .ok (.iload 4, 2) := dk_21 4 (dk_at dksX1_watch_6 21 rfl rfl)
theorem dX1_watch_155 : decode cX1_watch 155 = .ok (.invokestatic 147, 3) := dk_184 0 147 (dk_at dksX1_watch_7 0 rfl rfl)
theorem dX1_watch_158 : decode cX1_watch 158 = .ok (.new 120, 3) := dk_187 0 120 (dk_at dksX1_watch_7 3 rfl rfl)
theorem dX1_watch_161 : decode cX1_watch 161 = .ok (.dup, 1) := dk_89 (dk_at dksX1_watch_7 6 rfl rfl)
theorem dX1_watch_162 : decode cX1_watch 162 = .ok (.aload_n 2, 1) := dk_44 (dk_at dksX1_watch_7 7 rfl rfl)
theorem dX1_watch_163 : decode cX1_watch 163 = .ok (.invokespecial 223, 3) := dk_183 0 223 (dk_at dksX1_watch_7 8 rfl rfl)
theorem dX1_watch_166 : decode cX1_watch 166 = .ok (.astore 5, 2) := dk_58 5 (dk_at dksX1_watch_7 11 rfl rfl)
theorem dX1_watch_168 : decode cX1_watch 168 = .ok (.aload 5, 2) := dk_25 5 (dk_at dksX1_watch_7 13 rfl rfl)
theorem dX1_watch_170 : decode cX1_watch 170 = .ok (.invokevirtual 225, 3) := dk_182 0 225 (dk_at dksX1_watch_7 15 rfl rfl)
theorem dX1_watch_173 : decode cX1_watch 173 = .ok (.aload_n 0, 1) := dk_42 (dk_at dksX1_watch_7 18 rfl rfl)
theorem dX1_watch_174 : decode cX1_watch 174 = .ok (.getfield 28, 3) := dk_180 0 28 (dk_at dksX1_watch_7 19 rfl rfl)
theorem dX1_watch_177 : decode cX1_watch 177 = .ok (.aload 5, 2) := dk_25 5 (dk_at dksX1_watch_7 22 rfl rfl)
theorem dX1_watch_179 : decode cX1_watch 179 = .ok (.invokeinterface 65 2, 5) := by decide +kernel
theorem dX1_watch_184 : decode cX1_watch 184 = .ok (.pop, 1) := dk_87 (dk_at dksX1_watch_8 5 rfl rfl)
theorem dX1_watch_185 : decode cX1_watch 185 = .ok (.aload_n 0, 1) := dk_42 (dk_at dksX1_watch_8 6 rfl rfl)
theorem dX1_watch_186 : decode cX1_watch 186 = .ok (.getfield 28, 3) := dk_180 0 28 (dk_at dksX1_watch_8 7 rfl rfl)
theorem dX1_watch_189 : decode cX1_watch 189 = .ok (.invokeinterface 71 1, 5) := by decide +kernel
theorem dX1_watch_194 : decode cX1_watch 194 = .ok (.ireturn, 1) := dk_172 (dk_at dksX1_watch_8 15 rfl rfl)
abbrev cX1_notices : ByteArray := prog_1_method_28_code
def yX1_notices : MethodName := ⟨RX1, "notices", "(I)I"⟩
def dkwX1_notices_1 : List UInt8 := [172]
abbrev dktX1_notices_1 : List UInt8 := dkwX1_notices_1 ++ []
def dkwX1_notices_0 : List UInt8 := [42, 27, 182, 0, 228, 77, 44, 180, 0, 232, 153, 0, 7, 2, 167, 0, 10, 44, 180, 0, 235, 182, 0, 238]
abbrev dktX1_notices_0 : List UInt8 := dkwX1_notices_0 ++ dktX1_notices_1
theorem dksX1_notices_0 : cX1_notices.data.toList.drop 0 = dktX1_notices_0 := by decide +kernel
theorem dksX1_notices_1 : cX1_notices.data.toList.drop 24 = dktX1_notices_1 := dk_seg dksX1_notices_0 24 rfl rfl
theorem dX1_notices_0 : decode cX1_notices 0 = .ok (.aload_n 0, 1) := dk_42 (dk_at dksX1_notices_0 0 rfl rfl)
theorem dX1_notices_1 : decode cX1_notices 1 = .ok (.iload_n 1, 1) := dk_27 (dk_at dksX1_notices_0 1 rfl rfl)
theorem dX1_notices_2 : decode cX1_notices 2 = .ok (.invokevirtual 228, 3) := dk_182 0 228 (dk_at dksX1_notices_0 2 rfl rfl)
theorem dX1_notices_5 : decode cX1_notices 5 = .ok (.astore_n 2, 1) := dk_77 (dk_at dksX1_notices_0 5 rfl rfl)
theorem dX1_notices_6 : decode cX1_notices 6 = .ok (.aload_n 2, 1) := dk_44 (dk_at dksX1_notices_0 6 rfl rfl)
theorem dX1_notices_7 : decode cX1_notices 7 = .ok (.getfield 232, 3) := dk_180 0 232 (dk_at dksX1_notices_0 7 rfl rfl)
theorem dX1_notices_10 : decode cX1_notices 10 = .ok (.ifCond .eq 7, 3) := dk_153 0 7 (dk_at dksX1_notices_0 10 rfl rfl)
theorem dX1_notices_13 : decode cX1_notices 13 = .ok (.iconst (-1), 1) := dk_2 (dk_at dksX1_notices_0 13 rfl rfl)
theorem dX1_notices_14 : decode cX1_notices 14 = .ok (.goto 10, 3) := dk_167 0 10 (dk_at dksX1_notices_0 14 rfl rfl)
theorem dX1_notices_17 : decode cX1_notices 17 = .ok (.aload_n 2, 1) := dk_44 (dk_at dksX1_notices_0 17 rfl rfl)
theorem dX1_notices_18 : decode cX1_notices 18 = .ok (.getfield 235, 3) := dk_180 0 235 (dk_at dksX1_notices_0 18 rfl rfl)
theorem dX1_notices_21 : decode cX1_notices 21 = .ok (.invokevirtual 238, 3) := dk_182 0 238 (dk_at dksX1_notices_0 21 rfl rfl)
theorem dX1_notices_24 : decode cX1_notices 24 = .ok (.ireturn, 1) := dk_172 (dk_at dksX1_notices_1 0 rfl rfl)
abbrev cX1_rootAt : ByteArray := prog_1_method_27_code
def yX1_rootAt : MethodName := ⟨RX1, "rootAt", "(I)LSearchKeeper$Root;"⟩
def dkwX1_rootAt_2 : List UInt8 := [167, 255, 224, 187, 0, 10, 89, 183, 0, 12, 191]
abbrev dktX1_rootAt_2 : List UInt8 := dkwX1_rootAt_2 ++ []
def dkwX1_rootAt_1 : List UInt8 := [185, 0, 116, 1, 0, 192, 0, 120, 78, 45, 180, 0, 122, 180, 0, 163, 27, 160, 0, 5, 45, 176]
abbrev dktX1_rootAt_1 : List UInt8 := dkwX1_rootAt_1 ++ dktX1_rootAt_2
def dkwX1_rootAt_0 : List UInt8 := [42, 180, 0, 28, 185, 0, 106, 1, 0, 77, 44, 185, 0, 110, 1, 0, 153, 0, 29, 44]
abbrev dktX1_rootAt_0 : List UInt8 := dkwX1_rootAt_0 ++ dktX1_rootAt_1
theorem dksX1_rootAt_0 : cX1_rootAt.data.toList.drop 0 = dktX1_rootAt_0 := by decide +kernel
theorem dksX1_rootAt_1 : cX1_rootAt.data.toList.drop 20 = dktX1_rootAt_1 := dk_seg dksX1_rootAt_0 20 rfl rfl
theorem dksX1_rootAt_2 : cX1_rootAt.data.toList.drop 42 = dktX1_rootAt_2 := dk_seg dksX1_rootAt_1 22 rfl rfl
theorem dX1_rootAt_0 : decode cX1_rootAt 0 = .ok (.aload_n 0, 1) := dk_42 (dk_at dksX1_rootAt_0 0 rfl rfl)
theorem dX1_rootAt_1 : decode cX1_rootAt 1 = .ok (.getfield 28, 3) := dk_180 0 28 (dk_at dksX1_rootAt_0 1 rfl rfl)
theorem dX1_rootAt_4 : decode cX1_rootAt 4 = .ok (.invokeinterface 106 1, 5) := by decide +kernel
theorem dX1_rootAt_9 : decode cX1_rootAt 9 = .ok (.astore_n 2, 1) := dk_77 (dk_at dksX1_rootAt_0 9 rfl rfl)
theorem dX1_rootAt_10 : decode cX1_rootAt 10 = .ok (.aload_n 2, 1) := dk_44 (dk_at dksX1_rootAt_0 10 rfl rfl)
theorem dX1_rootAt_11 : decode cX1_rootAt 11 = .ok (.invokeinterface 110 1, 5) := by decide +kernel
theorem dX1_rootAt_16 : decode cX1_rootAt 16 = .ok (.ifCond .eq 29, 3) := dk_153 0 29 (dk_at dksX1_rootAt_0 16 rfl rfl)
theorem dX1_rootAt_19 : decode cX1_rootAt 19 = .ok (.aload_n 2, 1) := dk_44 (dk_at dksX1_rootAt_0 19 rfl rfl)
theorem dX1_rootAt_20 : decode cX1_rootAt 20 = .ok (.invokeinterface 116 1, 5) := by decide +kernel
theorem dX1_rootAt_25 : decode cX1_rootAt 25 = .ok (.checkcast 120, 3) := dk_192 0 120 (dk_at dksX1_rootAt_1 5 rfl rfl)
theorem dX1_rootAt_28 : decode cX1_rootAt 28 = .ok (.astore_n 3, 1) := dk_78 (dk_at dksX1_rootAt_1 8 rfl rfl)
theorem dX1_rootAt_29 : decode cX1_rootAt 29 = .ok (.aload_n 3, 1) := dk_45 (dk_at dksX1_rootAt_1 9 rfl rfl)
theorem dX1_rootAt_30 : decode cX1_rootAt 30 = .ok (.getfield 122, 3) := dk_180 0 122 (dk_at dksX1_rootAt_1 10 rfl rfl)
theorem dX1_rootAt_33 : decode cX1_rootAt 33 = .ok (.getfield 163, 3) := dk_180 0 163 (dk_at dksX1_rootAt_1 13 rfl rfl)
theorem dX1_rootAt_36 : decode cX1_rootAt 36 = .ok (.iload_n 1, 1) := dk_27 (dk_at dksX1_rootAt_1 16 rfl rfl)
theorem dX1_rootAt_37 : decode cX1_rootAt 37 = .ok (.if_icmp .ne 5, 3) := dk_160 0 5 (dk_at dksX1_rootAt_1 17 rfl rfl)
theorem dX1_rootAt_40 : decode cX1_rootAt 40 = .ok (.aload_n 3, 1) := dk_45 (dk_at dksX1_rootAt_1 20 rfl rfl)
theorem dX1_rootAt_41 : decode cX1_rootAt 41 = .ok (.areturn, 1) := dk_176 (dk_at dksX1_rootAt_1 21 rfl rfl)
theorem dX1_rootAt_42 : decode cX1_rootAt 42 = .ok (.goto (-32), 3) := dk_167 255 224 (dk_at dksX1_rootAt_2 0 rfl rfl)
theorem dX1_rootAt_45 : decode cX1_rootAt 45 = .ok (.new 10, 3) := dk_187 0 10 (dk_at dksX1_rootAt_2 3 rfl rfl)
theorem dX1_rootAt_48 : decode cX1_rootAt 48 = .ok (.dup, 1) := dk_89 (dk_at dksX1_rootAt_2 6 rfl rfl)
theorem dX1_rootAt_49 : decode cX1_rootAt 49 = .ok (.invokespecial 12, 3) := dk_183 0 12 (dk_at dksX1_rootAt_2 7 rfl rfl)
theorem dX1_rootAt_52 : decode cX1_rootAt 52 = .ok (.athrow, 1) := dk_191 (dk_at dksX1_rootAt_2 10 rfl rfl)
abbrev cX1_twice : ByteArray := prog_1_method_29_code
def yX1_twice : MethodName := ⟨RX1, "twice", "(I)I"⟩
def dkwX1_twice_2 : List UInt8 := [180, 0, 250, 182, 0, 129, 42, 27, 182, 0, 253, 172]
abbrev dktX1_twice_2 : List UInt8 := dkwX1_twice_2 ++ []
def dkwX1_twice_1 : List UInt8 := [44, 44, 180, 0, 235, 182, 0, 242, 192, 0, 245, 180, 0, 247, 44, 180, 0, 235, 182, 0, 242, 192, 0, 245]
abbrev dktX1_twice_1 : List UInt8 := dkwX1_twice_1 ++ dktX1_twice_2
def dkwX1_twice_0 : List UInt8 := [42, 27, 182, 0, 228, 77, 44, 180, 0, 235, 182, 0, 239, 154, 0, 7, 4, 167, 0, 4, 3, 184, 0, 147]
abbrev dktX1_twice_0 : List UInt8 := dkwX1_twice_0 ++ dktX1_twice_1
theorem dksX1_twice_0 : cX1_twice.data.toList.drop 0 = dktX1_twice_0 := by decide +kernel
theorem dksX1_twice_1 : cX1_twice.data.toList.drop 24 = dktX1_twice_1 := dk_seg dksX1_twice_0 24 rfl rfl
theorem dksX1_twice_2 : cX1_twice.data.toList.drop 48 = dktX1_twice_2 := dk_seg dksX1_twice_1 24 rfl rfl
theorem dX1_twice_0 : decode cX1_twice 0 = .ok (.aload_n 0, 1) := dk_42 (dk_at dksX1_twice_0 0 rfl rfl)
theorem dX1_twice_1 : decode cX1_twice 1 = .ok (.iload_n 1, 1) := dk_27 (dk_at dksX1_twice_0 1 rfl rfl)
theorem dX1_twice_2 : decode cX1_twice 2 = .ok (.invokevirtual 228, 3) := dk_182 0 228 (dk_at dksX1_twice_0 2 rfl rfl)
theorem dX1_twice_5 : decode cX1_twice 5 = .ok (.astore_n 2, 1) := dk_77 (dk_at dksX1_twice_0 5 rfl rfl)
theorem dX1_twice_6 : decode cX1_twice 6 = .ok (.aload_n 2, 1) := dk_44 (dk_at dksX1_twice_0 6 rfl rfl)
theorem dX1_twice_7 : decode cX1_twice 7 = .ok (.getfield 235, 3) := dk_180 0 235 (dk_at dksX1_twice_0 7 rfl rfl)
theorem dX1_twice_10 : decode cX1_twice 10 = .ok (.invokevirtual 239, 3) := dk_182 0 239 (dk_at dksX1_twice_0 10 rfl rfl)
theorem dX1_twice_13 : decode cX1_twice 13 = .ok (.ifCond .ne 7, 3) := dk_154 0 7 (dk_at dksX1_twice_0 13 rfl rfl)
theorem dX1_twice_16 : decode cX1_twice 16 = .ok (.iconst 1, 1) := dk_4 (dk_at dksX1_twice_0 16 rfl rfl)
theorem dX1_twice_17 : decode cX1_twice 17 = .ok (.goto 4, 3) := dk_167 0 4 (dk_at dksX1_twice_0 17 rfl rfl)
theorem dX1_twice_20 : decode cX1_twice 20 = .ok (.iconst 0, 1) := dk_3 (dk_at dksX1_twice_0 20 rfl rfl)
theorem dX1_twice_21 : decode cX1_twice 21 = .ok (.invokestatic 147, 3) := dk_184 0 147 (dk_at dksX1_twice_0 21 rfl rfl)
theorem dX1_twice_24 : decode cX1_twice 24 = .ok (.aload_n 2, 1) := dk_44 (dk_at dksX1_twice_1 0 rfl rfl)
theorem dX1_twice_25 : decode cX1_twice 25 = .ok (.aload_n 2, 1) := dk_44 (dk_at dksX1_twice_1 1 rfl rfl)
theorem dX1_twice_26 : decode cX1_twice 26 = .ok (.getfield 235, 3) := dk_180 0 235 (dk_at dksX1_twice_1 2 rfl rfl)
theorem dX1_twice_29 : decode cX1_twice 29 = .ok (.invokevirtual 242, 3) := dk_182 0 242 (dk_at dksX1_twice_1 5 rfl rfl)
theorem dX1_twice_32 : decode cX1_twice 32 = .ok (.checkcast 245, 3) := dk_192 0 245 (dk_at dksX1_twice_1 8 rfl rfl)
theorem dX1_twice_35 : decode cX1_twice 35 = .ok (.getfield 247, 3) := dk_180 0 247 (dk_at dksX1_twice_1 11 rfl rfl)
theorem dX1_twice_38 : decode cX1_twice 38 = .ok (.aload_n 2, 1) := dk_44 (dk_at dksX1_twice_1 14 rfl rfl)
theorem dX1_twice_39 : decode cX1_twice 39 = .ok (.getfield 235, 3) := dk_180 0 235 (dk_at dksX1_twice_1 15 rfl rfl)
theorem dX1_twice_42 : decode cX1_twice 42 = .ok (.invokevirtual 242, 3) := dk_182 0 242 (dk_at dksX1_twice_1 18 rfl rfl)
theorem dX1_twice_45 : decode cX1_twice 45 = .ok (.checkcast 245, 3) := dk_192 0 245 (dk_at dksX1_twice_1 21 rfl rfl)
theorem dX1_twice_48 : decode cX1_twice 48 = .ok (.getfield 250, 3) := dk_180 0 250 (dk_at dksX1_twice_2 0 rfl rfl)
theorem dX1_twice_51 : decode cX1_twice 51 = .ok (.invokevirtual 129, 3) := dk_182 0 129 (dk_at dksX1_twice_2 3 rfl rfl)
theorem dX1_twice_54 : decode cX1_twice 54 = .ok (.aload_n 0, 1) := dk_42 (dk_at dksX1_twice_2 6 rfl rfl)
theorem dX1_twice_55 : decode cX1_twice 55 = .ok (.iload_n 1, 1) := dk_27 (dk_at dksX1_twice_2 7 rfl rfl)
theorem dX1_twice_56 : decode cX1_twice 56 = .ok (.invokevirtual 253, 3) := dk_182 0 253 (dk_at dksX1_twice_2 8 rfl rfl)
theorem dX1_twice_59 : decode cX1_twice 59 = .ok (.ireturn, 1) := dk_172 (dk_at dksX1_twice_2 11 rfl rfl)
abbrev cX1_lose : ByteArray := prog_1_method_30_code
def yX1_lose : MethodName := ⟨RX1, "lose", "(II)I"⟩
def dkwX1_lose_2 : List UInt8 := [167, 255, 229, 45, 180, 0, 235, 182, 0, 238, 172]
abbrev dktX1_lose_2 : List UInt8 := dkwX1_lose_2 ++ []
def dkwX1_lose_1 : List UInt8 := [162, 0, 27, 45, 180, 0, 235, 182, 0, 239, 154, 0, 17, 45, 180, 0, 235, 182, 1, 1, 87, 132, 4, 1]
abbrev dktX1_lose_1 : List UInt8 := dkwX1_lose_1 ++ dktX1_lose_2
def dkwX1_lose_0 : List UInt8 := [42, 27, 182, 0, 228, 78, 28, 4, 16, 8, 184, 0, 75, 184, 0, 140, 3, 54, 4, 21, 4, 28]
abbrev dktX1_lose_0 : List UInt8 := dkwX1_lose_0 ++ dktX1_lose_1
theorem dksX1_lose_0 : cX1_lose.data.toList.drop 0 = dktX1_lose_0 := by decide +kernel
theorem dksX1_lose_1 : cX1_lose.data.toList.drop 22 = dktX1_lose_1 := dk_seg dksX1_lose_0 22 rfl rfl
theorem dksX1_lose_2 : cX1_lose.data.toList.drop 46 = dktX1_lose_2 := dk_seg dksX1_lose_1 24 rfl rfl
theorem dX1_lose_0 : decode cX1_lose 0 = .ok (.aload_n 0, 1) := dk_42 (dk_at dksX1_lose_0 0 rfl rfl)
theorem dX1_lose_1 : decode cX1_lose 1 = .ok (.iload_n 1, 1) := dk_27 (dk_at dksX1_lose_0 1 rfl rfl)
theorem dX1_lose_2 : decode cX1_lose 2 = .ok (.invokevirtual 228, 3) := dk_182 0 228 (dk_at dksX1_lose_0 2 rfl rfl)
theorem dX1_lose_5 : decode cX1_lose 5 = .ok (.astore_n 3, 1) := dk_78 (dk_at dksX1_lose_0 5 rfl rfl)
theorem dX1_lose_6 : decode cX1_lose 6 = .ok (.iload_n 2, 1) := dk_28 (dk_at dksX1_lose_0 6 rfl rfl)
theorem dX1_lose_7 : decode cX1_lose 7 = .ok (.iconst 1, 1) := dk_4 (dk_at dksX1_lose_0 7 rfl rfl)
theorem dX1_lose_8 : decode cX1_lose 8 = .ok (.bipush 8, 2) := dk_16 8 (dk_at dksX1_lose_0 8 rfl rfl)
theorem dX1_lose_10 : decode cX1_lose 10 = .ok (.invokestatic 75, 3) := dk_184 0 75 (dk_at dksX1_lose_0 10 rfl rfl)
theorem dX1_lose_13 : decode cX1_lose 13 = .ok (.invokestatic 140, 3) := dk_184 0 140 (dk_at dksX1_lose_0 13 rfl rfl)
theorem dX1_lose_16 : decode cX1_lose 16 = .ok (.iconst 0, 1) := dk_3 (dk_at dksX1_lose_0 16 rfl rfl)
theorem dX1_lose_17 : decode cX1_lose 17 = .ok (.istore 4, 2) := dk_54 4 (dk_at dksX1_lose_0 17 rfl rfl)
theorem dX1_lose_19 : decode cX1_lose 19 = .ok (.iload 4, 2) := dk_21 4 (dk_at dksX1_lose_0 19 rfl rfl)
theorem dX1_lose_21 : decode cX1_lose 21 = .ok (.iload_n 2, 1) := dk_28 (dk_at dksX1_lose_0 21 rfl rfl)
theorem dX1_lose_22 : decode cX1_lose 22 = .ok (.if_icmp .ge 27, 3) := dk_162 0 27 (dk_at dksX1_lose_1 0 rfl rfl)
theorem dX1_lose_25 : decode cX1_lose 25 = .ok (.aload_n 3, 1) := dk_45 (dk_at dksX1_lose_1 3 rfl rfl)
theorem dX1_lose_26 : decode cX1_lose 26 = .ok (.getfield 235, 3) := dk_180 0 235 (dk_at dksX1_lose_1 4 rfl rfl)
theorem dX1_lose_29 : decode cX1_lose 29 = .ok (.invokevirtual 239, 3) := dk_182 0 239 (dk_at dksX1_lose_1 7 rfl rfl)
theorem dX1_lose_32 : decode cX1_lose 32 = .ok (.ifCond .ne 17, 3) := dk_154 0 17 (dk_at dksX1_lose_1 10 rfl rfl)
theorem dX1_lose_35 : decode cX1_lose 35 = .ok (.aload_n 3, 1) := dk_45 (dk_at dksX1_lose_1 13 rfl rfl)
theorem dX1_lose_36 : decode cX1_lose 36 = .ok (.getfield 235, 3) := dk_180 0 235 (dk_at dksX1_lose_1 14 rfl rfl)
theorem dX1_lose_39 : decode cX1_lose 39 = .ok (.invokevirtual 257, 3) := dk_182 1 1 (dk_at dksX1_lose_1 17 rfl rfl)
theorem dX1_lose_42 : decode cX1_lose 42 = .ok (.pop, 1) := dk_87 (dk_at dksX1_lose_1 20 rfl rfl)
theorem dX1_lose_43 : decode cX1_lose 43 = .ok (.iinc 4 1, 3) := dk_132 4 1 (dk_at dksX1_lose_1 21 rfl rfl)
theorem dX1_lose_46 : decode cX1_lose 46 = .ok (.goto (-27), 3) := dk_167 255 229 (dk_at dksX1_lose_2 0 rfl rfl)
theorem dX1_lose_49 : decode cX1_lose 49 = .ok (.aload_n 3, 1) := dk_45 (dk_at dksX1_lose_2 3 rfl rfl)
theorem dX1_lose_50 : decode cX1_lose 50 = .ok (.getfield 235, 3) := dk_180 0 235 (dk_at dksX1_lose_2 4 rfl rfl)
theorem dX1_lose_53 : decode cX1_lose 53 = .ok (.invokevirtual 238, 3) := dk_182 0 238 (dk_at dksX1_lose_2 7 rfl rfl)
theorem dX1_lose_56 : decode cX1_lose 56 = .ok (.ireturn, 1) := dk_172 (dk_at dksX1_lose_2 10 rfl rfl)
abbrev cX1_pass : ByteArray := prog_1_method_50_code
def yX1_pass : MethodName := ⟨RX1, "pass", "(I)I"⟩
def dkwX1_pass_1 : List UInt8 := [167, 0, 4, 3, 184, 0, 147, 42, 89, 180, 1, 121, 27, 96, 181, 1, 121, 42, 180, 1, 121, 172]
abbrev dktX1_pass_1 : List UInt8 := dkwX1_pass_1 ++ []
def dkwX1_pass_0 : List UInt8 := [27, 4, 17, 3, 232, 184, 0, 75, 184, 0, 140, 42, 180, 1, 121, 27, 96, 19, 1, 154, 163, 0, 7, 4]
abbrev dktX1_pass_0 : List UInt8 := dkwX1_pass_0 ++ dktX1_pass_1
theorem dksX1_pass_0 : cX1_pass.data.toList.drop 0 = dktX1_pass_0 := by decide +kernel
theorem dksX1_pass_1 : cX1_pass.data.toList.drop 24 = dktX1_pass_1 := dk_seg dksX1_pass_0 24 rfl rfl
theorem dX1_pass_0 : decode cX1_pass 0 = .ok (.iload_n 1, 1) := dk_27 (dk_at dksX1_pass_0 0 rfl rfl)
theorem dX1_pass_1 : decode cX1_pass 1 = .ok (.iconst 1, 1) := dk_4 (dk_at dksX1_pass_0 1 rfl rfl)
theorem dX1_pass_2 : decode cX1_pass 2 = .ok (.sipush 1000, 3) := dk_17 3 232 (dk_at dksX1_pass_0 2 rfl rfl)
theorem dX1_pass_5 : decode cX1_pass 5 = .ok (.invokestatic 75, 3) := dk_184 0 75 (dk_at dksX1_pass_0 5 rfl rfl)
theorem dX1_pass_8 : decode cX1_pass 8 = .ok (.invokestatic 140, 3) := dk_184 0 140 (dk_at dksX1_pass_0 8 rfl rfl)
theorem dX1_pass_11 : decode cX1_pass 11 = .ok (.aload_n 0, 1) := dk_42 (dk_at dksX1_pass_0 11 rfl rfl)
theorem dX1_pass_12 : decode cX1_pass 12 = .ok (.getfield 377, 3) := dk_180 1 121 (dk_at dksX1_pass_0 12 rfl rfl)
theorem dX1_pass_15 : decode cX1_pass 15 = .ok (.iload_n 1, 1) := dk_27 (dk_at dksX1_pass_0 15 rfl rfl)
theorem dX1_pass_16 : decode cX1_pass 16 = .ok (.iadd, 1) := dk_96 (dk_at dksX1_pass_0 16 rfl rfl)
theorem dX1_pass_17 : decode cX1_pass 17 = .ok (.ldc_w 410, 3) := dk_19 1 154 (dk_at dksX1_pass_0 17 rfl rfl)
theorem dX1_pass_20 : decode cX1_pass 20 = .ok (.if_icmp .gt 7, 3) := dk_163 0 7 (dk_at dksX1_pass_0 20 rfl rfl)
theorem dX1_pass_23 : decode cX1_pass 23 = .ok (.iconst 1, 1) := dk_4 (dk_at dksX1_pass_0 23 rfl rfl)
theorem dX1_pass_24 : decode cX1_pass 24 = .ok (.goto 4, 3) := dk_167 0 4 (dk_at dksX1_pass_1 0 rfl rfl)
theorem dX1_pass_27 : decode cX1_pass 27 = .ok (.iconst 0, 1) := dk_3 (dk_at dksX1_pass_1 3 rfl rfl)
theorem dX1_pass_28 : decode cX1_pass 28 = .ok (.invokestatic 147, 3) := dk_184 0 147 (dk_at dksX1_pass_1 4 rfl rfl)
theorem dX1_pass_31 : decode cX1_pass 31 = .ok (.aload_n 0, 1) := dk_42 (dk_at dksX1_pass_1 7 rfl rfl)
theorem dX1_pass_32 : decode cX1_pass 32 = .ok (.dup, 1) := dk_89 (dk_at dksX1_pass_1 8 rfl rfl)
theorem dX1_pass_33 : decode cX1_pass 33 = .ok (.getfield 377, 3) := dk_180 1 121 (dk_at dksX1_pass_1 9 rfl rfl)
theorem dX1_pass_36 : decode cX1_pass 36 = .ok (.iload_n 1, 1) := dk_27 (dk_at dksX1_pass_1 12 rfl rfl)
theorem dX1_pass_37 : decode cX1_pass 37 = .ok (.iadd, 1) := dk_96 (dk_at dksX1_pass_1 13 rfl rfl)
theorem dX1_pass_38 : decode cX1_pass 38 = .ok (.putfield 377, 3) := dk_181 1 121 (dk_at dksX1_pass_1 14 rfl rfl)
theorem dX1_pass_41 : decode cX1_pass 41 = .ok (.aload_n 0, 1) := dk_42 (dk_at dksX1_pass_1 17 rfl rfl)
theorem dX1_pass_42 : decode cX1_pass 42 = .ok (.getfield 377, 3) := dk_180 1 121 (dk_at dksX1_pass_1 18 rfl rfl)
theorem dX1_pass_45 : decode cX1_pass 45 = .ok (.ireturn, 1) := dk_172 (dk_at dksX1_pass_1 21 rfl rfl)
abbrev cX1_limits : ByteArray := prog_1_method_52_code
def yX1_limits : MethodName := ⟨RX1, "limits", "(II)I"⟩
def dkwX1_limits_1 : List UInt8 := [184, 0, 140, 42, 180, 0, 57, 62, 42, 27, 181, 0, 53, 42, 28, 181, 0, 57, 29, 172]
abbrev dktX1_limits_1 : List UInt8 := dkwX1_limits_1 ++ []
def dkwX1_limits_0 : List UInt8 := [27, 3, 6, 184, 0, 75, 153, 0, 17, 28, 4, 16, 20, 184, 0, 75, 153, 0, 7, 4, 167, 0, 4, 3]
abbrev dktX1_limits_0 : List UInt8 := dkwX1_limits_0 ++ dktX1_limits_1
theorem dksX1_limits_0 : cX1_limits.data.toList.drop 0 = dktX1_limits_0 := by decide +kernel
theorem dksX1_limits_1 : cX1_limits.data.toList.drop 24 = dktX1_limits_1 := dk_seg dksX1_limits_0 24 rfl rfl
theorem dX1_limits_0 : decode cX1_limits 0 = .ok (.iload_n 1, 1) := dk_27 (dk_at dksX1_limits_0 0 rfl rfl)
theorem dX1_limits_1 : decode cX1_limits 1 = .ok (.iconst 0, 1) := dk_3 (dk_at dksX1_limits_0 1 rfl rfl)
theorem dX1_limits_2 : decode cX1_limits 2 = .ok (.iconst 3, 1) := dk_6 (dk_at dksX1_limits_0 2 rfl rfl)
theorem dX1_limits_3 : decode cX1_limits 3 = .ok (.invokestatic 75, 3) := dk_184 0 75 (dk_at dksX1_limits_0 3 rfl rfl)
theorem dX1_limits_6 : decode cX1_limits 6 = .ok (.ifCond .eq 17, 3) := dk_153 0 17 (dk_at dksX1_limits_0 6 rfl rfl)
theorem dX1_limits_9 : decode cX1_limits 9 = .ok (.iload_n 2, 1) := dk_28 (dk_at dksX1_limits_0 9 rfl rfl)
theorem dX1_limits_10 : decode cX1_limits 10 = .ok (.iconst 1, 1) := dk_4 (dk_at dksX1_limits_0 10 rfl rfl)
theorem dX1_limits_11 : decode cX1_limits 11 = .ok (.bipush 20, 2) := dk_16 20 (dk_at dksX1_limits_0 11 rfl rfl)
theorem dX1_limits_13 : decode cX1_limits 13 = .ok (.invokestatic 75, 3) := dk_184 0 75 (dk_at dksX1_limits_0 13 rfl rfl)
theorem dX1_limits_16 : decode cX1_limits 16 = .ok (.ifCond .eq 7, 3) := dk_153 0 7 (dk_at dksX1_limits_0 16 rfl rfl)
theorem dX1_limits_19 : decode cX1_limits 19 = .ok (.iconst 1, 1) := dk_4 (dk_at dksX1_limits_0 19 rfl rfl)
theorem dX1_limits_20 : decode cX1_limits 20 = .ok (.goto 4, 3) := dk_167 0 4 (dk_at dksX1_limits_0 20 rfl rfl)
theorem dX1_limits_23 : decode cX1_limits 23 = .ok (.iconst 0, 1) := dk_3 (dk_at dksX1_limits_0 23 rfl rfl)
theorem dX1_limits_24 : decode cX1_limits 24 = .ok (.invokestatic 140, 3) := dk_184 0 140 (dk_at dksX1_limits_1 0 rfl rfl)
theorem dX1_limits_27 : decode cX1_limits 27 = .ok (.aload_n 0, 1) := dk_42 (dk_at dksX1_limits_1 3 rfl rfl)
theorem dX1_limits_28 : decode cX1_limits 28 = .ok (.getfield 57, 3) := dk_180 0 57 (dk_at dksX1_limits_1 4 rfl rfl)
theorem dX1_limits_31 : decode cX1_limits 31 = .ok (.istore_n 3, 1) := dk_62 (dk_at dksX1_limits_1 7 rfl rfl)
theorem dX1_limits_32 : decode cX1_limits 32 = .ok (.aload_n 0, 1) := dk_42 (dk_at dksX1_limits_1 8 rfl rfl)
theorem dX1_limits_33 : decode cX1_limits 33 = .ok (.iload_n 1, 1) := dk_27 (dk_at dksX1_limits_1 9 rfl rfl)
theorem dX1_limits_34 : decode cX1_limits 34 = .ok (.putfield 53, 3) := dk_181 0 53 (dk_at dksX1_limits_1 10 rfl rfl)
theorem dX1_limits_37 : decode cX1_limits 37 = .ok (.aload_n 0, 1) := dk_42 (dk_at dksX1_limits_1 13 rfl rfl)
theorem dX1_limits_38 : decode cX1_limits 38 = .ok (.iload_n 2, 1) := dk_28 (dk_at dksX1_limits_1 14 rfl rfl)
theorem dX1_limits_39 : decode cX1_limits 39 = .ok (.putfield 57, 3) := dk_181 0 57 (dk_at dksX1_limits_1 15 rfl rfl)
theorem dX1_limits_42 : decode cX1_limits 42 = .ok (.iload_n 3, 1) := dk_29 (dk_at dksX1_limits_1 18 rfl rfl)
theorem dX1_limits_43 : decode cX1_limits 43 = .ok (.ireturn, 1) := dk_172 (dk_at dksX1_limits_1 19 rfl rfl)
abbrev cX1_work : ByteArray := prog_1_method_47_code
def yX1_work : MethodName := ⟨RX1, "work", "(I)I"⟩
def dkwX1_work_6 : List UInt8 := [3, 181, 1, 53, 167, 255, 228, 42, 182, 1, 139, 29, 172]
abbrev dktX1_work_6 : List UInt8 := dkwX1_work_6 ++ []
def dkwX1_work_5 : List UInt8 := [25, 5, 185, 0, 110, 1, 0, 153, 0, 24, 25, 5, 185, 0, 116, 1, 0, 192, 1, 5, 58, 6, 25, 6]
abbrev dktX1_work_5 : List UInt8 := dkwX1_work_5 ++ dktX1_work_6
def dkwX1_work_4 : List UInt8 := [180, 1, 127, 153, 0, 7, 29, 167, 0, 4, 3, 96, 181, 1, 124, 42, 180, 0, 37, 182, 1, 4, 58, 5]
abbrev dktX1_work_4 : List UInt8 := dkwX1_work_4 ++ dktX1_work_5
def dkwX1_work_3 : List UInt8 := [100, 182, 1, 136, 54, 4, 29, 21, 4, 96, 62, 21, 4, 157, 255, 240, 42, 89, 180, 1, 124, 42]
abbrev dktX1_work_3 : List UInt8 := dkwX1_work_3 ++ dktX1_work_4
def dkwX1_work_2 : List UInt8 := [153, 0, 17, 27, 16, 20, 42, 180, 1, 124, 100, 184, 1, 130, 167, 0, 4, 27, 61, 3, 62, 42, 28, 29]
abbrev dktX1_work_2 : List UInt8 := dkwX1_work_2 ++ dktX1_work_3
def dkwX1_work_1 : List UInt8 := [159, 0, 19, 42, 42, 180, 1, 121, 16, 60, 108, 181, 1, 118, 42, 3, 181, 1, 124, 42, 180, 1, 127]
abbrev dktX1_work_1 : List UInt8 := dkwX1_work_1 ++ dktX1_work_2
def dkwX1_work_0 : List UInt8 := [27, 4, 17, 1, 244, 184, 0, 75, 184, 0, 140, 42, 180, 1, 118, 42, 180, 1, 121, 16, 60, 108]
abbrev dktX1_work_0 : List UInt8 := dkwX1_work_0 ++ dktX1_work_1
theorem dksX1_work_0 : cX1_work.data.toList.drop 0 = dktX1_work_0 := by decide +kernel
theorem dksX1_work_1 : cX1_work.data.toList.drop 22 = dktX1_work_1 := dk_seg dksX1_work_0 22 rfl rfl
theorem dksX1_work_2 : cX1_work.data.toList.drop 45 = dktX1_work_2 := dk_seg dksX1_work_1 23 rfl rfl
theorem dksX1_work_3 : cX1_work.data.toList.drop 69 = dktX1_work_3 := dk_seg dksX1_work_2 24 rfl rfl
theorem dksX1_work_4 : cX1_work.data.toList.drop 91 = dktX1_work_4 := dk_seg dksX1_work_3 22 rfl rfl
theorem dksX1_work_5 : cX1_work.data.toList.drop 115 = dktX1_work_5 := dk_seg dksX1_work_4 24 rfl rfl
theorem dksX1_work_6 : cX1_work.data.toList.drop 139 = dktX1_work_6 := dk_seg dksX1_work_5 24 rfl rfl
theorem dX1_work_0 : decode cX1_work 0 = .ok (.iload_n 1, 1) := dk_27 (dk_at dksX1_work_0 0 rfl rfl)
theorem dX1_work_1 : decode cX1_work 1 = .ok (.iconst 1, 1) := dk_4 (dk_at dksX1_work_0 1 rfl rfl)
theorem dX1_work_2 : decode cX1_work 2 = .ok (.sipush 500, 3) := dk_17 1 244 (dk_at dksX1_work_0 2 rfl rfl)
theorem dX1_work_5 : decode cX1_work 5 = .ok (.invokestatic 75, 3) := dk_184 0 75 (dk_at dksX1_work_0 5 rfl rfl)
theorem dX1_work_8 : decode cX1_work 8 = .ok (.invokestatic 140, 3) := dk_184 0 140 (dk_at dksX1_work_0 8 rfl rfl)
theorem dX1_work_11 : decode cX1_work 11 = .ok (.aload_n 0, 1) := dk_42 (dk_at dksX1_work_0 11 rfl rfl)
theorem dX1_work_12 : decode cX1_work 12 = .ok (.getfield 374, 3) := dk_180 1 118 (dk_at dksX1_work_0 12 rfl rfl)
theorem dX1_work_15 : decode cX1_work 15 = .ok (.aload_n 0, 1) := dk_42 (dk_at dksX1_work_0 15 rfl rfl)
theorem dX1_work_16 : decode cX1_work 16 = .ok (.getfield 377, 3) := dk_180 1 121 (dk_at dksX1_work_0 16 rfl rfl)
theorem dX1_work_19 : decode cX1_work 19 = .ok (.bipush 60, 2) := dk_16 60 (dk_at dksX1_work_0 19 rfl rfl)
theorem dX1_work_21 : decode cX1_work 21 = .ok (.idiv, 1) := dk_108 (dk_at dksX1_work_0 21 rfl rfl)
theorem dX1_work_22 : decode cX1_work 22 = .ok (.if_icmp .eq 19, 3) := dk_159 0 19 (dk_at dksX1_work_1 0 rfl rfl)
theorem dX1_work_25 : decode cX1_work 25 = .ok (.aload_n 0, 1) := dk_42 (dk_at dksX1_work_1 3 rfl rfl)
theorem dX1_work_26 : decode cX1_work 26 = .ok (.aload_n 0, 1) := dk_42 (dk_at dksX1_work_1 4 rfl rfl)
theorem dX1_work_27 : decode cX1_work 27 = .ok (.getfield 377, 3) := dk_180 1 121 (dk_at dksX1_work_1 5 rfl rfl)
theorem dX1_work_30 : decode cX1_work 30 = .ok (.bipush 60, 2) := dk_16 60 (dk_at dksX1_work_1 8 rfl rfl)
theorem dX1_work_32 : decode cX1_work 32 = .ok (.idiv, 1) := dk_108 (dk_at dksX1_work_1 10 rfl rfl)
theorem dX1_work_33 : decode cX1_work 33 = .ok (.putfield 374, 3) := dk_181 1 118 (dk_at dksX1_work_1 11 rfl rfl)
theorem dX1_work_36 : decode cX1_work 36 = .ok (.aload_n 0, 1) := dk_42 (dk_at dksX1_work_1 14 rfl rfl)
theorem dX1_work_37 : decode cX1_work 37 = .ok (.iconst 0, 1) := dk_3 (dk_at dksX1_work_1 15 rfl rfl)
theorem dX1_work_38 : decode cX1_work 38 = .ok (.putfield 380, 3) := dk_181 1 124 (dk_at dksX1_work_1 16 rfl rfl)
theorem dX1_work_41 : decode cX1_work 41 = .ok (.aload_n 0, 1) := dk_42 (dk_at dksX1_work_1 19 rfl rfl)
theorem dX1_work_42 : decode cX1_work 42 = .ok (.getfield 383, 3) := dk_180 1 127 (dk_at dksX1_work_1 20 rfl rfl)
theorem dX1_work_45 : decode cX1_work 45 = .ok (.ifCond .eq 17, 3) := dk_153 0 17 (dk_at dksX1_work_2 0 rfl rfl)
theorem dX1_work_48 : decode cX1_work 48 = .ok (.iload_n 1, 1) := dk_27 (dk_at dksX1_work_2 3 rfl rfl)
theorem dX1_work_49 : decode cX1_work 49 = .ok (.bipush 20, 2) := dk_16 20 (dk_at dksX1_work_2 4 rfl rfl)
theorem dX1_work_51 : decode cX1_work 51 = .ok (.aload_n 0, 1) := dk_42 (dk_at dksX1_work_2 6 rfl rfl)
theorem dX1_work_52 : decode cX1_work 52 = .ok (.getfield 380, 3) := dk_180 1 124 (dk_at dksX1_work_2 7 rfl rfl)
theorem dX1_work_55 : decode cX1_work 55 = .ok (.isub, 1) := dk_100 (dk_at dksX1_work_2 10 rfl rfl)
theorem dX1_work_56 : decode cX1_work 56 = .ok (.invokestatic 386, 3) := dk_184 1 130 (dk_at dksX1_work_2 11 rfl rfl)
theorem dX1_work_59 : decode cX1_work 59 = .ok (.goto 4, 3) := dk_167 0 4 (dk_at dksX1_work_2 14 rfl rfl)
theorem dX1_work_62 : decode cX1_work 62 = .ok (.iload_n 1, 1) := dk_27 (dk_at dksX1_work_2 17 rfl rfl)
theorem dX1_work_63 : decode cX1_work 63 = .ok (.istore_n 2, 1) := dk_61 (dk_at dksX1_work_2 18 rfl rfl)
theorem dX1_work_64 : decode cX1_work 64 = .ok (.iconst 0, 1) := dk_3 (dk_at dksX1_work_2 19 rfl rfl)
theorem dX1_work_65 : decode cX1_work 65 = .ok (.istore_n 3, 1) := dk_62 (dk_at dksX1_work_2 20 rfl rfl)
theorem dX1_work_66 : decode cX1_work 66 = .ok (.aload_n 0, 1) := dk_42 (dk_at dksX1_work_2 21 rfl rfl)
theorem dX1_work_67 : decode cX1_work 67 = .ok (.iload_n 2, 1) := dk_28 (dk_at dksX1_work_2 22 rfl rfl)
theorem dX1_work_68 : decode cX1_work 68 = .ok (.iload_n 3, 1) := dk_29 (dk_at dksX1_work_2 23 rfl rfl)
theorem dX1_work_69 : decode cX1_work 69 = .ok (.isub, 1) := dk_100 (dk_at dksX1_work_3 0 rfl rfl)
theorem dX1_work_70 : decode cX1_work 70 = .ok (.invokevirtual 392, 3) := dk_182 1 136 (dk_at dksX1_work_3 1 rfl rfl)
theorem dX1_work_73 : decode cX1_work 73 = .ok (.istore 4, 2) := dk_54 4 (dk_at dksX1_work_3 4 rfl rfl)
theorem dX1_work_75 : decode cX1_work 75 = .ok (.iload_n 3, 1) := dk_29 (dk_at dksX1_work_3 6 rfl rfl)
theorem dX1_work_76 : decode cX1_work 76 = .ok (.iload 4, 2) := dk_21 4 (dk_at dksX1_work_3 7 rfl rfl)
theorem dX1_work_78 : decode cX1_work 78 = .ok (.iadd, 1) := dk_96 (dk_at dksX1_work_3 9 rfl rfl)
theorem dX1_work_79 : decode cX1_work 79 = .ok (.istore_n 3, 1) := dk_62 (dk_at dksX1_work_3 10 rfl rfl)
theorem dX1_work_80 : decode cX1_work 80 = .ok (.iload 4, 2) := dk_21 4 (dk_at dksX1_work_3 11 rfl rfl)
theorem dX1_work_82 : decode cX1_work 82 = .ok (.ifCond .gt (-16), 3) := dk_157 255 240 (dk_at dksX1_work_3 13 rfl rfl)
theorem dX1_work_85 : decode cX1_work 85 = .ok (.aload_n 0, 1) := dk_42 (dk_at dksX1_work_3 16 rfl rfl)
theorem dX1_work_86 : decode cX1_work 86 = .ok (.dup, 1) := dk_89 (dk_at dksX1_work_3 17 rfl rfl)
theorem dX1_work_87 : decode cX1_work 87 = .ok (.getfield 380, 3) := dk_180 1 124 (dk_at dksX1_work_3 18 rfl rfl)
theorem dX1_work_90 : decode cX1_work 90 = .ok (.aload_n 0, 1) := dk_42 (dk_at dksX1_work_3 21 rfl rfl)
theorem dX1_work_91 : decode cX1_work 91 = .ok (.getfield 383, 3) := dk_180 1 127 (dk_at dksX1_work_4 0 rfl rfl)
theorem dX1_work_94 : decode cX1_work 94 = .ok (.ifCond .eq 7, 3) := dk_153 0 7 (dk_at dksX1_work_4 3 rfl rfl)
theorem dX1_work_97 : decode cX1_work 97 = .ok (.iload_n 3, 1) := dk_29 (dk_at dksX1_work_4 6 rfl rfl)
theorem dX1_work_98 : decode cX1_work 98 = .ok (.goto 4, 3) := dk_167 0 4 (dk_at dksX1_work_4 7 rfl rfl)
theorem dX1_work_101 : decode cX1_work 101 = .ok (.iconst 0, 1) := dk_3 (dk_at dksX1_work_4 10 rfl rfl)
theorem dX1_work_102 : decode cX1_work 102 = .ok (.iadd, 1) := dk_96 (dk_at dksX1_work_4 11 rfl rfl)
theorem dX1_work_103 : decode cX1_work 103 = .ok (.putfield 380, 3) := dk_181 1 124 (dk_at dksX1_work_4 12 rfl rfl)
theorem dX1_work_106 : decode cX1_work 106 = .ok (.aload_n 0, 1) := dk_42 (dk_at dksX1_work_4 15 rfl rfl)
theorem dX1_work_107 : decode cX1_work 107 = .ok (.getfield 37, 3) := dk_180 0 37 (dk_at dksX1_work_4 16 rfl rfl)
theorem dX1_work_110 : decode cX1_work 110 = .ok (.invokevirtual 260, 3) := dk_182 1 4 (dk_at dksX1_work_4 19 rfl rfl)
theorem dX1_work_113 : decode cX1_work 113 = .ok (.astore 5, 2) := dk_58 5 (dk_at dksX1_work_4 22 rfl rfl)
theorem dX1_work_115 : decode cX1_work 115 = .ok (.aload 5, 2) := dk_25 5 (dk_at dksX1_work_5 0 rfl rfl)
theorem dX1_work_117 : decode cX1_work 117 = .ok (.invokeinterface 110 1, 5) := by decide +kernel
theorem dX1_work_122 : decode cX1_work 122 = .ok (.ifCond .eq 24, 3) := dk_153 0 24 (dk_at dksX1_work_5 7 rfl rfl)
theorem dX1_work_125 : decode cX1_work 125 = .ok (.aload 5, 2) := dk_25 5 (dk_at dksX1_work_5 10 rfl rfl)
theorem dX1_work_127 : decode cX1_work 127 = .ok (.invokeinterface 116 1, 5) := by decide +kernel
theorem dX1_work_132 : decode cX1_work 132 = .ok (.checkcast 261, 3) := dk_192 1 5 (dk_at dksX1_work_5 17 rfl rfl)
theorem dX1_work_135 : decode cX1_work 135 = .ok (.astore 6, 2) := dk_58 6 (dk_at dksX1_work_5 20 rfl rfl)
theorem dX1_work_137 : decode cX1_work 137 = .ok (.aload 6, 2) := dk_25 6 (dk_at dksX1_work_5 22 rfl rfl)
theorem dX1_work_139 : decode cX1_work 139 = .ok (.iconst 0, 1) := dk_3 (dk_at dksX1_work_6 0 rfl rfl)
theorem dX1_work_140 : decode cX1_work 140 = .ok (.putfield 309, 3) := dk_181 1 53 (dk_at dksX1_work_6 1 rfl rfl)
theorem dX1_work_143 : decode cX1_work 143 = .ok (.goto (-28), 3) := dk_167 255 228 (dk_at dksX1_work_6 4 rfl rfl)
theorem dX1_work_146 : decode cX1_work 146 = .ok (.aload_n 0, 1) := dk_42 (dk_at dksX1_work_6 7 rfl rfl)
theorem dX1_work_147 : decode cX1_work 147 = .ok (.invokevirtual 395, 3) := dk_182 1 139 (dk_at dksX1_work_6 8 rfl rfl)
theorem dX1_work_150 : decode cX1_work 150 = .ok (.iload_n 3, 1) := dk_29 (dk_at dksX1_work_6 11 rfl rfl)
theorem dX1_work_151 : decode cX1_work 151 = .ok (.ireturn, 1) := dk_172 (dk_at dksX1_work_6 12 rfl rfl)
abbrev cX1_doNext : ByteArray := prog_1_method_46_code
def yX1_doNext : MethodName := ⟨RX1, "doNext", "(I)I"⟩
def dkwX1_doNext_5 : List UInt8 := [21, 5, 172]
abbrev dktX1_doNext_5 : List UInt8 := dkwX1_doNext_5 ++ []
def dkwX1_doNext_4 : List UInt8 := [42, 180, 0, 37, 45, 182, 1, 111, 87, 42, 45, 182, 1, 112, 167, 0, 9, 42, 25, 4, 182, 1, 116]
abbrev dktX1_doNext_4 : List UInt8 := dkwX1_doNext_4 ++ dktX1_doNext_5
def dkwX1_doNext_3 : List UInt8 := [21, 5, 27, 164, 0, 5, 3, 172, 44, 198, 0, 11, 42, 44, 182, 1, 107, 167, 0, 30, 45, 198, 0, 20]
abbrev dktX1_doNext_3 : List UInt8 := dkwX1_doNext_3 ++ dktX1_doNext_4
def dkwX1_doNext_2 : List UInt8 := [167, 0, 17, 44, 199, 0, 8, 25, 4, 198, 0, 7, 4, 167, 0, 4, 3, 54, 5, 21, 5, 153, 0, 9]
abbrev dktX1_doNext_2 : List UInt8 := dkwX1_doNext_2 ++ dktX1_doNext_3
def dkwX1_doNext_1 : List UInt8 := [199, 0, 10, 42, 182, 1, 100, 167, 0, 4, 1, 58, 4, 45, 198, 0, 11, 42, 45, 182, 1, 103]
abbrev dktX1_doNext_1 : List UInt8 := dkwX1_doNext_1 ++ dktX1_doNext_2
def dkwX1_doNext_0 : List UInt8 := [42, 182, 1, 93, 77, 44, 199, 0, 10, 42, 182, 1, 97, 167, 0, 4, 1, 78, 44, 199, 0, 14, 45]
abbrev dktX1_doNext_0 : List UInt8 := dkwX1_doNext_0 ++ dktX1_doNext_1
theorem dksX1_doNext_0 : cX1_doNext.data.toList.drop 0 = dktX1_doNext_0 := by decide +kernel
theorem dksX1_doNext_1 : cX1_doNext.data.toList.drop 23 = dktX1_doNext_1 := dk_seg dksX1_doNext_0 23 rfl rfl
theorem dksX1_doNext_2 : cX1_doNext.data.toList.drop 45 = dktX1_doNext_2 := dk_seg dksX1_doNext_1 22 rfl rfl
theorem dksX1_doNext_3 : cX1_doNext.data.toList.drop 69 = dktX1_doNext_3 := dk_seg dksX1_doNext_2 24 rfl rfl
theorem dksX1_doNext_4 : cX1_doNext.data.toList.drop 93 = dktX1_doNext_4 := dk_seg dksX1_doNext_3 24 rfl rfl
theorem dksX1_doNext_5 : cX1_doNext.data.toList.drop 116 = dktX1_doNext_5 := dk_seg dksX1_doNext_4 23 rfl rfl
theorem dX1_doNext_0 : decode cX1_doNext 0 = .ok (.aload_n 0, 1) := dk_42 (dk_at dksX1_doNext_0 0 rfl rfl)
theorem dX1_doNext_1 : decode cX1_doNext 1 = .ok (.invokevirtual 349, 3) := dk_182 1 93 (dk_at dksX1_doNext_0 1 rfl rfl)
theorem dX1_doNext_4 : decode cX1_doNext 4 = .ok (.astore_n 2, 1) := dk_77 (dk_at dksX1_doNext_0 4 rfl rfl)
theorem dX1_doNext_5 : decode cX1_doNext 5 = .ok (.aload_n 2, 1) := dk_44 (dk_at dksX1_doNext_0 5 rfl rfl)
theorem dX1_doNext_6 : decode cX1_doNext 6 = .ok (.ifnonnull 10, 3) := dk_199 0 10 (dk_at dksX1_doNext_0 6 rfl rfl)
theorem dX1_doNext_9 : decode cX1_doNext 9 = .ok (.aload_n 0, 1) := dk_42 (dk_at dksX1_doNext_0 9 rfl rfl)
theorem dX1_doNext_10 : decode cX1_doNext 10 = .ok (.invokevirtual 353, 3) := dk_182 1 97 (dk_at dksX1_doNext_0 10 rfl rfl)
theorem dX1_doNext_13 : decode cX1_doNext 13 = .ok (.goto 4, 3) := dk_167 0 4 (dk_at dksX1_doNext_0 13 rfl rfl)
theorem dX1_doNext_16 : decode cX1_doNext 16 = .ok (.aconst_null, 1) := dk_1 (dk_at dksX1_doNext_0 16 rfl rfl)
theorem dX1_doNext_17 : decode cX1_doNext 17 = .ok (.astore_n 3, 1) := dk_78 (dk_at dksX1_doNext_0 17 rfl rfl)
theorem dX1_doNext_18 : decode cX1_doNext 18 = .ok (.aload_n 2, 1) := dk_44 (dk_at dksX1_doNext_0 18 rfl rfl)
theorem dX1_doNext_19 : decode cX1_doNext 19 = .ok (.ifnonnull 14, 3) := dk_199 0 14 (dk_at dksX1_doNext_0 19 rfl rfl)
theorem dX1_doNext_22 : decode cX1_doNext 22 = .ok (.aload_n 3, 1) := dk_45 (dk_at dksX1_doNext_0 22 rfl rfl)
theorem dX1_doNext_23 : decode cX1_doNext 23 = .ok (.ifnonnull 10, 3) := dk_199 0 10 (dk_at dksX1_doNext_1 0 rfl rfl)
theorem dX1_doNext_26 : decode cX1_doNext 26 = .ok (.aload_n 0, 1) := dk_42 (dk_at dksX1_doNext_1 3 rfl rfl)
theorem dX1_doNext_27 : decode cX1_doNext 27 = .ok (.invokevirtual 356, 3) := dk_182 1 100 (dk_at dksX1_doNext_1 4 rfl rfl)
theorem dX1_doNext_30 : decode cX1_doNext 30 = .ok (.goto 4, 3) := dk_167 0 4 (dk_at dksX1_doNext_1 7 rfl rfl)
theorem dX1_doNext_33 : decode cX1_doNext 33 = .ok (.aconst_null, 1) := dk_1 (dk_at dksX1_doNext_1 10 rfl rfl)
theorem dX1_doNext_34 : decode cX1_doNext 34 = .ok (.astore 4, 2) := dk_58 4 (dk_at dksX1_doNext_1 11 rfl rfl)
theorem dX1_doNext_36 : decode cX1_doNext 36 = .ok (.aload_n 3, 1) := dk_45 (dk_at dksX1_doNext_1 13 rfl rfl)
theorem dX1_doNext_37 : decode cX1_doNext 37 = .ok (.ifnull 11, 3) := dk_198 0 11 (dk_at dksX1_doNext_1 14 rfl rfl)
theorem dX1_doNext_40 : decode cX1_doNext 40 = .ok (.aload_n 0, 1) := dk_42 (dk_at dksX1_doNext_1 17 rfl rfl)
theorem dX1_doNext_41 : decode cX1_doNext 41 = .ok (.aload_n 3, 1) := dk_45 (dk_at dksX1_doNext_1 18 rfl rfl)
theorem dX1_doNext_42 : decode cX1_doNext 42 = .ok (.invokevirtual 359, 3) := dk_182 1 103 (dk_at dksX1_doNext_1 19 rfl rfl)
theorem dX1_doNext_45 : decode cX1_doNext 45 = .ok (.goto 17, 3) := dk_167 0 17 (dk_at dksX1_doNext_2 0 rfl rfl)
theorem dX1_doNext_48 : decode cX1_doNext 48 = .ok (.aload_n 2, 1) := dk_44 (dk_at dksX1_doNext_2 3 rfl rfl)
theorem dX1_doNext_49 : decode cX1_doNext 49 = .ok (.ifnonnull 8, 3) := dk_199 0 8 (dk_at dksX1_doNext_2 4 rfl rfl)
theorem dX1_doNext_52 : decode cX1_doNext 52 = .ok (.aload 4, 2) := dk_25 4 (dk_at dksX1_doNext_2 7 rfl rfl)
theorem dX1_doNext_54 : decode cX1_doNext 54 = .ok (.ifnull 7, 3) := dk_198 0 7 (dk_at dksX1_doNext_2 9 rfl rfl)
theorem dX1_doNext_57 : decode cX1_doNext 57 = .ok (.iconst 1, 1) := dk_4 (dk_at dksX1_doNext_2 12 rfl rfl)
theorem dX1_doNext_58 : decode cX1_doNext 58 = .ok (.goto 4, 3) := dk_167 0 4 (dk_at dksX1_doNext_2 13 rfl rfl)
theorem dX1_doNext_61 : decode cX1_doNext 61 = .ok (.iconst 0, 1) := dk_3 (dk_at dksX1_doNext_2 16 rfl rfl)
theorem dX1_doNext_62 : decode cX1_doNext 62 = .ok (.istore 5, 2) := dk_54 5 (dk_at dksX1_doNext_2 17 rfl rfl)
theorem dX1_doNext_64 : decode cX1_doNext 64 = .ok (.iload 5, 2) := dk_21 5 (dk_at dksX1_doNext_2 19 rfl rfl)
theorem dX1_doNext_66 : decode cX1_doNext 66 = .ok (.ifCond .eq 9, 3) := dk_153 0 9 (dk_at dksX1_doNext_2 21 rfl rfl)
theorem dX1_doNext_69 : decode cX1_doNext 69 = .ok (.iload 5, 2) := dk_21 5 (dk_at dksX1_doNext_3 0 rfl rfl)
theorem dX1_doNext_71 : decode cX1_doNext 71 = .ok (.iload_n 1, 1) := dk_27 (dk_at dksX1_doNext_3 2 rfl rfl)
theorem dX1_doNext_72 : decode cX1_doNext 72 = .ok (.if_icmp .le 5, 3) := dk_164 0 5 (dk_at dksX1_doNext_3 3 rfl rfl)
theorem dX1_doNext_75 : decode cX1_doNext 75 = .ok (.iconst 0, 1) := dk_3 (dk_at dksX1_doNext_3 6 rfl rfl)
theorem dX1_doNext_76 : decode cX1_doNext 76 = .ok (.ireturn, 1) := dk_172 (dk_at dksX1_doNext_3 7 rfl rfl)
theorem dX1_doNext_77 : decode cX1_doNext 77 = .ok (.aload_n 2, 1) := dk_44 (dk_at dksX1_doNext_3 8 rfl rfl)
theorem dX1_doNext_78 : decode cX1_doNext 78 = .ok (.ifnull 11, 3) := dk_198 0 11 (dk_at dksX1_doNext_3 9 rfl rfl)
theorem dX1_doNext_81 : decode cX1_doNext 81 = .ok (.aload_n 0, 1) := dk_42 (dk_at dksX1_doNext_3 12 rfl rfl)
theorem dX1_doNext_82 : decode cX1_doNext 82 = .ok (.aload_n 2, 1) := dk_44 (dk_at dksX1_doNext_3 13 rfl rfl)
theorem dX1_doNext_83 : decode cX1_doNext 83 = .ok (.invokevirtual 363, 3) := dk_182 1 107 (dk_at dksX1_doNext_3 14 rfl rfl)
theorem dX1_doNext_86 : decode cX1_doNext 86 = .ok (.goto 30, 3) := dk_167 0 30 (dk_at dksX1_doNext_3 17 rfl rfl)
theorem dX1_doNext_89 : decode cX1_doNext 89 = .ok (.aload_n 3, 1) := dk_45 (dk_at dksX1_doNext_3 20 rfl rfl)
theorem dX1_doNext_90 : decode cX1_doNext 90 = .ok (.ifnull 20, 3) := dk_198 0 20 (dk_at dksX1_doNext_3 21 rfl rfl)
theorem dX1_doNext_93 : decode cX1_doNext 93 = .ok (.aload_n 0, 1) := dk_42 (dk_at dksX1_doNext_4 0 rfl rfl)
theorem dX1_doNext_94 : decode cX1_doNext 94 = .ok (.getfield 37, 3) := dk_180 0 37 (dk_at dksX1_doNext_4 1 rfl rfl)
theorem dX1_doNext_97 : decode cX1_doNext 97 = .ok (.aload_n 3, 1) := dk_45 (dk_at dksX1_doNext_4 4 rfl rfl)
theorem dX1_doNext_98 : decode cX1_doNext 98 = .ok (.invokevirtual 367, 3) := dk_182 1 111 (dk_at dksX1_doNext_4 5 rfl rfl)
theorem dX1_doNext_101 : decode cX1_doNext 101 = .ok (.pop, 1) := dk_87 (dk_at dksX1_doNext_4 8 rfl rfl)
theorem dX1_doNext_102 : decode cX1_doNext 102 = .ok (.aload_n 0, 1) := dk_42 (dk_at dksX1_doNext_4 9 rfl rfl)
theorem dX1_doNext_103 : decode cX1_doNext 103 = .ok (.aload_n 3, 1) := dk_45 (dk_at dksX1_doNext_4 10 rfl rfl)
theorem dX1_doNext_104 : decode cX1_doNext 104 = .ok (.invokevirtual 368, 3) := dk_182 1 112 (dk_at dksX1_doNext_4 11 rfl rfl)
theorem dX1_doNext_107 : decode cX1_doNext 107 = .ok (.goto 9, 3) := dk_167 0 9 (dk_at dksX1_doNext_4 14 rfl rfl)
theorem dX1_doNext_110 : decode cX1_doNext 110 = .ok (.aload_n 0, 1) := dk_42 (dk_at dksX1_doNext_4 17 rfl rfl)
theorem dX1_doNext_111 : decode cX1_doNext 111 = .ok (.aload 4, 2) := dk_25 4 (dk_at dksX1_doNext_4 18 rfl rfl)
theorem dX1_doNext_113 : decode cX1_doNext 113 = .ok (.invokevirtual 372, 3) := dk_182 1 116 (dk_at dksX1_doNext_4 20 rfl rfl)
theorem dX1_doNext_116 : decode cX1_doNext 116 = .ok (.iload 5, 2) := dk_21 5 (dk_at dksX1_doNext_5 0 rfl rfl)
theorem dX1_doNext_118 : decode cX1_doNext 118 = .ok (.ireturn, 1) := dk_172 (dk_at dksX1_doNext_5 2 rfl rfl)
abbrev cX1_next : ByteArray := prog_1_method_44_code
def yX1_next : MethodName := ⟨RX1, "next", "()LSearchKeeper$Act;"⟩
def dkwX1_next_1 : List UInt8 := [192, 1, 5, 77, 44, 180, 1, 53, 154, 0, 5, 44, 176, 167, 255, 228, 1, 176]
abbrev dktX1_next_1 : List UInt8 := dkwX1_next_1 ++ []
def dkwX1_next_0 : List UInt8 := [42, 180, 0, 37, 182, 1, 4, 76, 43, 185, 0, 110, 1, 0, 153, 0, 25, 43, 185, 0, 116, 1, 0]
abbrev dktX1_next_0 : List UInt8 := dkwX1_next_0 ++ dktX1_next_1
theorem dksX1_next_0 : cX1_next.data.toList.drop 0 = dktX1_next_0 := by decide +kernel
theorem dksX1_next_1 : cX1_next.data.toList.drop 23 = dktX1_next_1 := dk_seg dksX1_next_0 23 rfl rfl
theorem dX1_next_0 : decode cX1_next 0 = .ok (.aload_n 0, 1) := dk_42 (dk_at dksX1_next_0 0 rfl rfl)
theorem dX1_next_1 : decode cX1_next 1 = .ok (.getfield 37, 3) := dk_180 0 37 (dk_at dksX1_next_0 1 rfl rfl)
theorem dX1_next_4 : decode cX1_next 4 = .ok (.invokevirtual 260, 3) := dk_182 1 4 (dk_at dksX1_next_0 4 rfl rfl)
theorem dX1_next_7 : decode cX1_next 7 = .ok (.astore_n 1, 1) := dk_76 (dk_at dksX1_next_0 7 rfl rfl)
theorem dX1_next_8 : decode cX1_next 8 = .ok (.aload_n 1, 1) := dk_43 (dk_at dksX1_next_0 8 rfl rfl)
theorem dX1_next_9 : decode cX1_next 9 = .ok (.invokeinterface 110 1, 5) := by decide +kernel
theorem dX1_next_14 : decode cX1_next 14 = .ok (.ifCond .eq 25, 3) := dk_153 0 25 (dk_at dksX1_next_0 14 rfl rfl)
theorem dX1_next_17 : decode cX1_next 17 = .ok (.aload_n 1, 1) := dk_43 (dk_at dksX1_next_0 17 rfl rfl)
theorem dX1_next_18 : decode cX1_next 18 = .ok (.invokeinterface 116 1, 5) := by decide +kernel
theorem dX1_next_23 : decode cX1_next 23 = .ok (.checkcast 261, 3) := dk_192 1 5 (dk_at dksX1_next_1 0 rfl rfl)
theorem dX1_next_26 : decode cX1_next 26 = .ok (.astore_n 2, 1) := dk_77 (dk_at dksX1_next_1 3 rfl rfl)
theorem dX1_next_27 : decode cX1_next 27 = .ok (.aload_n 2, 1) := dk_44 (dk_at dksX1_next_1 4 rfl rfl)
theorem dX1_next_28 : decode cX1_next 28 = .ok (.getfield 309, 3) := dk_180 1 53 (dk_at dksX1_next_1 5 rfl rfl)
theorem dX1_next_31 : decode cX1_next 31 = .ok (.ifCond .ne 5, 3) := dk_154 0 5 (dk_at dksX1_next_1 8 rfl rfl)
theorem dX1_next_34 : decode cX1_next 34 = .ok (.aload_n 2, 1) := dk_44 (dk_at dksX1_next_1 11 rfl rfl)
theorem dX1_next_35 : decode cX1_next 35 = .ok (.areturn, 1) := dk_176 (dk_at dksX1_next_1 12 rfl rfl)
theorem dX1_next_36 : decode cX1_next 36 = .ok (.goto (-28), 3) := dk_167 255 228 (dk_at dksX1_next_1 13 rfl rfl)
theorem dX1_next_39 : decode cX1_next 39 = .ok (.aconst_null, 1) := dk_1 (dk_at dksX1_next_1 16 rfl rfl)
theorem dX1_next_40 : decode cX1_next 40 = .ok (.areturn, 1) := dk_176 (dk_at dksX1_next_1 17 rfl rfl)
abbrev cX1_costOf : ByteArray := prog_1_method_38_code
def yX1_costOf : MethodName := ⟨RX1, "costOf", "(LSearchKeeper$Act;)I"⟩
def dkwX1_costOf_3 : List UInt8 := [29, 153, 0, 17, 4, 44, 180, 0, 182, 185, 0, 71, 1, 0, 96, 167, 0, 4, 4, 172]
abbrev dktX1_costOf_3 : List UInt8 := dkwX1_costOf_3 ++ []
def dkwX1_costOf_2 : List UInt8 := [180, 0, 33, 44, 180, 0, 163, 50, 180, 1, 49, 44, 180, 0, 166, 159, 0, 7, 4, 167, 0, 4, 3, 62]
abbrev dktX1_costOf_2 : List UInt8 := dkwX1_costOf_2 ++ dktX1_costOf_3
def dkwX1_costOf_1 : List UInt8 := [154, 0, 46, 42, 44, 182, 0, 150, 198, 0, 38, 42, 180, 0, 33, 44, 180, 0, 163, 50, 198, 0, 22, 42]
abbrev dktX1_costOf_1 : List UInt8 := dkwX1_costOf_1 ++ dktX1_costOf_2
def dkwX1_costOf_0 : List UInt8 := [43, 180, 1, 7, 77, 43, 180, 1, 8, 154, 0, 60, 44, 180, 0, 91, 154, 0, 53, 44, 180, 0, 179]
abbrev dktX1_costOf_0 : List UInt8 := dkwX1_costOf_0 ++ dktX1_costOf_1
theorem dksX1_costOf_0 : cX1_costOf.data.toList.drop 0 = dktX1_costOf_0 := by decide +kernel
theorem dksX1_costOf_1 : cX1_costOf.data.toList.drop 23 = dktX1_costOf_1 := dk_seg dksX1_costOf_0 23 rfl rfl
theorem dksX1_costOf_2 : cX1_costOf.data.toList.drop 47 = dktX1_costOf_2 := dk_seg dksX1_costOf_1 24 rfl rfl
theorem dksX1_costOf_3 : cX1_costOf.data.toList.drop 71 = dktX1_costOf_3 := dk_seg dksX1_costOf_2 24 rfl rfl
theorem dX1_costOf_0 : decode cX1_costOf 0 = .ok (.aload_n 1, 1) := dk_43 (dk_at dksX1_costOf_0 0 rfl rfl)
theorem dX1_costOf_1 : decode cX1_costOf 1 = .ok (.getfield 263, 3) := dk_180 1 7 (dk_at dksX1_costOf_0 1 rfl rfl)
theorem dX1_costOf_4 : decode cX1_costOf 4 = .ok (.astore_n 2, 1) := dk_77 (dk_at dksX1_costOf_0 4 rfl rfl)
theorem dX1_costOf_5 : decode cX1_costOf 5 = .ok (.aload_n 1, 1) := dk_43 (dk_at dksX1_costOf_0 5 rfl rfl)
theorem dX1_costOf_6 : decode cX1_costOf 6 = .ok (.getfield 264, 3) := dk_180 1 8 (dk_at dksX1_costOf_0 6 rfl rfl)
theorem dX1_costOf_9 : decode cX1_costOf 9 = .ok (.ifCond .ne 60, 3) := dk_154 0 60 (dk_at dksX1_costOf_0 9 rfl rfl)
theorem dX1_costOf_12 : decode cX1_costOf 12 = .ok (.aload_n 2, 1) := dk_44 (dk_at dksX1_costOf_0 12 rfl rfl)
theorem dX1_costOf_13 : decode cX1_costOf 13 = .ok (.getfield 91, 3) := dk_180 0 91 (dk_at dksX1_costOf_0 13 rfl rfl)
theorem dX1_costOf_16 : decode cX1_costOf 16 = .ok (.ifCond .ne 53, 3) := dk_154 0 53 (dk_at dksX1_costOf_0 16 rfl rfl)
theorem dX1_costOf_19 : decode cX1_costOf 19 = .ok (.aload_n 2, 1) := dk_44 (dk_at dksX1_costOf_0 19 rfl rfl)
theorem dX1_costOf_20 : decode cX1_costOf 20 = .ok (.getfield 179, 3) := dk_180 0 179 (dk_at dksX1_costOf_0 20 rfl rfl)
theorem dX1_costOf_23 : decode cX1_costOf 23 = .ok (.ifCond .ne 46, 3) := dk_154 0 46 (dk_at dksX1_costOf_1 0 rfl rfl)
theorem dX1_costOf_26 : decode cX1_costOf 26 = .ok (.aload_n 0, 1) := dk_42 (dk_at dksX1_costOf_1 3 rfl rfl)
theorem dX1_costOf_27 : decode cX1_costOf 27 = .ok (.aload_n 2, 1) := dk_44 (dk_at dksX1_costOf_1 4 rfl rfl)
theorem dX1_costOf_28 : decode cX1_costOf 28 = .ok (.invokevirtual 150, 3) := dk_182 0 150 (dk_at dksX1_costOf_1 5 rfl rfl)
theorem dX1_costOf_31 : decode cX1_costOf 31 = .ok (.ifnull 38, 3) := dk_198 0 38 (dk_at dksX1_costOf_1 8 rfl rfl)
theorem dX1_costOf_34 : decode cX1_costOf 34 = .ok (.aload_n 0, 1) := dk_42 (dk_at dksX1_costOf_1 11 rfl rfl)
theorem dX1_costOf_35 : decode cX1_costOf 35 = .ok (.getfield 33, 3) := dk_180 0 33 (dk_at dksX1_costOf_1 12 rfl rfl)
theorem dX1_costOf_38 : decode cX1_costOf 38 = .ok (.aload_n 2, 1) := dk_44 (dk_at dksX1_costOf_1 15 rfl rfl)
theorem dX1_costOf_39 : decode cX1_costOf 39 = .ok (.getfield 163, 3) := dk_180 0 163 (dk_at dksX1_costOf_1 16 rfl rfl)
theorem dX1_costOf_42 : decode cX1_costOf 42 = .ok (.aaload, 1) := dk_50 (dk_at dksX1_costOf_1 19 rfl rfl)
theorem dX1_costOf_43 : decode cX1_costOf 43 = .ok (.ifnull 22, 3) := dk_198 0 22 (dk_at dksX1_costOf_1 20 rfl rfl)
theorem dX1_costOf_46 : decode cX1_costOf 46 = .ok (.aload_n 0, 1) := dk_42 (dk_at dksX1_costOf_1 23 rfl rfl)
theorem dX1_costOf_47 : decode cX1_costOf 47 = .ok (.getfield 33, 3) := dk_180 0 33 (dk_at dksX1_costOf_2 0 rfl rfl)
theorem dX1_costOf_50 : decode cX1_costOf 50 = .ok (.aload_n 2, 1) := dk_44 (dk_at dksX1_costOf_2 3 rfl rfl)
theorem dX1_costOf_51 : decode cX1_costOf 51 = .ok (.getfield 163, 3) := dk_180 0 163 (dk_at dksX1_costOf_2 4 rfl rfl)
theorem dX1_costOf_54 : decode cX1_costOf 54 = .ok (.aaload, 1) := dk_50 (dk_at dksX1_costOf_2 7 rfl rfl)
theorem dX1_costOf_55 : decode cX1_costOf 55 = .ok (.getfield 305, 3) := dk_180 1 49 (dk_at dksX1_costOf_2 8 rfl rfl)
theorem dX1_costOf_58 : decode cX1_costOf 58 = .ok (.aload_n 2, 1) := dk_44 (dk_at dksX1_costOf_2 11 rfl rfl)
theorem dX1_costOf_59 : decode cX1_costOf 59 = .ok (.getfield 166, 3) := dk_180 0 166 (dk_at dksX1_costOf_2 12 rfl rfl)
theorem dX1_costOf_62 : decode cX1_costOf 62 = .ok (.if_icmp .eq 7, 3) := dk_159 0 7 (dk_at dksX1_costOf_2 15 rfl rfl)
theorem dX1_costOf_65 : decode cX1_costOf 65 = .ok (.iconst 1, 1) := dk_4 (dk_at dksX1_costOf_2 18 rfl rfl)
theorem dX1_costOf_66 : decode cX1_costOf 66 = .ok (.goto 4, 3) := dk_167 0 4 (dk_at dksX1_costOf_2 19 rfl rfl)
theorem dX1_costOf_69 : decode cX1_costOf 69 = .ok (.iconst 0, 1) := dk_3 (dk_at dksX1_costOf_2 22 rfl rfl)
theorem dX1_costOf_70 : decode cX1_costOf 70 = .ok (.istore_n 3, 1) := dk_62 (dk_at dksX1_costOf_2 23 rfl rfl)
theorem dX1_costOf_71 : decode cX1_costOf 71 = .ok (.iload_n 3, 1) := dk_29 (dk_at dksX1_costOf_3 0 rfl rfl)
theorem dX1_costOf_72 : decode cX1_costOf 72 = .ok (.ifCond .eq 17, 3) := dk_153 0 17 (dk_at dksX1_costOf_3 1 rfl rfl)
theorem dX1_costOf_75 : decode cX1_costOf 75 = .ok (.iconst 1, 1) := dk_4 (dk_at dksX1_costOf_3 4 rfl rfl)
theorem dX1_costOf_76 : decode cX1_costOf 76 = .ok (.aload_n 2, 1) := dk_44 (dk_at dksX1_costOf_3 5 rfl rfl)
theorem dX1_costOf_77 : decode cX1_costOf 77 = .ok (.getfield 182, 3) := dk_180 0 182 (dk_at dksX1_costOf_3 6 rfl rfl)
theorem dX1_costOf_80 : decode cX1_costOf 80 = .ok (.invokeinterface 71 1, 5) := by decide +kernel
theorem dX1_costOf_85 : decode cX1_costOf 85 = .ok (.iadd, 1) := dk_96 (dk_at dksX1_costOf_3 14 rfl rfl)
theorem dX1_costOf_86 : decode cX1_costOf 86 = .ok (.goto 4, 3) := dk_167 0 4 (dk_at dksX1_costOf_3 15 rfl rfl)
theorem dX1_costOf_89 : decode cX1_costOf 89 = .ok (.iconst 1, 1) := dk_4 (dk_at dksX1_costOf_3 18 rfl rfl)
theorem dX1_costOf_90 : decode cX1_costOf 90 = .ok (.ireturn, 1) := dk_172 (dk_at dksX1_costOf_3 19 rfl rfl)
abbrev cX1_hear : ByteArray := prog_1_method_45_code
def yX1_hear : MethodName := ⟨RX1, "hear", "(LSearchKeeper$Root;)V"⟩
def dkwX1_hear_2 : List UInt8 := [167, 0, 4, 3, 182, 1, 23, 177]
abbrev dktX1_hear_2 : List UInt8 := dkwX1_hear_2 ++ []
def dkwX1_hear_1 : List UInt8 := [182, 1, 92, 192, 0, 245, 77, 42, 44, 180, 0, 250, 44, 180, 0, 247, 178, 0, 205, 166, 0, 7, 4]
abbrev dktX1_hear_1 : List UInt8 := dkwX1_hear_1 ++ dktX1_hear_2
def dkwX1_hear_0 : List UInt8 := [43, 180, 0, 232, 153, 0, 15, 43, 3, 181, 0, 232, 43, 182, 0, 225, 167, 0, 37, 43, 180, 0, 235]
abbrev dktX1_hear_0 : List UInt8 := dkwX1_hear_0 ++ dktX1_hear_1
theorem dksX1_hear_0 : cX1_hear.data.toList.drop 0 = dktX1_hear_0 := by decide +kernel
theorem dksX1_hear_1 : cX1_hear.data.toList.drop 23 = dktX1_hear_1 := dk_seg dksX1_hear_0 23 rfl rfl
theorem dksX1_hear_2 : cX1_hear.data.toList.drop 46 = dktX1_hear_2 := dk_seg dksX1_hear_1 23 rfl rfl
theorem dX1_hear_0 : decode cX1_hear 0 = .ok (.aload_n 1, 1) := dk_43 (dk_at dksX1_hear_0 0 rfl rfl)
theorem dX1_hear_1 : decode cX1_hear 1 = .ok (.getfield 232, 3) := dk_180 0 232 (dk_at dksX1_hear_0 1 rfl rfl)
theorem dX1_hear_4 : decode cX1_hear 4 = .ok (.ifCond .eq 15, 3) := dk_153 0 15 (dk_at dksX1_hear_0 4 rfl rfl)
theorem dX1_hear_7 : decode cX1_hear 7 = .ok (.aload_n 1, 1) := dk_43 (dk_at dksX1_hear_0 7 rfl rfl)
theorem dX1_hear_8 : decode cX1_hear 8 = .ok (.iconst 0, 1) := dk_3 (dk_at dksX1_hear_0 8 rfl rfl)
theorem dX1_hear_9 : decode cX1_hear 9 = .ok (.putfield 232, 3) := dk_181 0 232 (dk_at dksX1_hear_0 9 rfl rfl)
theorem dX1_hear_12 : decode cX1_hear 12 = .ok (.aload_n 1, 1) := dk_43 (dk_at dksX1_hear_0 12 rfl rfl)
theorem dX1_hear_13 : decode cX1_hear 13 = .ok (.invokevirtual 225, 3) := dk_182 0 225 (dk_at dksX1_hear_0 13 rfl rfl)
theorem dX1_hear_16 : decode cX1_hear 16 = .ok (.goto 37, 3) := dk_167 0 37 (dk_at dksX1_hear_0 16 rfl rfl)
theorem dX1_hear_19 : decode cX1_hear 19 = .ok (.aload_n 1, 1) := dk_43 (dk_at dksX1_hear_0 19 rfl rfl)
theorem dX1_hear_20 : decode cX1_hear 20 = .ok (.getfield 235, 3) := dk_180 0 235 (dk_at dksX1_hear_0 20 rfl rfl)
theorem dX1_hear_23 : decode cX1_hear 23 = .ok (.invokevirtual 348, 3) := dk_182 1 92 (dk_at dksX1_hear_1 0 rfl rfl)
theorem dX1_hear_26 : decode cX1_hear 26 = .ok (.checkcast 245, 3) := dk_192 0 245 (dk_at dksX1_hear_1 3 rfl rfl)
theorem dX1_hear_29 : decode cX1_hear 29 = .ok (.astore_n 2, 1) := dk_77 (dk_at dksX1_hear_1 6 rfl rfl)
theorem dX1_hear_30 : decode cX1_hear 30 = .ok (.aload_n 0, 1) := dk_42 (dk_at dksX1_hear_1 7 rfl rfl)
theorem dX1_hear_31 : decode cX1_hear 31 = .ok (.aload_n 2, 1) := dk_44 (dk_at dksX1_hear_1 8 rfl rfl)
theorem dX1_hear_32 : decode cX1_hear 32 = .ok (.getfield 250, 3) := dk_180 0 250 (dk_at dksX1_hear_1 9 rfl rfl)
theorem dX1_hear_35 : decode cX1_hear 35 = .ok (.aload_n 2, 1) := dk_44 (dk_at dksX1_hear_1 12 rfl rfl)
theorem dX1_hear_36 : decode cX1_hear 36 = .ok (.getfield 247, 3) := dk_180 0 247 (dk_at dksX1_hear_1 13 rfl rfl)
theorem dX1_hear_39 : decode cX1_hear 39 = .ok (.getstatic 205, 3) := dk_178 0 205 (dk_at dksX1_hear_1 16 rfl rfl)
theorem dX1_hear_42 : decode cX1_hear 42 = .ok (.if_acmp .ne 7, 3) := dk_166 0 7 (dk_at dksX1_hear_1 19 rfl rfl)
theorem dX1_hear_45 : decode cX1_hear 45 = .ok (.iconst 1, 1) := dk_4 (dk_at dksX1_hear_1 22 rfl rfl)
theorem dX1_hear_46 : decode cX1_hear 46 = .ok (.goto 4, 3) := dk_167 0 4 (dk_at dksX1_hear_2 0 rfl rfl)
theorem dX1_hear_49 : decode cX1_hear 49 = .ok (.iconst 0, 1) := dk_3 (dk_at dksX1_hear_2 3 rfl rfl)
theorem dX1_hear_50 : decode cX1_hear 50 = .ok (.invokevirtual 279, 3) := dk_182 1 23 (dk_at dksX1_hear_2 4 rfl rfl)
theorem dX1_hear_53 : decode cX1_hear 53 = .ok (.return_, 1) := dk_177 (dk_at dksX1_hear_2 7 rfl rfl)
abbrev cX1_perform : ByteArray := prog_1_method_39_code
def yX1_perform : MethodName := ⟨RX1, "perform", "(LSearchKeeper$Act;)V"⟩
def dkwX1_perform_3 : List UInt8 := [182, 1, 14, 167, 0, 8, 42, 44, 182, 1, 56, 177]
abbrev dktX1_perform_3 : List UInt8 := dkwX1_perform_3 ++ []
def dkwX1_perform_2 : List UInt8 := [180, 0, 91, 154, 0, 26, 44, 180, 0, 179, 153, 0, 19, 43, 4, 181, 1, 53, 42, 180, 0, 37, 43]
abbrev dktX1_perform_2 : List UInt8 := dkwX1_perform_2 ++ dktX1_perform_3
def dkwX1_perform_1 : List UInt8 := [44, 182, 1, 50, 167, 0, 54, 43, 180, 1, 8, 153, 0, 12, 42, 44, 3, 182, 1, 23, 167, 0, 38, 44]
abbrev dktX1_perform_1 : List UInt8 := dkwX1_perform_1 ++ dktX1_perform_2
def dkwX1_perform_0 : List UInt8 := [43, 180, 1, 7, 77, 42, 44, 182, 0, 150, 198, 0, 7, 4, 167, 0, 4, 3, 62, 29, 154, 0, 11, 42]
abbrev dktX1_perform_0 : List UInt8 := dkwX1_perform_0 ++ dktX1_perform_1
theorem dksX1_perform_0 : cX1_perform.data.toList.drop 0 = dktX1_perform_0 := by decide +kernel
theorem dksX1_perform_1 : cX1_perform.data.toList.drop 24 = dktX1_perform_1 := dk_seg dksX1_perform_0 24 rfl rfl
theorem dksX1_perform_2 : cX1_perform.data.toList.drop 48 = dktX1_perform_2 := dk_seg dksX1_perform_1 24 rfl rfl
theorem dksX1_perform_3 : cX1_perform.data.toList.drop 71 = dktX1_perform_3 := dk_seg dksX1_perform_2 23 rfl rfl
theorem dX1_perform_0 : decode cX1_perform 0 = .ok (.aload_n 1, 1) := dk_43 (dk_at dksX1_perform_0 0 rfl rfl)
theorem dX1_perform_1 : decode cX1_perform 1 = .ok (.getfield 263, 3) := dk_180 1 7 (dk_at dksX1_perform_0 1 rfl rfl)
theorem dX1_perform_4 : decode cX1_perform 4 = .ok (.astore_n 2, 1) := dk_77 (dk_at dksX1_perform_0 4 rfl rfl)
theorem dX1_perform_5 : decode cX1_perform 5 = .ok (.aload_n 0, 1) := dk_42 (dk_at dksX1_perform_0 5 rfl rfl)
theorem dX1_perform_6 : decode cX1_perform 6 = .ok (.aload_n 2, 1) := dk_44 (dk_at dksX1_perform_0 6 rfl rfl)
theorem dX1_perform_7 : decode cX1_perform 7 = .ok (.invokevirtual 150, 3) := dk_182 0 150 (dk_at dksX1_perform_0 7 rfl rfl)
theorem dX1_perform_10 : decode cX1_perform 10 = .ok (.ifnull 7, 3) := dk_198 0 7 (dk_at dksX1_perform_0 10 rfl rfl)
theorem dX1_perform_13 : decode cX1_perform 13 = .ok (.iconst 1, 1) := dk_4 (dk_at dksX1_perform_0 13 rfl rfl)
theorem dX1_perform_14 : decode cX1_perform 14 = .ok (.goto 4, 3) := dk_167 0 4 (dk_at dksX1_perform_0 14 rfl rfl)
theorem dX1_perform_17 : decode cX1_perform 17 = .ok (.iconst 0, 1) := dk_3 (dk_at dksX1_perform_0 17 rfl rfl)
theorem dX1_perform_18 : decode cX1_perform 18 = .ok (.istore_n 3, 1) := dk_62 (dk_at dksX1_perform_0 18 rfl rfl)
theorem dX1_perform_19 : decode cX1_perform 19 = .ok (.iload_n 3, 1) := dk_29 (dk_at dksX1_perform_0 19 rfl rfl)
theorem dX1_perform_20 : decode cX1_perform 20 = .ok (.ifCond .ne 11, 3) := dk_154 0 11 (dk_at dksX1_perform_0 20 rfl rfl)
theorem dX1_perform_23 : decode cX1_perform 23 = .ok (.aload_n 0, 1) := dk_42 (dk_at dksX1_perform_0 23 rfl rfl)
theorem dX1_perform_24 : decode cX1_perform 24 = .ok (.aload_n 2, 1) := dk_44 (dk_at dksX1_perform_1 0 rfl rfl)
theorem dX1_perform_25 : decode cX1_perform 25 = .ok (.invokevirtual 306, 3) := dk_182 1 50 (dk_at dksX1_perform_1 1 rfl rfl)
theorem dX1_perform_28 : decode cX1_perform 28 = .ok (.goto 54, 3) := dk_167 0 54 (dk_at dksX1_perform_1 4 rfl rfl)
theorem dX1_perform_31 : decode cX1_perform 31 = .ok (.aload_n 1, 1) := dk_43 (dk_at dksX1_perform_1 7 rfl rfl)
theorem dX1_perform_32 : decode cX1_perform 32 = .ok (.getfield 264, 3) := dk_180 1 8 (dk_at dksX1_perform_1 8 rfl rfl)
theorem dX1_perform_35 : decode cX1_perform 35 = .ok (.ifCond .eq 12, 3) := dk_153 0 12 (dk_at dksX1_perform_1 11 rfl rfl)
theorem dX1_perform_38 : decode cX1_perform 38 = .ok (.aload_n 0, 1) := dk_42 (dk_at dksX1_perform_1 14 rfl rfl)
theorem dX1_perform_39 : decode cX1_perform 39 = .ok (.aload_n 2, 1) := dk_44 (dk_at dksX1_perform_1 15 rfl rfl)
theorem dX1_perform_40 : decode cX1_perform 40 = .ok (.iconst 0, 1) := dk_3 (dk_at dksX1_perform_1 16 rfl rfl)
theorem dX1_perform_41 : decode cX1_perform 41 = .ok (.invokevirtual 279, 3) := dk_182 1 23 (dk_at dksX1_perform_1 17 rfl rfl)
theorem dX1_perform_44 : decode cX1_perform 44 = .ok (.goto 38, 3) := dk_167 0 38 (dk_at dksX1_perform_1 20 rfl rfl)
theorem dX1_perform_47 : decode cX1_perform 47 = .ok (.aload_n 2, 1) := dk_44 (dk_at dksX1_perform_1 23 rfl rfl)
theorem dX1_perform_48 : decode cX1_perform 48 = .ok (.getfield 91, 3) := dk_180 0 91 (dk_at dksX1_perform_2 0 rfl rfl)
theorem dX1_perform_51 : decode cX1_perform 51 = .ok (.ifCond .ne 26, 3) := dk_154 0 26 (dk_at dksX1_perform_2 3 rfl rfl)
theorem dX1_perform_54 : decode cX1_perform 54 = .ok (.aload_n 2, 1) := dk_44 (dk_at dksX1_perform_2 6 rfl rfl)
theorem dX1_perform_55 : decode cX1_perform 55 = .ok (.getfield 179, 3) := dk_180 0 179 (dk_at dksX1_perform_2 7 rfl rfl)
theorem dX1_perform_58 : decode cX1_perform 58 = .ok (.ifCond .eq 19, 3) := dk_153 0 19 (dk_at dksX1_perform_2 10 rfl rfl)
theorem dX1_perform_61 : decode cX1_perform 61 = .ok (.aload_n 1, 1) := dk_43 (dk_at dksX1_perform_2 13 rfl rfl)
theorem dX1_perform_62 : decode cX1_perform 62 = .ok (.iconst 1, 1) := dk_4 (dk_at dksX1_perform_2 14 rfl rfl)
theorem dX1_perform_63 : decode cX1_perform 63 = .ok (.putfield 309, 3) := dk_181 1 53 (dk_at dksX1_perform_2 15 rfl rfl)
theorem dX1_perform_66 : decode cX1_perform 66 = .ok (.aload_n 0, 1) := dk_42 (dk_at dksX1_perform_2 18 rfl rfl)
theorem dX1_perform_67 : decode cX1_perform 67 = .ok (.getfield 37, 3) := dk_180 0 37 (dk_at dksX1_perform_2 19 rfl rfl)
theorem dX1_perform_70 : decode cX1_perform 70 = .ok (.aload_n 1, 1) := dk_43 (dk_at dksX1_perform_2 22 rfl rfl)
theorem dX1_perform_71 : decode cX1_perform 71 = .ok (.invokevirtual 270, 3) := dk_182 1 14 (dk_at dksX1_perform_3 0 rfl rfl)
theorem dX1_perform_74 : decode cX1_perform 74 = .ok (.goto 8, 3) := dk_167 0 8 (dk_at dksX1_perform_3 3 rfl rfl)
theorem dX1_perform_77 : decode cX1_perform 77 = .ok (.aload_n 0, 1) := dk_42 (dk_at dksX1_perform_3 6 rfl rfl)
theorem dX1_perform_78 : decode cX1_perform 78 = .ok (.aload_n 2, 1) := dk_44 (dk_at dksX1_perform_3 7 rfl rfl)
theorem dX1_perform_79 : decode cX1_perform 79 = .ok (.invokevirtual 312, 3) := dk_182 1 56 (dk_at dksX1_perform_3 8 rfl rfl)
theorem dX1_perform_82 : decode cX1_perform 82 = .ok (.return_, 1) := dk_177 (dk_at dksX1_perform_3 11 rfl rfl)
abbrev cX1_drop : ByteArray := prog_1_method_37_code
def yX1_drop : MethodName := ⟨RX1, "drop", "(LSearchKeeper$Node;)V"⟩
def dkwX1_drop_4 : List UInt8 := [185, 0, 116, 1, 0, 192, 0, 31, 58, 4, 42, 25, 4, 182, 1, 46, 167, 255, 230, 177]
abbrev dktX1_drop_4 : List UInt8 := dkwX1_drop_4 ++ []
def dkwX1_drop_3 : List UInt8 := [87, 132, 3, 1, 167, 255, 192, 44, 185, 0, 106, 1, 0, 78, 45, 185, 0, 110, 1, 0, 153, 0, 23, 45]
abbrev dktX1_drop_3 : List UInt8 := dkwX1_drop_3 ++ dktX1_drop_4
def dkwX1_drop_2 : List UInt8 := [29, 50, 180, 1, 22, 43, 182, 1, 43, 153, 0, 16, 44, 42, 180, 0, 33, 29, 50, 185, 0, 65, 2, 0]
abbrev dktX1_drop_2 : List UInt8 := dkwX1_drop_2 ++ dktX1_drop_3
def dkwX1_drop_1 : List UInt8 := [198, 0, 49, 29, 43, 180, 0, 163, 159, 0, 28, 42, 43, 182, 1, 19, 154, 0, 33, 42, 42, 180, 0, 33]
abbrev dktX1_drop_1 : List UInt8 := dkwX1_drop_1 ++ dktX1_drop_2
def dkwX1_drop_0 : List UInt8 := [187, 0, 16, 89, 183, 0, 18, 77, 3, 62, 29, 16, 60, 162, 0, 64, 42, 180, 0, 33, 29, 50]
abbrev dktX1_drop_0 : List UInt8 := dkwX1_drop_0 ++ dktX1_drop_1
theorem dksX1_drop_0 : cX1_drop.data.toList.drop 0 = dktX1_drop_0 := by decide +kernel
theorem dksX1_drop_1 : cX1_drop.data.toList.drop 22 = dktX1_drop_1 := dk_seg dksX1_drop_0 22 rfl rfl
theorem dksX1_drop_2 : cX1_drop.data.toList.drop 46 = dktX1_drop_2 := dk_seg dksX1_drop_1 24 rfl rfl
theorem dksX1_drop_3 : cX1_drop.data.toList.drop 70 = dktX1_drop_3 := dk_seg dksX1_drop_2 24 rfl rfl
theorem dksX1_drop_4 : cX1_drop.data.toList.drop 94 = dktX1_drop_4 := dk_seg dksX1_drop_3 24 rfl rfl
theorem dX1_drop_0 : decode cX1_drop 0 = .ok (.new 16, 3) := dk_187 0 16 (dk_at dksX1_drop_0 0 rfl rfl)
theorem dX1_drop_3 : decode cX1_drop 3 = .ok (.dup, 1) := dk_89 (dk_at dksX1_drop_0 3 rfl rfl)
theorem dX1_drop_4 : decode cX1_drop 4 = .ok (.invokespecial 18, 3) := dk_183 0 18 (dk_at dksX1_drop_0 4 rfl rfl)
theorem dX1_drop_7 : decode cX1_drop 7 = .ok (.astore_n 2, 1) := dk_77 (dk_at dksX1_drop_0 7 rfl rfl)
theorem dX1_drop_8 : decode cX1_drop 8 = .ok (.iconst 0, 1) := dk_3 (dk_at dksX1_drop_0 8 rfl rfl)
theorem dX1_drop_9 : decode cX1_drop 9 = .ok (.istore_n 3, 1) := dk_62 (dk_at dksX1_drop_0 9 rfl rfl)
theorem dX1_drop_10 : decode cX1_drop 10 = .ok (.iload_n 3, 1) := dk_29 (dk_at dksX1_drop_0 10 rfl rfl)
theorem dX1_drop_11 : decode cX1_drop 11 = .ok (.bipush 60, 2) := dk_16 60 (dk_at dksX1_drop_0 11 rfl rfl)
theorem dX1_drop_13 : decode cX1_drop 13 = .ok (.if_icmp .ge 64, 3) := dk_162 0 64 (dk_at dksX1_drop_0 13 rfl rfl)
theorem dX1_drop_16 : decode cX1_drop 16 = .ok (.aload_n 0, 1) := dk_42 (dk_at dksX1_drop_0 16 rfl rfl)
theorem dX1_drop_17 : decode cX1_drop 17 = .ok (.getfield 33, 3) := dk_180 0 33 (dk_at dksX1_drop_0 17 rfl rfl)
theorem dX1_drop_20 : decode cX1_drop 20 = .ok (.iload_n 3, 1) := dk_29 (dk_at dksX1_drop_0 20 rfl rfl)
theorem dX1_drop_21 : decode cX1_drop 21 = .ok (.aaload, 1) := dk_50 (dk_at dksX1_drop_0 21 rfl rfl)
theorem dX1_drop_22 : decode cX1_drop 22 = .ok (.ifnull 49, 3) := dk_198 0 49 (dk_at dksX1_drop_1 0 rfl rfl)
theorem dX1_drop_25 : decode cX1_drop 25 = .ok (.iload_n 3, 1) := dk_29 (dk_at dksX1_drop_1 3 rfl rfl)
theorem dX1_drop_26 : decode cX1_drop 26 = .ok (.aload_n 1, 1) := dk_43 (dk_at dksX1_drop_1 4 rfl rfl)
theorem dX1_drop_27 : decode cX1_drop 27 = .ok (.getfield 163, 3) := dk_180 0 163 (dk_at dksX1_drop_1 5 rfl rfl)
theorem dX1_drop_30 : decode cX1_drop 30 = .ok (.if_icmp .eq 28, 3) := dk_159 0 28 (dk_at dksX1_drop_1 8 rfl rfl)
theorem dX1_drop_33 : decode cX1_drop 33 = .ok (.aload_n 0, 1) := dk_42 (dk_at dksX1_drop_1 11 rfl rfl)
theorem dX1_drop_34 : decode cX1_drop 34 = .ok (.aload_n 1, 1) := dk_43 (dk_at dksX1_drop_1 12 rfl rfl)
theorem dX1_drop_35 : decode cX1_drop 35 = .ok (.invokevirtual 275, 3) := dk_182 1 19 (dk_at dksX1_drop_1 13 rfl rfl)
theorem dX1_drop_38 : decode cX1_drop 38 = .ok (.ifCond .ne 33, 3) := dk_154 0 33 (dk_at dksX1_drop_1 16 rfl rfl)
theorem dX1_drop_41 : decode cX1_drop 41 = .ok (.aload_n 0, 1) := dk_42 (dk_at dksX1_drop_1 19 rfl rfl)
theorem dX1_drop_42 : decode cX1_drop 42 = .ok (.aload_n 0, 1) := dk_42 (dk_at dksX1_drop_1 20 rfl rfl)
theorem dX1_drop_43 : decode cX1_drop 43 = .ok (.getfield 33, 3) := dk_180 0 33 (dk_at dksX1_drop_1 21 rfl rfl)
theorem dX1_drop_46 : decode cX1_drop 46 = .ok (.iload_n 3, 1) := dk_29 (dk_at dksX1_drop_2 0 rfl rfl)
theorem dX1_drop_47 : decode cX1_drop 47 = .ok (.aaload, 1) := dk_50 (dk_at dksX1_drop_2 1 rfl rfl)
theorem dX1_drop_48 : decode cX1_drop 48 = .ok (.getfield 278, 3) := dk_180 1 22 (dk_at dksX1_drop_2 2 rfl rfl)
theorem dX1_drop_51 : decode cX1_drop 51 = .ok (.aload_n 1, 1) := dk_43 (dk_at dksX1_drop_2 5 rfl rfl)
theorem dX1_drop_52 : decode cX1_drop 52 = .ok (.invokevirtual 299, 3) := dk_182 1 43 (dk_at dksX1_drop_2 6 rfl rfl)
theorem dX1_drop_55 : decode cX1_drop 55 = .ok (.ifCond .eq 16, 3) := dk_153 0 16 (dk_at dksX1_drop_2 9 rfl rfl)
theorem dX1_drop_58 : decode cX1_drop 58 = .ok (.aload_n 2, 1) := dk_44 (dk_at dksX1_drop_2 12 rfl rfl)
theorem dX1_drop_59 : decode cX1_drop 59 = .ok (.aload_n 0, 1) := dk_42 (dk_at dksX1_drop_2 13 rfl rfl)
theorem dX1_drop_60 : decode cX1_drop 60 = .ok (.getfield 33, 3) := dk_180 0 33 (dk_at dksX1_drop_2 14 rfl rfl)
theorem dX1_drop_63 : decode cX1_drop 63 = .ok (.iload_n 3, 1) := dk_29 (dk_at dksX1_drop_2 17 rfl rfl)
theorem dX1_drop_64 : decode cX1_drop 64 = .ok (.aaload, 1) := dk_50 (dk_at dksX1_drop_2 18 rfl rfl)
theorem dX1_drop_65 : decode cX1_drop 65 = .ok (.invokeinterface 65 2, 5) := by decide +kernel
theorem dX1_drop_70 : decode cX1_drop 70 = .ok (.pop, 1) := dk_87 (dk_at dksX1_drop_3 0 rfl rfl)
theorem dX1_drop_71 : decode cX1_drop 71 = .ok (.iinc 3 1, 3) := dk_132 3 1 (dk_at dksX1_drop_3 1 rfl rfl)
theorem dX1_drop_74 : decode cX1_drop 74 = .ok (.goto (-64), 3) := dk_167 255 192 (dk_at dksX1_drop_3 4 rfl rfl)
theorem dX1_drop_77 : decode cX1_drop 77 = .ok (.aload_n 2, 1) := dk_44 (dk_at dksX1_drop_3 7 rfl rfl)
theorem dX1_drop_78 : decode cX1_drop 78 = .ok (.invokeinterface 106 1, 5) := by decide +kernel
theorem dX1_drop_83 : decode cX1_drop 83 = .ok (.astore_n 3, 1) := dk_78 (dk_at dksX1_drop_3 13 rfl rfl)
theorem dX1_drop_84 : decode cX1_drop 84 = .ok (.aload_n 3, 1) := dk_45 (dk_at dksX1_drop_3 14 rfl rfl)
theorem dX1_drop_85 : decode cX1_drop 85 = .ok (.invokeinterface 110 1, 5) := by decide +kernel
theorem dX1_drop_90 : decode cX1_drop 90 = .ok (.ifCond .eq 23, 3) := dk_153 0 23 (dk_at dksX1_drop_3 20 rfl rfl)
theorem dX1_drop_93 : decode cX1_drop 93 = .ok (.aload_n 3, 1) := dk_45 (dk_at dksX1_drop_3 23 rfl rfl)
theorem dX1_drop_94 : decode cX1_drop 94 = .ok (.invokeinterface 116 1, 5) := by decide +kernel
theorem dX1_drop_99 : decode cX1_drop 99 = .ok (.checkcast 31, 3) := dk_192 0 31 (dk_at dksX1_drop_4 5 rfl rfl)
theorem dX1_drop_102 : decode cX1_drop 102 = .ok (.astore 4, 2) := dk_58 4 (dk_at dksX1_drop_4 8 rfl rfl)
theorem dX1_drop_104 : decode cX1_drop 104 = .ok (.aload_n 0, 1) := dk_42 (dk_at dksX1_drop_4 10 rfl rfl)
theorem dX1_drop_105 : decode cX1_drop 105 = .ok (.aload 4, 2) := dk_25 4 (dk_at dksX1_drop_4 11 rfl rfl)
theorem dX1_drop_107 : decode cX1_drop 107 = .ok (.invokevirtual 302, 3) := dk_182 1 46 (dk_at dksX1_drop_4 13 rfl rfl)
theorem dX1_drop_110 : decode cX1_drop 110 = .ok (.goto (-26), 3) := dk_167 255 230 (dk_at dksX1_drop_4 16 rfl rfl)
theorem dX1_drop_113 : decode cX1_drop 113 = .ok (.return_, 1) := dk_177 (dk_at dksX1_drop_4 19 rfl rfl)
abbrev cX1_isRoot : ByteArray := prog_1_method_33_code
def yX1_isRoot : MethodName := ⟨RX1, "isRoot", "(LSearchKeeper$Node;)Z"⟩
def dkwX1_isRoot_2 : List UInt8 := [167, 0, 4, 3, 61, 167, 255, 217, 28, 172]
abbrev dktX1_isRoot_2 : List UInt8 := dkwX1_isRoot_2 ++ []
def dkwX1_isRoot_1 : List UInt8 := [185, 0, 116, 1, 0, 192, 0, 120, 58, 4, 28, 154, 0, 12, 25, 4, 180, 0, 122, 43, 166, 0, 7, 4]
abbrev dktX1_isRoot_1 : List UInt8 := dkwX1_isRoot_1 ++ dktX1_isRoot_2
def dkwX1_isRoot_0 : List UInt8 := [3, 61, 42, 180, 0, 28, 185, 0, 106, 1, 0, 78, 45, 185, 0, 110, 1, 0, 153, 0, 36, 45]
abbrev dktX1_isRoot_0 : List UInt8 := dkwX1_isRoot_0 ++ dktX1_isRoot_1
theorem dksX1_isRoot_0 : cX1_isRoot.data.toList.drop 0 = dktX1_isRoot_0 := by decide +kernel
theorem dksX1_isRoot_1 : cX1_isRoot.data.toList.drop 22 = dktX1_isRoot_1 := dk_seg dksX1_isRoot_0 22 rfl rfl
theorem dksX1_isRoot_2 : cX1_isRoot.data.toList.drop 46 = dktX1_isRoot_2 := dk_seg dksX1_isRoot_1 24 rfl rfl
theorem dX1_isRoot_0 : decode cX1_isRoot 0 = .ok (.iconst 0, 1) := dk_3 (dk_at dksX1_isRoot_0 0 rfl rfl)
theorem dX1_isRoot_1 : decode cX1_isRoot 1 = .ok (.istore_n 2, 1) := dk_61 (dk_at dksX1_isRoot_0 1 rfl rfl)
theorem dX1_isRoot_2 : decode cX1_isRoot 2 = .ok (.aload_n 0, 1) := dk_42 (dk_at dksX1_isRoot_0 2 rfl rfl)
theorem dX1_isRoot_3 : decode cX1_isRoot 3 = .ok (.getfield 28, 3) := dk_180 0 28 (dk_at dksX1_isRoot_0 3 rfl rfl)
theorem dX1_isRoot_6 : decode cX1_isRoot 6 = .ok (.invokeinterface 106 1, 5) := by decide +kernel
theorem dX1_isRoot_11 : decode cX1_isRoot 11 = .ok (.astore_n 3, 1) := dk_78 (dk_at dksX1_isRoot_0 11 rfl rfl)
theorem dX1_isRoot_12 : decode cX1_isRoot 12 = .ok (.aload_n 3, 1) := dk_45 (dk_at dksX1_isRoot_0 12 rfl rfl)
theorem dX1_isRoot_13 : decode cX1_isRoot 13 = .ok (.invokeinterface 110 1, 5) := by decide +kernel
theorem dX1_isRoot_18 : decode cX1_isRoot 18 = .ok (.ifCond .eq 36, 3) := dk_153 0 36 (dk_at dksX1_isRoot_0 18 rfl rfl)
theorem dX1_isRoot_21 : decode cX1_isRoot 21 = .ok (.aload_n 3, 1) := dk_45 (dk_at dksX1_isRoot_0 21 rfl rfl)
theorem dX1_isRoot_22 : decode cX1_isRoot 22 = .ok (.invokeinterface 116 1, 5) := by decide +kernel
theorem dX1_isRoot_27 : decode cX1_isRoot 27 = .ok (.checkcast 120, 3) := dk_192 0 120 (dk_at dksX1_isRoot_1 5 rfl rfl)
theorem dX1_isRoot_30 : decode cX1_isRoot 30 = .ok (.astore 4, 2) := dk_58 4 (dk_at dksX1_isRoot_1 8 rfl rfl)
theorem dX1_isRoot_32 : decode cX1_isRoot 32 = .ok (.iload_n 2, 1) := dk_28 (dk_at dksX1_isRoot_1 10 rfl rfl)
theorem dX1_isRoot_33 : decode cX1_isRoot 33 = .ok (.ifCond .ne 12, 3) := dk_154 0 12 (dk_at dksX1_isRoot_1 11 rfl rfl)
theorem dX1_isRoot_36 : decode cX1_isRoot 36 = .ok (.aload 4, 2) := dk_25 4 (dk_at dksX1_isRoot_1 14 rfl rfl)
theorem dX1_isRoot_38 : decode cX1_isRoot 38 = .ok (.getfield 122, 3) := dk_180 0 122 (dk_at dksX1_isRoot_1 16 rfl rfl)
theorem dX1_isRoot_41 : decode cX1_isRoot 41 = .ok (.aload_n 1, 1) := dk_43 (dk_at dksX1_isRoot_1 19 rfl rfl)
theorem dX1_isRoot_42 : decode cX1_isRoot 42 = .ok (.if_acmp .ne 7, 3) := dk_166 0 7 (dk_at dksX1_isRoot_1 20 rfl rfl)
theorem dX1_isRoot_45 : decode cX1_isRoot 45 = .ok (.iconst 1, 1) := dk_4 (dk_at dksX1_isRoot_1 23 rfl rfl)
theorem dX1_isRoot_46 : decode cX1_isRoot 46 = .ok (.goto 4, 3) := dk_167 0 4 (dk_at dksX1_isRoot_2 0 rfl rfl)
theorem dX1_isRoot_49 : decode cX1_isRoot 49 = .ok (.iconst 0, 1) := dk_3 (dk_at dksX1_isRoot_2 3 rfl rfl)
theorem dX1_isRoot_50 : decode cX1_isRoot 50 = .ok (.istore_n 2, 1) := dk_61 (dk_at dksX1_isRoot_2 4 rfl rfl)
theorem dX1_isRoot_51 : decode cX1_isRoot 51 = .ok (.goto (-39), 3) := dk_167 255 217 (dk_at dksX1_isRoot_2 5 rfl rfl)
theorem dX1_isRoot_54 : decode cX1_isRoot 54 = .ok (.iload_n 2, 1) := dk_28 (dk_at dksX1_isRoot_2 8 rfl rfl)
theorem dX1_isRoot_55 : decode cX1_isRoot 55 = .ok (.ireturn, 1) := dk_172 (dk_at dksX1_isRoot_2 9 rfl rfl)
abbrev cX1_isKnownBelow : ByteArray := prog_1_method_32_code
def yX1_isKnownBelow : MethodName := ⟨RX1, "isKnownBelow", "(LSearchKeeper$Node;LSearchKeeper$Node;)Z"⟩
def dkwX1_isKnownBelow_3 : List UInt8 := [180, 1, 18, 44, 166, 0, 7, 4, 167, 0, 4, 3, 172]
abbrev dktX1_isKnownBelow_3 : List UInt8 := dkwX1_isKnownBelow_3 ++ []
def dkwX1_isKnownBelow_2 : List UInt8 := [180, 0, 33, 45, 180, 1, 18, 180, 0, 163, 50, 78, 132, 4, 1, 167, 255, 210, 45, 198, 0, 15, 45]
abbrev dktX1_isKnownBelow_2 : List UInt8 := dkwX1_isKnownBelow_2 ++ dktX1_isKnownBelow_3
def dkwX1_isKnownBelow_1 : List UInt8 := [165, 0, 40, 21, 4, 16, 60, 163, 0, 33, 42, 45, 180, 1, 18, 182, 1, 19, 154, 0, 22, 42]
abbrev dktX1_isKnownBelow_1 : List UInt8 := dkwX1_isKnownBelow_1 ++ dktX1_isKnownBelow_2
def dkwX1_isKnownBelow_0 : List UInt8 := [42, 180, 0, 33, 43, 180, 0, 163, 50, 78, 3, 54, 4, 45, 198, 0, 48, 45, 180, 1, 18, 44]
abbrev dktX1_isKnownBelow_0 : List UInt8 := dkwX1_isKnownBelow_0 ++ dktX1_isKnownBelow_1
theorem dksX1_isKnownBelow_0 : cX1_isKnownBelow.data.toList.drop 0 = dktX1_isKnownBelow_0 := by decide +kernel
theorem dksX1_isKnownBelow_1 : cX1_isKnownBelow.data.toList.drop 22 = dktX1_isKnownBelow_1 := dk_seg dksX1_isKnownBelow_0 22 rfl rfl
theorem dksX1_isKnownBelow_2 : cX1_isKnownBelow.data.toList.drop 44 = dktX1_isKnownBelow_2 := dk_seg dksX1_isKnownBelow_1 22 rfl rfl
theorem dksX1_isKnownBelow_3 : cX1_isKnownBelow.data.toList.drop 67 = dktX1_isKnownBelow_3 := dk_seg dksX1_isKnownBelow_2 23 rfl rfl
theorem dX1_isKnownBelow_0 : decode cX1_isKnownBelow 0 = .ok (.aload_n 0, 1) := dk_42 (dk_at dksX1_isKnownBelow_0 0 rfl rfl)
theorem dX1_isKnownBelow_1 : decode cX1_isKnownBelow 1 = .ok (.getfield 33, 3) := dk_180 0 33 (dk_at dksX1_isKnownBelow_0 1 rfl rfl)
theorem dX1_isKnownBelow_4 : decode cX1_isKnownBelow 4 = .ok (.aload_n 1, 1) := dk_43 (dk_at dksX1_isKnownBelow_0 4 rfl rfl)
theorem dX1_isKnownBelow_5 : decode cX1_isKnownBelow 5 = .ok (.getfield 163, 3) := dk_180 0 163 (dk_at dksX1_isKnownBelow_0 5 rfl rfl)
theorem dX1_isKnownBelow_8 : decode cX1_isKnownBelow 8 = .ok (.aaload, 1) := dk_50 (dk_at dksX1_isKnownBelow_0 8 rfl rfl)
theorem dX1_isKnownBelow_9 : decode cX1_isKnownBelow 9 = .ok (.astore_n 3, 1) := dk_78 (dk_at dksX1_isKnownBelow_0 9 rfl rfl)
theorem dX1_isKnownBelow_10 : decode cX1_isKnownBelow 10 = .ok (.iconst 0, 1) := dk_3 (dk_at dksX1_isKnownBelow_0 10 rfl rfl)
theorem dX1_isKnownBelow_11 : decode cX1_isKnownBelow 11 = .ok (.istore 4, 2) := dk_54 4 (dk_at dksX1_isKnownBelow_0 11 rfl rfl)
theorem dX1_isKnownBelow_13 : decode cX1_isKnownBelow 13 = .ok (.aload_n 3, 1) := dk_45 (dk_at dksX1_isKnownBelow_0 13 rfl rfl)
theorem dX1_isKnownBelow_14 : decode cX1_isKnownBelow 14 = .ok (.ifnull 48, 3) := dk_198 0 48 (dk_at dksX1_isKnownBelow_0 14 rfl rfl)
theorem dX1_isKnownBelow_17 : decode cX1_isKnownBelow 17 = .ok (.aload_n 3, 1) := dk_45 (dk_at dksX1_isKnownBelow_0 17 rfl rfl)
theorem dX1_isKnownBelow_18 : decode cX1_isKnownBelow 18 = .ok (.getfield 274, 3) := dk_180 1 18 (dk_at dksX1_isKnownBelow_0 18 rfl rfl)
theorem dX1_isKnownBelow_21 : decode cX1_isKnownBelow 21 = .ok (.aload_n 2, 1) := dk_44 (dk_at dksX1_isKnownBelow_0 21 rfl rfl)
theorem dX1_isKnownBelow_22 : decode cX1_isKnownBelow 22 = .ok (.if_acmp .eq 40, 3) := dk_165 0 40 (dk_at dksX1_isKnownBelow_1 0 rfl rfl)
theorem dX1_isKnownBelow_25 : decode cX1_isKnownBelow 25 = .ok (.iload 4, 2) := dk_21 4 (dk_at dksX1_isKnownBelow_1 3 rfl rfl)
theorem dX1_isKnownBelow_27 : decode cX1_isKnownBelow 27 = .ok (.bipush 60, 2) := dk_16 60 (dk_at dksX1_isKnownBelow_1 5 rfl rfl)
theorem dX1_isKnownBelow_29 : decode cX1_isKnownBelow 29 = .ok (.if_icmp .gt 33, 3) := dk_163 0 33 (dk_at dksX1_isKnownBelow_1 7 rfl rfl)
theorem dX1_isKnownBelow_32 : decode cX1_isKnownBelow 32 = .ok (.aload_n 0, 1) := dk_42 (dk_at dksX1_isKnownBelow_1 10 rfl rfl)
theorem dX1_isKnownBelow_33 : decode cX1_isKnownBelow 33 = .ok (.aload_n 3, 1) := dk_45 (dk_at dksX1_isKnownBelow_1 11 rfl rfl)
theorem dX1_isKnownBelow_34 : decode cX1_isKnownBelow 34 = .ok (.getfield 274, 3) := dk_180 1 18 (dk_at dksX1_isKnownBelow_1 12 rfl rfl)
theorem dX1_isKnownBelow_37 : decode cX1_isKnownBelow 37 = .ok (.invokevirtual 275, 3) := dk_182 1 19 (dk_at dksX1_isKnownBelow_1 15 rfl rfl)
theorem dX1_isKnownBelow_40 : decode cX1_isKnownBelow 40 = .ok (.ifCond .ne 22, 3) := dk_154 0 22 (dk_at dksX1_isKnownBelow_1 18 rfl rfl)
theorem dX1_isKnownBelow_43 : decode cX1_isKnownBelow 43 = .ok (.aload_n 0, 1) := dk_42 (dk_at dksX1_isKnownBelow_1 21 rfl rfl)
theorem dX1_isKnownBelow_44 : decode cX1_isKnownBelow 44 = .ok (.getfield 33, 3) := dk_180 0 33 (dk_at dksX1_isKnownBelow_2 0 rfl rfl)
theorem dX1_isKnownBelow_47 : decode cX1_isKnownBelow 47 = .ok (.aload_n 3, 1) := dk_45 (dk_at dksX1_isKnownBelow_2 3 rfl rfl)
theorem dX1_isKnownBelow_48 : decode cX1_isKnownBelow 48 = .ok (.getfield 274, 3) := dk_180 1 18 (dk_at dksX1_isKnownBelow_2 4 rfl rfl)
theorem dX1_isKnownBelow_51 : decode cX1_isKnownBelow 51 = .ok (.getfield 163, 3) := dk_180 0 163 (dk_at dksX1_isKnownBelow_2 7 rfl rfl)
theorem dX1_isKnownBelow_54 : decode cX1_isKnownBelow 54 = .ok (.aaload, 1) := dk_50 (dk_at dksX1_isKnownBelow_2 10 rfl rfl)
theorem dX1_isKnownBelow_55 : decode cX1_isKnownBelow 55 = .ok (.astore_n 3, 1) := dk_78 (dk_at dksX1_isKnownBelow_2 11 rfl rfl)
theorem dX1_isKnownBelow_56 : decode cX1_isKnownBelow 56 = .ok (.iinc 4 1, 3) := dk_132 4 1 (dk_at dksX1_isKnownBelow_2 12 rfl rfl)
theorem dX1_isKnownBelow_59 : decode cX1_isKnownBelow 59 = .ok (.goto (-46), 3) := dk_167 255 210 (dk_at dksX1_isKnownBelow_2 15 rfl rfl)
theorem dX1_isKnownBelow_62 : decode cX1_isKnownBelow 62 = .ok (.aload_n 3, 1) := dk_45 (dk_at dksX1_isKnownBelow_2 18 rfl rfl)
theorem dX1_isKnownBelow_63 : decode cX1_isKnownBelow 63 = .ok (.ifnull 15, 3) := dk_198 0 15 (dk_at dksX1_isKnownBelow_2 19 rfl rfl)
theorem dX1_isKnownBelow_66 : decode cX1_isKnownBelow 66 = .ok (.aload_n 3, 1) := dk_45 (dk_at dksX1_isKnownBelow_2 22 rfl rfl)
theorem dX1_isKnownBelow_67 : decode cX1_isKnownBelow 67 = .ok (.getfield 274, 3) := dk_180 1 18 (dk_at dksX1_isKnownBelow_3 0 rfl rfl)
theorem dX1_isKnownBelow_70 : decode cX1_isKnownBelow 70 = .ok (.aload_n 2, 1) := dk_44 (dk_at dksX1_isKnownBelow_3 3 rfl rfl)
theorem dX1_isKnownBelow_71 : decode cX1_isKnownBelow 71 = .ok (.if_acmp .ne 7, 3) := dk_166 0 7 (dk_at dksX1_isKnownBelow_3 4 rfl rfl)
theorem dX1_isKnownBelow_74 : decode cX1_isKnownBelow 74 = .ok (.iconst 1, 1) := dk_4 (dk_at dksX1_isKnownBelow_3 7 rfl rfl)
theorem dX1_isKnownBelow_75 : decode cX1_isKnownBelow 75 = .ok (.goto 4, 3) := dk_167 0 4 (dk_at dksX1_isKnownBelow_3 8 rfl rfl)
theorem dX1_isKnownBelow_78 : decode cX1_isKnownBelow 78 = .ok (.iconst 0, 1) := dk_3 (dk_at dksX1_isKnownBelow_3 11 rfl rfl)
theorem dX1_isKnownBelow_79 : decode cX1_isKnownBelow 79 = .ok (.ireturn, 1) := dk_172 (dk_at dksX1_isKnownBelow_3 12 rfl rfl)
abbrev cX1_forget : ByteArray := prog_1_method_35_code
def yX1_forget : MethodName := ⟨RX1, "forget", "(LSearchKeeper$Entry;)V"⟩
def dkwX1_forget_0 : List UInt8 := [42, 180, 0, 33, 43, 180, 1, 22, 180, 0, 163, 1, 83, 43, 184, 1, 25, 177]
abbrev dktX1_forget_0 : List UInt8 := dkwX1_forget_0 ++ []
theorem dksX1_forget_0 : cX1_forget.data.toList.drop 0 = dktX1_forget_0 := by decide +kernel
theorem dX1_forget_0 : decode cX1_forget 0 = .ok (.aload_n 0, 1) := dk_42 (dk_at dksX1_forget_0 0 rfl rfl)
theorem dX1_forget_1 : decode cX1_forget 1 = .ok (.getfield 33, 3) := dk_180 0 33 (dk_at dksX1_forget_0 1 rfl rfl)
theorem dX1_forget_4 : decode cX1_forget 4 = .ok (.aload_n 1, 1) := dk_43 (dk_at dksX1_forget_0 4 rfl rfl)
theorem dX1_forget_5 : decode cX1_forget 5 = .ok (.getfield 278, 3) := dk_180 1 22 (dk_at dksX1_forget_0 5 rfl rfl)
theorem dX1_forget_8 : decode cX1_forget 8 = .ok (.getfield 163, 3) := dk_180 0 163 (dk_at dksX1_forget_0 8 rfl rfl)
theorem dX1_forget_11 : decode cX1_forget 11 = .ok (.aconst_null, 1) := dk_1 (dk_at dksX1_forget_0 11 rfl rfl)
theorem dX1_forget_12 : decode cX1_forget 12 = .ok (.aastore, 1) := dk_83 (dk_at dksX1_forget_0 12 rfl rfl)
theorem dX1_forget_13 : decode cX1_forget 13 = .ok (.aload_n 1, 1) := dk_43 (dk_at dksX1_forget_0 13 rfl rfl)
theorem dX1_forget_14 : decode cX1_forget 14 = .ok (.invokestatic 281, 3) := dk_184 1 25 (dk_at dksX1_forget_0 14 rfl rfl)
theorem dX1_forget_17 : decode cX1_forget 17 = .ok (.return_, 1) := dk_177 (dk_at dksX1_forget_0 17 rfl rfl)
abbrev cX1_bury : ByteArray := prog_1_method_36_code
def yX1_bury : MethodName := ⟨RX1, "bury", "(LSearchKeeper$Entry;)V"⟩
def dkwX1_bury_1 : List UInt8 := [180, 1, 29, 89, 180, 1, 40, 4, 96, 181, 1, 40, 42, 1, 181, 1, 29, 177]
abbrev dktX1_bury_1 : List UInt8 := dkwX1_bury_1 ++ []
def dkwX1_bury_0 : List UInt8 := [42, 180, 1, 29, 198, 0, 35, 42, 180, 1, 29, 180, 1, 33, 42, 185, 1, 38, 2, 0, 87, 42]
abbrev dktX1_bury_0 : List UInt8 := dkwX1_bury_0 ++ dktX1_bury_1
theorem dksX1_bury_0 : cX1_bury.data.toList.drop 0 = dktX1_bury_0 := by decide +kernel
theorem dksX1_bury_1 : cX1_bury.data.toList.drop 22 = dktX1_bury_1 := dk_seg dksX1_bury_0 22 rfl rfl
theorem dX1_bury_0 : decode cX1_bury 0 = .ok (.aload_n 0, 1) := dk_42 (dk_at dksX1_bury_0 0 rfl rfl)
theorem dX1_bury_1 : decode cX1_bury 1 = .ok (.getfield 285, 3) := dk_180 1 29 (dk_at dksX1_bury_0 1 rfl rfl)
theorem dX1_bury_4 : decode cX1_bury 4 = .ok (.ifnull 35, 3) := dk_198 0 35 (dk_at dksX1_bury_0 4 rfl rfl)
theorem dX1_bury_7 : decode cX1_bury 7 = .ok (.aload_n 0, 1) := dk_42 (dk_at dksX1_bury_0 7 rfl rfl)
theorem dX1_bury_8 : decode cX1_bury 8 = .ok (.getfield 285, 3) := dk_180 1 29 (dk_at dksX1_bury_0 8 rfl rfl)
theorem dX1_bury_11 : decode cX1_bury 11 = .ok (.getfield 289, 3) := dk_180 1 33 (dk_at dksX1_bury_0 11 rfl rfl)
theorem dX1_bury_14 : decode cX1_bury 14 = .ok (.aload_n 0, 1) := dk_42 (dk_at dksX1_bury_0 14 rfl rfl)
theorem dX1_bury_15 : decode cX1_bury 15 = .ok (.invokeinterface 294 2, 5) := by decide +kernel
theorem dX1_bury_20 : decode cX1_bury 20 = .ok (.pop, 1) := dk_87 (dk_at dksX1_bury_0 20 rfl rfl)
theorem dX1_bury_21 : decode cX1_bury 21 = .ok (.aload_n 0, 1) := dk_42 (dk_at dksX1_bury_0 21 rfl rfl)
theorem dX1_bury_22 : decode cX1_bury 22 = .ok (.getfield 285, 3) := dk_180 1 29 (dk_at dksX1_bury_1 0 rfl rfl)
theorem dX1_bury_25 : decode cX1_bury 25 = .ok (.dup, 1) := dk_89 (dk_at dksX1_bury_1 3 rfl rfl)
theorem dX1_bury_26 : decode cX1_bury 26 = .ok (.getfield 296, 3) := dk_180 1 40 (dk_at dksX1_bury_1 4 rfl rfl)
theorem dX1_bury_29 : decode cX1_bury 29 = .ok (.iconst 1, 1) := dk_4 (dk_at dksX1_bury_1 7 rfl rfl)
theorem dX1_bury_30 : decode cX1_bury 30 = .ok (.iadd, 1) := dk_96 (dk_at dksX1_bury_1 8 rfl rfl)
theorem dX1_bury_31 : decode cX1_bury 31 = .ok (.putfield 296, 3) := dk_181 1 40 (dk_at dksX1_bury_1 9 rfl rfl)
theorem dX1_bury_34 : decode cX1_bury 34 = .ok (.aload_n 0, 1) := dk_42 (dk_at dksX1_bury_1 12 rfl rfl)
theorem dX1_bury_35 : decode cX1_bury 35 = .ok (.aconst_null, 1) := dk_1 (dk_at dksX1_bury_1 13 rfl rfl)
theorem dX1_bury_36 : decode cX1_bury 36 = .ok (.putfield 285, 3) := dk_181 1 29 (dk_at dksX1_bury_1 14 rfl rfl)
theorem dX1_bury_39 : decode cX1_bury 39 = .ok (.return_, 1) := dk_177 (dk_at dksX1_bury_1 17 rfl rfl)
abbrev cX1_look : ByteArray := prog_1_method_40_code
def yX1_look : MethodName := ⟨RX1, "look", "(LSearchKeeper$Node;)V"⟩
def dkwX1_look_8 : List UInt8 := [29, 185, 0, 79, 2, 0, 192, 0, 60, 3, 182, 1, 23, 132, 3, 1, 167, 255, 176, 177]
abbrev dktX1_look_8 : List UInt8 := dkwX1_look_8 ++ []
def dkwX1_look_7 : List UInt8 := [180, 0, 19, 29, 185, 0, 79, 2, 0, 192, 0, 60, 180, 0, 98, 43, 166, 0, 21, 42, 42, 180, 0, 19]
abbrev dktX1_look_7 : List UInt8 := dkwX1_look_7 ++ dktX1_look_8
def dkwX1_look_6 : List UInt8 := [153, 0, 66, 42, 180, 0, 19, 29, 185, 0, 79, 2, 0, 192, 0, 60, 180, 0, 83, 154, 0, 41, 42]
abbrev dktX1_look_6 : List UInt8 := dkwX1_look_6 ++ dktX1_look_7
def dkwX1_look_5 : List UInt8 := [182, 1, 70, 3, 62, 29, 42, 180, 0, 19, 185, 0, 71, 1, 0, 162, 0, 73, 43, 180, 0, 91]
abbrev dktX1_look_5 : List UInt8 := dkwX1_look_5 ++ dktX1_look_6
def dkwX1_look_4 : List UInt8 := [180, 0, 53, 42, 180, 0, 57, 183, 1, 63, 180, 1, 66, 181, 1, 69, 42, 180, 0, 49, 43, 180, 0, 163]
abbrev dktX1_look_4 : List UInt8 := dkwX1_look_4 ++ dktX1_look_5
def dkwX1_look_3 : List UInt8 := [180, 0, 166, 159, 0, 48, 44, 43, 180, 0, 166, 181, 1, 49, 44, 187, 1, 61, 89, 43, 180, 0, 182, 42]
abbrev dktX1_look_3 : List UInt8 := dkwX1_look_3 ++ dktX1_look_4
def dkwX1_look_2 : List UInt8 := [181, 1, 18, 44, 43, 180, 0, 102, 181, 1, 60, 43, 180, 0, 91, 154, 0, 59, 44, 180, 1, 49, 43]
abbrev dktX1_look_2 : List UInt8 := dkwX1_look_2 ++ dktX1_look_3
def dkwX1_look_1 : List UInt8 := [180, 0, 33, 43, 180, 0, 163, 50, 77, 42, 180, 0, 33, 43, 180, 0, 163, 44, 83, 44, 43, 180, 0, 98]
abbrev dktX1_look_1 : List UInt8 := dkwX1_look_1 ++ dktX1_look_2
def dkwX1_look_0 : List UInt8 := [42, 180, 0, 33, 43, 180, 0, 163, 50, 199, 0, 14, 187, 0, 31, 89, 43, 183, 1, 59, 167, 0, 12, 42]
abbrev dktX1_look_0 : List UInt8 := dkwX1_look_0 ++ dktX1_look_1
theorem dksX1_look_0 : cX1_look.data.toList.drop 0 = dktX1_look_0 := by decide +kernel
theorem dksX1_look_1 : cX1_look.data.toList.drop 24 = dktX1_look_1 := dk_seg dksX1_look_0 24 rfl rfl
theorem dksX1_look_2 : cX1_look.data.toList.drop 48 = dktX1_look_2 := dk_seg dksX1_look_1 24 rfl rfl
theorem dksX1_look_3 : cX1_look.data.toList.drop 71 = dktX1_look_3 := dk_seg dksX1_look_2 23 rfl rfl
theorem dksX1_look_4 : cX1_look.data.toList.drop 95 = dktX1_look_4 := dk_seg dksX1_look_3 24 rfl rfl
theorem dksX1_look_5 : cX1_look.data.toList.drop 119 = dktX1_look_5 := dk_seg dksX1_look_4 24 rfl rfl
theorem dksX1_look_6 : cX1_look.data.toList.drop 141 = dktX1_look_6 := dk_seg dksX1_look_5 22 rfl rfl
theorem dksX1_look_7 : cX1_look.data.toList.drop 164 = dktX1_look_7 := dk_seg dksX1_look_6 23 rfl rfl
theorem dksX1_look_8 : cX1_look.data.toList.drop 188 = dktX1_look_8 := dk_seg dksX1_look_7 24 rfl rfl
theorem dX1_look_0 : decode cX1_look 0 = .ok (.aload_n 0, 1) := dk_42 (dk_at dksX1_look_0 0 rfl rfl)
theorem dX1_look_1 : decode cX1_look 1 = .ok (.getfield 33, 3) := dk_180 0 33 (dk_at dksX1_look_0 1 rfl rfl)
theorem dX1_look_4 : decode cX1_look 4 = .ok (.aload_n 1, 1) := dk_43 (dk_at dksX1_look_0 4 rfl rfl)
theorem dX1_look_5 : decode cX1_look 5 = .ok (.getfield 163, 3) := dk_180 0 163 (dk_at dksX1_look_0 5 rfl rfl)
theorem dX1_look_8 : decode cX1_look 8 = .ok (.aaload, 1) := dk_50 (dk_at dksX1_look_0 8 rfl rfl)
theorem dX1_look_9 : decode cX1_look 9 = .ok (.ifnonnull 14, 3) := dk_199 0 14 (dk_at dksX1_look_0 9 rfl rfl)
theorem dX1_look_12 : decode cX1_look 12 = .ok (.new 31, 3) := dk_187 0 31 (dk_at dksX1_look_0 12 rfl rfl)
theorem dX1_look_15 : decode cX1_look 15 = .ok (.dup, 1) := dk_89 (dk_at dksX1_look_0 15 rfl rfl)
theorem dX1_look_16 : decode cX1_look 16 = .ok (.aload_n 1, 1) := dk_43 (dk_at dksX1_look_0 16 rfl rfl)
theorem dX1_look_17 : decode cX1_look 17 = .ok (.invokespecial 315, 3) := dk_183 1 59 (dk_at dksX1_look_0 17 rfl rfl)
theorem dX1_look_20 : decode cX1_look 20 = .ok (.goto 12, 3) := dk_167 0 12 (dk_at dksX1_look_0 20 rfl rfl)
theorem dX1_look_23 : decode cX1_look 23 = .ok (.aload_n 0, 1) := dk_42 (dk_at dksX1_look_0 23 rfl rfl)
theorem dX1_look_24 : decode cX1_look 24 = .ok (.getfield 33, 3) := dk_180 0 33 (dk_at dksX1_look_1 0 rfl rfl)
theorem dX1_look_27 : decode cX1_look 27 = .ok (.aload_n 1, 1) := dk_43 (dk_at dksX1_look_1 3 rfl rfl)
theorem dX1_look_28 : decode cX1_look 28 = .ok (.getfield 163, 3) := dk_180 0 163 (dk_at dksX1_look_1 4 rfl rfl)
theorem dX1_look_31 : decode cX1_look 31 = .ok (.aaload, 1) := dk_50 (dk_at dksX1_look_1 7 rfl rfl)
theorem dX1_look_32 : decode cX1_look 32 = .ok (.astore_n 2, 1) := dk_77 (dk_at dksX1_look_1 8 rfl rfl)
theorem dX1_look_33 : decode cX1_look 33 = .ok (.aload_n 0, 1) := dk_42 (dk_at dksX1_look_1 9 rfl rfl)
theorem dX1_look_34 : decode cX1_look 34 = .ok (.getfield 33, 3) := dk_180 0 33 (dk_at dksX1_look_1 10 rfl rfl)
theorem dX1_look_37 : decode cX1_look 37 = .ok (.aload_n 1, 1) := dk_43 (dk_at dksX1_look_1 13 rfl rfl)
theorem dX1_look_38 : decode cX1_look 38 = .ok (.getfield 163, 3) := dk_180 0 163 (dk_at dksX1_look_1 14 rfl rfl)
theorem dX1_look_41 : decode cX1_look 41 = .ok (.aload_n 2, 1) := dk_44 (dk_at dksX1_look_1 17 rfl rfl)
theorem dX1_look_42 : decode cX1_look 42 = .ok (.aastore, 1) := dk_83 (dk_at dksX1_look_1 18 rfl rfl)
theorem dX1_look_43 : decode cX1_look 43 = .ok (.aload_n 2, 1) := dk_44 (dk_at dksX1_look_1 19 rfl rfl)
theorem dX1_look_44 : decode cX1_look 44 = .ok (.aload_n 1, 1) := dk_43 (dk_at dksX1_look_1 20 rfl rfl)
theorem dX1_look_45 : decode cX1_look 45 = .ok (.getfield 98, 3) := dk_180 0 98 (dk_at dksX1_look_1 21 rfl rfl)
theorem dX1_look_48 : decode cX1_look 48 = .ok (.putfield 274, 3) := dk_181 1 18 (dk_at dksX1_look_2 0 rfl rfl)
theorem dX1_look_51 : decode cX1_look 51 = .ok (.aload_n 2, 1) := dk_44 (dk_at dksX1_look_2 3 rfl rfl)
theorem dX1_look_52 : decode cX1_look 52 = .ok (.aload_n 1, 1) := dk_43 (dk_at dksX1_look_2 4 rfl rfl)
theorem dX1_look_53 : decode cX1_look 53 = .ok (.getfield 102, 3) := dk_180 0 102 (dk_at dksX1_look_2 5 rfl rfl)
theorem dX1_look_56 : decode cX1_look 56 = .ok (.putfield 316, 3) := dk_181 1 60 (dk_at dksX1_look_2 8 rfl rfl)
theorem dX1_look_59 : decode cX1_look 59 = .ok (.aload_n 1, 1) := dk_43 (dk_at dksX1_look_2 11 rfl rfl)
theorem dX1_look_60 : decode cX1_look 60 = .ok (.getfield 91, 3) := dk_180 0 91 (dk_at dksX1_look_2 12 rfl rfl)
theorem dX1_look_63 : decode cX1_look 63 = .ok (.ifCond .ne 59, 3) := dk_154 0 59 (dk_at dksX1_look_2 15 rfl rfl)
theorem dX1_look_66 : decode cX1_look 66 = .ok (.aload_n 2, 1) := dk_44 (dk_at dksX1_look_2 18 rfl rfl)
theorem dX1_look_67 : decode cX1_look 67 = .ok (.getfield 305, 3) := dk_180 1 49 (dk_at dksX1_look_2 19 rfl rfl)
theorem dX1_look_70 : decode cX1_look 70 = .ok (.aload_n 1, 1) := dk_43 (dk_at dksX1_look_2 22 rfl rfl)
theorem dX1_look_71 : decode cX1_look 71 = .ok (.getfield 166, 3) := dk_180 0 166 (dk_at dksX1_look_3 0 rfl rfl)
theorem dX1_look_74 : decode cX1_look 74 = .ok (.if_icmp .eq 48, 3) := dk_159 0 48 (dk_at dksX1_look_3 3 rfl rfl)
theorem dX1_look_77 : decode cX1_look 77 = .ok (.aload_n 2, 1) := dk_44 (dk_at dksX1_look_3 6 rfl rfl)
theorem dX1_look_78 : decode cX1_look 78 = .ok (.aload_n 1, 1) := dk_43 (dk_at dksX1_look_3 7 rfl rfl)
theorem dX1_look_79 : decode cX1_look 79 = .ok (.getfield 166, 3) := dk_180 0 166 (dk_at dksX1_look_3 8 rfl rfl)
theorem dX1_look_82 : decode cX1_look 82 = .ok (.putfield 305, 3) := dk_181 1 49 (dk_at dksX1_look_3 11 rfl rfl)
theorem dX1_look_85 : decode cX1_look 85 = .ok (.aload_n 2, 1) := dk_44 (dk_at dksX1_look_3 14 rfl rfl)
theorem dX1_look_86 : decode cX1_look 86 = .ok (.new 317, 3) := dk_187 1 61 (dk_at dksX1_look_3 15 rfl rfl)
theorem dX1_look_89 : decode cX1_look 89 = .ok (.dup, 1) := dk_89 (dk_at dksX1_look_3 18 rfl rfl)
theorem dX1_look_90 : decode cX1_look 90 = .ok (.aload_n 1, 1) := dk_43 (dk_at dksX1_look_3 19 rfl rfl)
theorem dX1_look_91 : decode cX1_look 91 = .ok (.getfield 182, 3) := dk_180 0 182 (dk_at dksX1_look_3 20 rfl rfl)
theorem dX1_look_94 : decode cX1_look 94 = .ok (.aload_n 0, 1) := dk_42 (dk_at dksX1_look_3 23 rfl rfl)
theorem dX1_look_95 : decode cX1_look 95 = .ok (.getfield 53, 3) := dk_180 0 53 (dk_at dksX1_look_4 0 rfl rfl)
theorem dX1_look_98 : decode cX1_look 98 = .ok (.aload_n 0, 1) := dk_42 (dk_at dksX1_look_4 3 rfl rfl)
theorem dX1_look_99 : decode cX1_look 99 = .ok (.getfield 57, 3) := dk_180 0 57 (dk_at dksX1_look_4 4 rfl rfl)
theorem dX1_look_102 : decode cX1_look 102 = .ok (.invokespecial 319, 3) := dk_183 1 63 (dk_at dksX1_look_4 7 rfl rfl)
theorem dX1_look_105 : decode cX1_look 105 = .ok (.getfield 322, 3) := dk_180 1 66 (dk_at dksX1_look_4 10 rfl rfl)
theorem dX1_look_108 : decode cX1_look 108 = .ok (.putfield 325, 3) := dk_181 1 69 (dk_at dksX1_look_4 13 rfl rfl)
theorem dX1_look_111 : decode cX1_look 111 = .ok (.aload_n 0, 1) := dk_42 (dk_at dksX1_look_4 16 rfl rfl)
theorem dX1_look_112 : decode cX1_look 112 = .ok (.getfield 49, 3) := dk_180 0 49 (dk_at dksX1_look_4 17 rfl rfl)
theorem dX1_look_115 : decode cX1_look 115 = .ok (.aload_n 1, 1) := dk_43 (dk_at dksX1_look_4 20 rfl rfl)
theorem dX1_look_116 : decode cX1_look 116 = .ok (.getfield 163, 3) := dk_180 0 163 (dk_at dksX1_look_4 21 rfl rfl)
theorem dX1_look_119 : decode cX1_look 119 = .ok (.invokevirtual 326, 3) := dk_182 1 70 (dk_at dksX1_look_5 0 rfl rfl)
theorem dX1_look_122 : decode cX1_look 122 = .ok (.iconst 0, 1) := dk_3 (dk_at dksX1_look_5 3 rfl rfl)
theorem dX1_look_123 : decode cX1_look 123 = .ok (.istore_n 3, 1) := dk_62 (dk_at dksX1_look_5 4 rfl rfl)
theorem dX1_look_124 : decode cX1_look 124 = .ok (.iload_n 3, 1) := dk_29 (dk_at dksX1_look_5 5 rfl rfl)
theorem dX1_look_125 : decode cX1_look 125 = .ok (.aload_n 0, 1) := dk_42 (dk_at dksX1_look_5 6 rfl rfl)
theorem dX1_look_126 : decode cX1_look 126 = .ok (.getfield 19, 3) := dk_180 0 19 (dk_at dksX1_look_5 7 rfl rfl)
theorem dX1_look_129 : decode cX1_look 129 = .ok (.invokeinterface 71 1, 5) := by decide +kernel
theorem dX1_look_134 : decode cX1_look 134 = .ok (.if_icmp .ge 73, 3) := dk_162 0 73 (dk_at dksX1_look_5 15 rfl rfl)
theorem dX1_look_137 : decode cX1_look 137 = .ok (.aload_n 1, 1) := dk_43 (dk_at dksX1_look_5 18 rfl rfl)
theorem dX1_look_138 : decode cX1_look 138 = .ok (.getfield 91, 3) := dk_180 0 91 (dk_at dksX1_look_5 19 rfl rfl)
theorem dX1_look_141 : decode cX1_look 141 = .ok (.ifCond .eq 66, 3) := dk_153 0 66 (dk_at dksX1_look_6 0 rfl rfl)
theorem dX1_look_144 : decode cX1_look 144 = .ok (.aload_n 0, 1) := dk_42 (dk_at dksX1_look_6 3 rfl rfl)
theorem dX1_look_145 : decode cX1_look 145 = .ok (.getfield 19, 3) := dk_180 0 19 (dk_at dksX1_look_6 4 rfl rfl)
theorem dX1_look_148 : decode cX1_look 148 = .ok (.iload_n 3, 1) := dk_29 (dk_at dksX1_look_6 7 rfl rfl)
theorem dX1_look_149 : decode cX1_look 149 = .ok (.invokeinterface 79 2, 5) := by decide +kernel
theorem dX1_look_154 : decode cX1_look 154 = .ok (.checkcast 60, 3) := dk_192 0 60 (dk_at dksX1_look_6 13 rfl rfl)
theorem dX1_look_157 : decode cX1_look 157 = .ok (.getfield 83, 3) := dk_180 0 83 (dk_at dksX1_look_6 16 rfl rfl)
theorem dX1_look_160 : decode cX1_look 160 = .ok (.ifCond .ne 41, 3) := dk_154 0 41 (dk_at dksX1_look_6 19 rfl rfl)
theorem dX1_look_163 : decode cX1_look 163 = .ok (.aload_n 0, 1) := dk_42 (dk_at dksX1_look_6 22 rfl rfl)
theorem dX1_look_164 : decode cX1_look 164 = .ok (.getfield 19, 3) := dk_180 0 19 (dk_at dksX1_look_7 0 rfl rfl)
theorem dX1_look_167 : decode cX1_look 167 = .ok (.iload_n 3, 1) := dk_29 (dk_at dksX1_look_7 3 rfl rfl)
theorem dX1_look_168 : decode cX1_look 168 = .ok (.invokeinterface 79 2, 5) := by decide +kernel
theorem dX1_look_173 : decode cX1_look 173 = .ok (.checkcast 60, 3) := dk_192 0 60 (dk_at dksX1_look_7 9 rfl rfl)
theorem dX1_look_176 : decode cX1_look 176 = .ok (.getfield 98, 3) := dk_180 0 98 (dk_at dksX1_look_7 12 rfl rfl)
theorem dX1_look_179 : decode cX1_look 179 = .ok (.aload_n 1, 1) := dk_43 (dk_at dksX1_look_7 15 rfl rfl)
theorem dX1_look_180 : decode cX1_look 180 = .ok (.if_acmp .ne 21, 3) := dk_166 0 21 (dk_at dksX1_look_7 16 rfl rfl)
theorem dX1_look_183 : decode cX1_look 183 = .ok (.aload_n 0, 1) := dk_42 (dk_at dksX1_look_7 19 rfl rfl)
theorem dX1_look_184 : decode cX1_look 184 = .ok (.aload_n 0, 1) := dk_42 (dk_at dksX1_look_7 20 rfl rfl)
theorem dX1_look_185 : decode cX1_look 185 = .ok (.getfield 19, 3) := dk_180 0 19 (dk_at dksX1_look_7 21 rfl rfl)
theorem dX1_look_188 : decode cX1_look 188 = .ok (.iload_n 3, 1) := dk_29 (dk_at dksX1_look_8 0 rfl rfl)
theorem dX1_look_189 : decode cX1_look 189 = .ok (.invokeinterface 79 2, 5) := by decide +kernel
theorem dX1_look_194 : decode cX1_look 194 = .ok (.checkcast 60, 3) := dk_192 0 60 (dk_at dksX1_look_8 6 rfl rfl)
theorem dX1_look_197 : decode cX1_look 197 = .ok (.iconst 0, 1) := dk_3 (dk_at dksX1_look_8 9 rfl rfl)
theorem dX1_look_198 : decode cX1_look 198 = .ok (.invokevirtual 279, 3) := dk_182 1 23 (dk_at dksX1_look_8 10 rfl rfl)
theorem dX1_look_201 : decode cX1_look 201 = .ok (.iinc 3 1, 3) := dk_132 3 1 (dk_at dksX1_look_8 13 rfl rfl)
theorem dX1_look_204 : decode cX1_look 204 = .ok (.goto (-80), 3) := dk_167 255 176 (dk_at dksX1_look_8 16 rfl rfl)
theorem dX1_look_207 : decode cX1_look 207 = .ok (.return_, 1) := dk_177 (dk_at dksX1_look_8 19 rfl rfl)
abbrev cX1_crawl : ByteArray := prog_1_method_41_code
def yX1_crawl : MethodName := ⟨RX1, "crawl", "(LSearchKeeper$Root;)V"⟩
def dkwX1_crawl_10 : List UInt8 := [132, 3, 1, 167, 255, 213, 177]
abbrev dktX1_crawl_10 : List UInt8 := dkwX1_crawl_10 ++ []
def dkwX1_crawl_9 : List UInt8 := [180, 1, 82, 29, 182, 1, 90, 154, 0, 17, 42, 42, 180, 0, 33, 29, 50, 180, 1, 22, 3, 182, 1, 23]
abbrev dktX1_crawl_9 : List UInt8 := dkwX1_crawl_9 ++ dktX1_crawl_10
def dkwX1_crawl_8 : List UInt8 := [43, 1, 181, 1, 73, 3, 62, 29, 16, 60, 162, 0, 43, 42, 180, 0, 33, 29, 50, 198, 0, 28, 43]
abbrev dktX1_crawl_8 : List UInt8 := dkwX1_crawl_8 ++ dktX1_crawl_9
def dkwX1_crawl_7 : List UInt8 := [180, 1, 73, 25, 4, 182, 1, 88, 132, 3, 1, 167, 255, 108, 43, 180, 1, 73, 182, 1, 89, 153, 0, 56]
abbrev dktX1_crawl_7 : List UInt8 := dkwX1_crawl_7 ++ dktX1_crawl_8
def dkwX1_crawl_6 : List UInt8 := [182, 1, 23, 25, 4, 180, 0, 91, 153, 0, 24, 43, 180, 1, 73, 25, 4, 182, 1, 85, 154, 0, 12, 43]
abbrev dktX1_crawl_6 : List UInt8 := dkwX1_crawl_6 ++ dktX1_crawl_7
def dkwX1_crawl_5 : List UInt8 := [180, 0, 91, 154, 0, 23, 25, 5, 180, 1, 49, 25, 4, 180, 0, 166, 159, 0, 10, 42, 25, 4, 3]
abbrev dktX1_crawl_5 : List UInt8 := dkwX1_crawl_5 ++ dktX1_crawl_6
def dkwX1_crawl_4 : List UInt8 := [25, 5, 180, 1, 18, 44, 166, 0, 37, 25, 5, 180, 1, 60, 25, 4, 180, 0, 102, 160, 0, 24, 25, 4]
abbrev dktX1_crawl_4 : List UInt8 := dkwX1_crawl_4 ++ dktX1_crawl_5
def dkwX1_crawl_3 : List UInt8 := [166, 0, 103, 43, 180, 1, 82, 29, 182, 1, 70, 42, 180, 0, 33, 29, 50, 58, 5, 25, 5, 198, 0, 46]
abbrev dktX1_crawl_3 : List UInt8 := dkwX1_crawl_3 ++ dktX1_crawl_4
def dkwX1_crawl_2 : List UInt8 := [185, 0, 79, 2, 0, 192, 0, 60, 58, 4, 25, 4, 180, 0, 83, 154, 0, 112, 25, 4, 180, 0, 98, 44]
abbrev dktX1_crawl_2 : List UInt8 := dkwX1_crawl_2 ++ dktX1_crawl_3
def dkwX1_crawl_1 : List UInt8 := [153, 0, 156, 3, 62, 29, 42, 180, 0, 19, 185, 0, 71, 1, 0, 162, 0, 141, 42, 180, 0, 19, 29]
abbrev dktX1_crawl_1 : List UInt8 := dkwX1_crawl_1 ++ dktX1_crawl_2
def dkwX1_crawl_0 : List UInt8 := [43, 180, 1, 73, 182, 1, 77, 192, 0, 60, 77, 44, 180, 0, 83, 154, 0, 164, 43, 44, 182, 0, 198]
abbrev dktX1_crawl_0 : List UInt8 := dkwX1_crawl_0 ++ dktX1_crawl_1
theorem dksX1_crawl_0 : cX1_crawl.data.toList.drop 0 = dktX1_crawl_0 := by decide +kernel
theorem dksX1_crawl_1 : cX1_crawl.data.toList.drop 23 = dktX1_crawl_1 := dk_seg dksX1_crawl_0 23 rfl rfl
theorem dksX1_crawl_2 : cX1_crawl.data.toList.drop 46 = dktX1_crawl_2 := dk_seg dksX1_crawl_1 23 rfl rfl
theorem dksX1_crawl_3 : cX1_crawl.data.toList.drop 70 = dktX1_crawl_3 := dk_seg dksX1_crawl_2 24 rfl rfl
theorem dksX1_crawl_4 : cX1_crawl.data.toList.drop 94 = dktX1_crawl_4 := dk_seg dksX1_crawl_3 24 rfl rfl
theorem dksX1_crawl_5 : cX1_crawl.data.toList.drop 118 = dktX1_crawl_5 := dk_seg dksX1_crawl_4 24 rfl rfl
theorem dksX1_crawl_6 : cX1_crawl.data.toList.drop 141 = dktX1_crawl_6 := dk_seg dksX1_crawl_5 23 rfl rfl
theorem dksX1_crawl_7 : cX1_crawl.data.toList.drop 165 = dktX1_crawl_7 := dk_seg dksX1_crawl_6 24 rfl rfl
theorem dksX1_crawl_8 : cX1_crawl.data.toList.drop 189 = dktX1_crawl_8 := dk_seg dksX1_crawl_7 24 rfl rfl
theorem dksX1_crawl_9 : cX1_crawl.data.toList.drop 212 = dktX1_crawl_9 := dk_seg dksX1_crawl_8 23 rfl rfl
theorem dksX1_crawl_10 : cX1_crawl.data.toList.drop 236 = dktX1_crawl_10 := dk_seg dksX1_crawl_9 24 rfl rfl
theorem dX1_crawl_0 : decode cX1_crawl 0 = .ok (.aload_n 1, 1) := dk_43 (dk_at dksX1_crawl_0 0 rfl rfl)
theorem dX1_crawl_1 : decode cX1_crawl 1 = .ok (.getfield 329, 3) := dk_180 1 73 (dk_at dksX1_crawl_0 1 rfl rfl)
theorem dX1_crawl_4 : decode cX1_crawl 4 = .ok (.invokevirtual 333, 3) := dk_182 1 77 (dk_at dksX1_crawl_0 4 rfl rfl)
theorem dX1_crawl_7 : decode cX1_crawl 7 = .ok (.checkcast 60, 3) := dk_192 0 60 (dk_at dksX1_crawl_0 7 rfl rfl)
theorem dX1_crawl_10 : decode cX1_crawl 10 = .ok (.astore_n 2, 1) := dk_77 (dk_at dksX1_crawl_0 10 rfl rfl)
theorem dX1_crawl_11 : decode cX1_crawl 11 = .ok (.aload_n 2, 1) := dk_44 (dk_at dksX1_crawl_0 11 rfl rfl)
theorem dX1_crawl_12 : decode cX1_crawl 12 = .ok (.getfield 83, 3) := dk_180 0 83 (dk_at dksX1_crawl_0 12 rfl rfl)
theorem dX1_crawl_15 : decode cX1_crawl 15 = .ok (.ifCond .ne 164, 3) := dk_154 0 164 (dk_at dksX1_crawl_0 15 rfl rfl)
theorem dX1_crawl_18 : decode cX1_crawl 18 = .ok (.aload_n 1, 1) := dk_43 (dk_at dksX1_crawl_0 18 rfl rfl)
theorem dX1_crawl_19 : decode cX1_crawl 19 = .ok (.aload_n 2, 1) := dk_44 (dk_at dksX1_crawl_0 19 rfl rfl)
theorem dX1_crawl_20 : decode cX1_crawl 20 = .ok (.invokevirtual 198, 3) := dk_182 0 198 (dk_at dksX1_crawl_0 20 rfl rfl)
theorem dX1_crawl_23 : decode cX1_crawl 23 = .ok (.ifCond .eq 156, 3) := dk_153 0 156 (dk_at dksX1_crawl_1 0 rfl rfl)
theorem dX1_crawl_26 : decode cX1_crawl 26 = .ok (.iconst 0, 1) := dk_3 (dk_at dksX1_crawl_1 3 rfl rfl)
theorem dX1_crawl_27 : decode cX1_crawl 27 = .ok (.istore_n 3, 1) := dk_62 (dk_at dksX1_crawl_1 4 rfl rfl)
theorem dX1_crawl_28 : decode cX1_crawl 28 = .ok (.iload_n 3, 1) := dk_29 (dk_at dksX1_crawl_1 5 rfl rfl)
theorem dX1_crawl_29 : decode cX1_crawl 29 = .ok (.aload_n 0, 1) := dk_42 (dk_at dksX1_crawl_1 6 rfl rfl)
theorem dX1_crawl_30 : decode cX1_crawl 30 = .ok (.getfield 19, 3) := dk_180 0 19 (dk_at dksX1_crawl_1 7 rfl rfl)
theorem dX1_crawl_33 : decode cX1_crawl 33 = .ok (.invokeinterface 71 1, 5) := by decide +kernel
theorem dX1_crawl_38 : decode cX1_crawl 38 = .ok (.if_icmp .ge 141, 3) := dk_162 0 141 (dk_at dksX1_crawl_1 15 rfl rfl)
theorem dX1_crawl_41 : decode cX1_crawl 41 = .ok (.aload_n 0, 1) := dk_42 (dk_at dksX1_crawl_1 18 rfl rfl)
theorem dX1_crawl_42 : decode cX1_crawl 42 = .ok (.getfield 19, 3) := dk_180 0 19 (dk_at dksX1_crawl_1 19 rfl rfl)
theorem dX1_crawl_45 : decode cX1_crawl 45 = .ok (.iload_n 3, 1) := dk_29 (dk_at dksX1_crawl_1 22 rfl rfl)
theorem dX1_crawl_46 : decode cX1_crawl 46 = .ok (.invokeinterface 79 2, 5) := by decide +kernel
theorem dX1_crawl_51 : decode cX1_crawl 51 = .ok (.checkcast 60, 3) := dk_192 0 60 (dk_at dksX1_crawl_2 5 rfl rfl)
theorem dX1_crawl_54 : decode cX1_crawl 54 = .ok (.astore 4, 2) := dk_58 4 (dk_at dksX1_crawl_2 8 rfl rfl)
theorem dX1_crawl_56 : decode cX1_crawl 56 = .ok (.aload 4, 2) := dk_25 4 (dk_at dksX1_crawl_2 10 rfl rfl)
theorem dX1_crawl_58 : decode cX1_crawl 58 = .ok (.getfield 83, 3) := dk_180 0 83 (dk_at dksX1_crawl_2 12 rfl rfl)
theorem dX1_crawl_61 : decode cX1_crawl 61 = .ok (.ifCond .ne 112, 3) := dk_154 0 112 (dk_at dksX1_crawl_2 15 rfl rfl)
theorem dX1_crawl_64 : decode cX1_crawl 64 = .ok (.aload 4, 2) := dk_25 4 (dk_at dksX1_crawl_2 18 rfl rfl)
theorem dX1_crawl_66 : decode cX1_crawl 66 = .ok (.getfield 98, 3) := dk_180 0 98 (dk_at dksX1_crawl_2 20 rfl rfl)
theorem dX1_crawl_69 : decode cX1_crawl 69 = .ok (.aload_n 2, 1) := dk_44 (dk_at dksX1_crawl_2 23 rfl rfl)
theorem dX1_crawl_70 : decode cX1_crawl 70 = .ok (.if_acmp .ne 103, 3) := dk_166 0 103 (dk_at dksX1_crawl_3 0 rfl rfl)
theorem dX1_crawl_73 : decode cX1_crawl 73 = .ok (.aload_n 1, 1) := dk_43 (dk_at dksX1_crawl_3 3 rfl rfl)
theorem dX1_crawl_74 : decode cX1_crawl 74 = .ok (.getfield 338, 3) := dk_180 1 82 (dk_at dksX1_crawl_3 4 rfl rfl)
theorem dX1_crawl_77 : decode cX1_crawl 77 = .ok (.iload_n 3, 1) := dk_29 (dk_at dksX1_crawl_3 7 rfl rfl)
theorem dX1_crawl_78 : decode cX1_crawl 78 = .ok (.invokevirtual 326, 3) := dk_182 1 70 (dk_at dksX1_crawl_3 8 rfl rfl)
theorem dX1_crawl_81 : decode cX1_crawl 81 = .ok (.aload_n 0, 1) := dk_42 (dk_at dksX1_crawl_3 11 rfl rfl)
theorem dX1_crawl_82 : decode cX1_crawl 82 = .ok (.getfield 33, 3) := dk_180 0 33 (dk_at dksX1_crawl_3 12 rfl rfl)
theorem dX1_crawl_85 : decode cX1_crawl 85 = .ok (.iload_n 3, 1) := dk_29 (dk_at dksX1_crawl_3 15 rfl rfl)
theorem dX1_crawl_86 : decode cX1_crawl 86 = .ok (.aaload, 1) := dk_50 (dk_at dksX1_crawl_3 16 rfl rfl)
theorem dX1_crawl_87 : decode cX1_crawl 87 = .ok (.astore 5, 2) := dk_58 5 (dk_at dksX1_crawl_3 17 rfl rfl)
theorem dX1_crawl_89 : decode cX1_crawl 89 = .ok (.aload 5, 2) := dk_25 5 (dk_at dksX1_crawl_3 19 rfl rfl)
theorem dX1_crawl_91 : decode cX1_crawl 91 = .ok (.ifnull 46, 3) := dk_198 0 46 (dk_at dksX1_crawl_3 21 rfl rfl)
theorem dX1_crawl_94 : decode cX1_crawl 94 = .ok (.aload 5, 2) := dk_25 5 (dk_at dksX1_crawl_4 0 rfl rfl)
theorem dX1_crawl_96 : decode cX1_crawl 96 = .ok (.getfield 274, 3) := dk_180 1 18 (dk_at dksX1_crawl_4 2 rfl rfl)
theorem dX1_crawl_99 : decode cX1_crawl 99 = .ok (.aload_n 2, 1) := dk_44 (dk_at dksX1_crawl_4 5 rfl rfl)
theorem dX1_crawl_100 : decode cX1_crawl 100 = .ok (.if_acmp .ne 37, 3) := dk_166 0 37 (dk_at dksX1_crawl_4 6 rfl rfl)
theorem dX1_crawl_103 : decode cX1_crawl 103 = .ok (.aload 5, 2) := dk_25 5 (dk_at dksX1_crawl_4 9 rfl rfl)
theorem dX1_crawl_105 : decode cX1_crawl 105 = .ok (.getfield 316, 3) := dk_180 1 60 (dk_at dksX1_crawl_4 11 rfl rfl)
theorem dX1_crawl_108 : decode cX1_crawl 108 = .ok (.aload 4, 2) := dk_25 4 (dk_at dksX1_crawl_4 14 rfl rfl)
theorem dX1_crawl_110 : decode cX1_crawl 110 = .ok (.getfield 102, 3) := dk_180 0 102 (dk_at dksX1_crawl_4 16 rfl rfl)
theorem dX1_crawl_113 : decode cX1_crawl 113 = .ok (.if_icmp .ne 24, 3) := dk_160 0 24 (dk_at dksX1_crawl_4 19 rfl rfl)
theorem dX1_crawl_116 : decode cX1_crawl 116 = .ok (.aload 4, 2) := dk_25 4 (dk_at dksX1_crawl_4 22 rfl rfl)
theorem dX1_crawl_118 : decode cX1_crawl 118 = .ok (.getfield 91, 3) := dk_180 0 91 (dk_at dksX1_crawl_5 0 rfl rfl)
theorem dX1_crawl_121 : decode cX1_crawl 121 = .ok (.ifCond .ne 23, 3) := dk_154 0 23 (dk_at dksX1_crawl_5 3 rfl rfl)
theorem dX1_crawl_124 : decode cX1_crawl 124 = .ok (.aload 5, 2) := dk_25 5 (dk_at dksX1_crawl_5 6 rfl rfl)
theorem dX1_crawl_126 : decode cX1_crawl 126 = .ok (.getfield 305, 3) := dk_180 1 49 (dk_at dksX1_crawl_5 8 rfl rfl)
theorem dX1_crawl_129 : decode cX1_crawl 129 = .ok (.aload 4, 2) := dk_25 4 (dk_at dksX1_crawl_5 11 rfl rfl)
theorem dX1_crawl_131 : decode cX1_crawl 131 = .ok (.getfield 166, 3) := dk_180 0 166 (dk_at dksX1_crawl_5 13 rfl rfl)
theorem dX1_crawl_134 : decode cX1_crawl 134 = .ok (.if_icmp .eq 10, 3) := dk_159 0 10 (dk_at dksX1_crawl_5 16 rfl rfl)
theorem dX1_crawl_137 : decode cX1_crawl 137 = .ok (.aload_n 0, 1) := dk_42 (dk_at dksX1_crawl_5 19 rfl rfl)
theorem dX1_crawl_138 : decode cX1_crawl 138 = .ok (.aload 4, 2) := dk_25 4 (dk_at dksX1_crawl_5 20 rfl rfl)
theorem dX1_crawl_140 : decode cX1_crawl 140 = .ok (.iconst 0, 1) := dk_3 (dk_at dksX1_crawl_5 22 rfl rfl)
theorem dX1_crawl_141 : decode cX1_crawl 141 = .ok (.invokevirtual 279, 3) := dk_182 1 23 (dk_at dksX1_crawl_6 0 rfl rfl)
theorem dX1_crawl_144 : decode cX1_crawl 144 = .ok (.aload 4, 2) := dk_25 4 (dk_at dksX1_crawl_6 3 rfl rfl)
theorem dX1_crawl_146 : decode cX1_crawl 146 = .ok (.getfield 91, 3) := dk_180 0 91 (dk_at dksX1_crawl_6 5 rfl rfl)
theorem dX1_crawl_149 : decode cX1_crawl 149 = .ok (.ifCond .eq 24, 3) := dk_153 0 24 (dk_at dksX1_crawl_6 8 rfl rfl)
theorem dX1_crawl_152 : decode cX1_crawl 152 = .ok (.aload_n 1, 1) := dk_43 (dk_at dksX1_crawl_6 11 rfl rfl)
theorem dX1_crawl_153 : decode cX1_crawl 153 = .ok (.getfield 329, 3) := dk_180 1 73 (dk_at dksX1_crawl_6 12 rfl rfl)
theorem dX1_crawl_156 : decode cX1_crawl 156 = .ok (.aload 4, 2) := dk_25 4 (dk_at dksX1_crawl_6 15 rfl rfl)
theorem dX1_crawl_158 : decode cX1_crawl 158 = .ok (.invokevirtual 341, 3) := dk_182 1 85 (dk_at dksX1_crawl_6 17 rfl rfl)
theorem dX1_crawl_161 : decode cX1_crawl 161 = .ok (.ifCond .ne 12, 3) := dk_154 0 12 (dk_at dksX1_crawl_6 20 rfl rfl)
theorem dX1_crawl_164 : decode cX1_crawl 164 = .ok (.aload_n 1, 1) := dk_43 (dk_at dksX1_crawl_6 23 rfl rfl)
theorem dX1_crawl_165 : decode cX1_crawl 165 = .ok (.getfield 329, 3) := dk_180 1 73 (dk_at dksX1_crawl_7 0 rfl rfl)
theorem dX1_crawl_168 : decode cX1_crawl 168 = .ok (.aload 4, 2) := dk_25 4 (dk_at dksX1_crawl_7 3 rfl rfl)
theorem dX1_crawl_170 : decode cX1_crawl 170 = .ok (.invokevirtual 344, 3) := dk_182 1 88 (dk_at dksX1_crawl_7 5 rfl rfl)
theorem dX1_crawl_173 : decode cX1_crawl 173 = .ok (.iinc 3 1, 3) := dk_132 3 1 (dk_at dksX1_crawl_7 8 rfl rfl)
theorem dX1_crawl_176 : decode cX1_crawl 176 = .ok (.goto (-148), 3) := dk_167 255 108 (dk_at dksX1_crawl_7 11 rfl rfl)
theorem dX1_crawl_179 : decode cX1_crawl 179 = .ok (.aload_n 1, 1) := dk_43 (dk_at dksX1_crawl_7 14 rfl rfl)
theorem dX1_crawl_180 : decode cX1_crawl 180 = .ok (.getfield 329, 3) := dk_180 1 73 (dk_at dksX1_crawl_7 15 rfl rfl)
theorem dX1_crawl_183 : decode cX1_crawl 183 = .ok (.invokevirtual 345, 3) := dk_182 1 89 (dk_at dksX1_crawl_7 18 rfl rfl)
theorem dX1_crawl_186 : decode cX1_crawl 186 = .ok (.ifCond .eq 56, 3) := dk_153 0 56 (dk_at dksX1_crawl_7 21 rfl rfl)
theorem dX1_crawl_189 : decode cX1_crawl 189 = .ok (.aload_n 1, 1) := dk_43 (dk_at dksX1_crawl_8 0 rfl rfl)
theorem dX1_crawl_190 : decode cX1_crawl 190 = .ok (.aconst_null, 1) := dk_1 (dk_at dksX1_crawl_8 1 rfl rfl)
theorem dX1_crawl_191 : decode cX1_crawl 191 = .ok (.putfield 329, 3) := dk_181 1 73 (dk_at dksX1_crawl_8 2 rfl rfl)
theorem dX1_crawl_194 : decode cX1_crawl 194 = .ok (.iconst 0, 1) := dk_3 (dk_at dksX1_crawl_8 5 rfl rfl)
theorem dX1_crawl_195 : decode cX1_crawl 195 = .ok (.istore_n 3, 1) := dk_62 (dk_at dksX1_crawl_8 6 rfl rfl)
theorem dX1_crawl_196 : decode cX1_crawl 196 = .ok (.iload_n 3, 1) := dk_29 (dk_at dksX1_crawl_8 7 rfl rfl)
theorem dX1_crawl_197 : decode cX1_crawl 197 = .ok (.bipush 60, 2) := dk_16 60 (dk_at dksX1_crawl_8 8 rfl rfl)
theorem dX1_crawl_199 : decode cX1_crawl 199 = .ok (.if_icmp .ge 43, 3) := dk_162 0 43 (dk_at dksX1_crawl_8 10 rfl rfl)
theorem dX1_crawl_202 : decode cX1_crawl 202 = .ok (.aload_n 0, 1) := dk_42 (dk_at dksX1_crawl_8 13 rfl rfl)
theorem dX1_crawl_203 : decode cX1_crawl 203 = .ok (.getfield 33, 3) := dk_180 0 33 (dk_at dksX1_crawl_8 14 rfl rfl)
theorem dX1_crawl_206 : decode cX1_crawl 206 = .ok (.iload_n 3, 1) := dk_29 (dk_at dksX1_crawl_8 17 rfl rfl)
theorem dX1_crawl_207 : decode cX1_crawl 207 = .ok (.aaload, 1) := dk_50 (dk_at dksX1_crawl_8 18 rfl rfl)
theorem dX1_crawl_208 : decode cX1_crawl 208 = .ok (.ifnull 28, 3) := dk_198 0 28 (dk_at dksX1_crawl_8 19 rfl rfl)
theorem dX1_crawl_211 : decode cX1_crawl 211 = .ok (.aload_n 1, 1) := dk_43 (dk_at dksX1_crawl_8 22 rfl rfl)
theorem dX1_crawl_212 : decode cX1_crawl 212 = .ok (.getfield 338, 3) := dk_180 1 82 (dk_at dksX1_crawl_9 0 rfl rfl)
theorem dX1_crawl_215 : decode cX1_crawl 215 = .ok (.iload_n 3, 1) := dk_29 (dk_at dksX1_crawl_9 3 rfl rfl)
theorem dX1_crawl_216 : decode cX1_crawl 216 = .ok (.invokevirtual 346, 3) := dk_182 1 90 (dk_at dksX1_crawl_9 4 rfl rfl)
theorem dX1_crawl_219 : decode cX1_crawl 219 = .ok (.ifCond .ne 17, 3) := dk_154 0 17 (dk_at dksX1_crawl_9 7 rfl rfl)
theorem dX1_crawl_222 : decode cX1_crawl 222 = .ok (.aload_n 0, 1) := dk_42 (dk_at dksX1_crawl_9 10 rfl rfl)
theorem dX1_crawl_223 : decode cX1_crawl 223 = .ok (.aload_n 0, 1) := dk_42 (dk_at dksX1_crawl_9 11 rfl rfl)
theorem dX1_crawl_224 : decode cX1_crawl 224 = .ok (.getfield 33, 3) := dk_180 0 33 (dk_at dksX1_crawl_9 12 rfl rfl)
theorem dX1_crawl_227 : decode cX1_crawl 227 = .ok (.iload_n 3, 1) := dk_29 (dk_at dksX1_crawl_9 15 rfl rfl)
theorem dX1_crawl_228 : decode cX1_crawl 228 = .ok (.aaload, 1) := dk_50 (dk_at dksX1_crawl_9 16 rfl rfl)
theorem dX1_crawl_229 : decode cX1_crawl 229 = .ok (.getfield 278, 3) := dk_180 1 22 (dk_at dksX1_crawl_9 17 rfl rfl)
theorem dX1_crawl_232 : decode cX1_crawl 232 = .ok (.iconst 0, 1) := dk_3 (dk_at dksX1_crawl_9 20 rfl rfl)
theorem dX1_crawl_233 : decode cX1_crawl 233 = .ok (.invokevirtual 279, 3) := dk_182 1 23 (dk_at dksX1_crawl_9 21 rfl rfl)
theorem dX1_crawl_236 : decode cX1_crawl 236 = .ok (.iinc 3 1, 3) := dk_132 3 1 (dk_at dksX1_crawl_10 0 rfl rfl)
theorem dX1_crawl_239 : decode cX1_crawl 239 = .ok (.goto (-43), 3) := dk_167 255 213 (dk_at dksX1_crawl_10 3 rfl rfl)
theorem dX1_crawl_242 : decode cX1_crawl 242 = .ok (.return_, 1) := dk_177 (dk_at dksX1_crawl_10 6 rfl rfl)
abbrev cX1_store : ByteArray := prog_1_method_48_code
def yX1_store : MethodName := ⟨RX1, "store", "()V"⟩
def dkwX1_store_7 : List UInt8 := [185, 0, 71, 1, 0, 6, 164, 0, 10, 42, 182, 1, 148, 167, 255, 239, 177]
abbrev dktX1_store_7 : List UInt8 := dkwX1_store_7 ++ []
def dkwX1_store_6 : List UInt8 := [180, 1, 33, 185, 1, 147, 1, 0, 153, 255, 230, 44, 185, 0, 208, 1, 0, 167, 255, 221, 42, 180, 0, 41]
abbrev dktX1_store_6 : List UInt8 := dkwX1_store_6 ++ dktX1_store_7
def dkwX1_store_5 : List UInt8 := [185, 0, 106, 1, 0, 77, 44, 185, 0, 110, 1, 0, 153, 0, 32, 44, 185, 0, 116, 1, 0, 192, 1, 34]
abbrev dktX1_store_5 : List UInt8 := dkwX1_store_5 ++ dktX1_store_6
def dkwX1_store_4 : List UInt8 := [185, 1, 147, 1, 0, 154, 0, 14, 42, 180, 0, 41, 43, 185, 0, 65, 2, 0, 87, 42, 180, 0, 41]
abbrev dktX1_store_4 : List UInt8 := dkwX1_store_4 ++ dktX1_store_5
def dkwX1_store_3 : List UInt8 := [4, 96, 182, 1, 143, 61, 167, 255, 197, 42, 180, 0, 49, 182, 1, 146, 43, 180, 1, 33]
abbrev dktX1_store_3 : List UInt8 := dkwX1_store_3 ++ dktX1_store_4
def dkwX1_store_2 : List UInt8 := [181, 1, 29, 43, 180, 1, 33, 42, 180, 0, 33, 28, 50, 185, 0, 65, 2, 0, 87, 42, 180, 0, 49, 28]
abbrev dktX1_store_2 : List UInt8 := dkwX1_store_2 ++ dktX1_store_3
def dkwX1_store_1 : List UInt8 := [180, 0, 33, 28, 50, 198, 0, 38, 42, 180, 0, 33, 28, 50, 184, 1, 25, 42, 180, 0, 33, 28, 50, 43]
abbrev dktX1_store_1 : List UInt8 := dkwX1_store_1 ++ dktX1_store_2
def dkwX1_store_0 : List UInt8 := [187, 1, 34, 89, 183, 1, 142, 76, 42, 180, 0, 49, 3, 182, 1, 143, 61, 28, 155, 0, 61, 42]
abbrev dktX1_store_0 : List UInt8 := dkwX1_store_0 ++ dktX1_store_1
theorem dksX1_store_0 : cX1_store.data.toList.drop 0 = dktX1_store_0 := by decide +kernel
theorem dksX1_store_1 : cX1_store.data.toList.drop 22 = dktX1_store_1 := dk_seg dksX1_store_0 22 rfl rfl
theorem dksX1_store_2 : cX1_store.data.toList.drop 46 = dktX1_store_2 := dk_seg dksX1_store_1 24 rfl rfl
theorem dksX1_store_3 : cX1_store.data.toList.drop 70 = dktX1_store_3 := dk_seg dksX1_store_2 24 rfl rfl
theorem dksX1_store_4 : cX1_store.data.toList.drop 90 = dktX1_store_4 := dk_seg dksX1_store_3 20 rfl rfl
theorem dksX1_store_5 : cX1_store.data.toList.drop 113 = dktX1_store_5 := dk_seg dksX1_store_4 23 rfl rfl
theorem dksX1_store_6 : cX1_store.data.toList.drop 137 = dktX1_store_6 := dk_seg dksX1_store_5 24 rfl rfl
theorem dksX1_store_7 : cX1_store.data.toList.drop 161 = dktX1_store_7 := dk_seg dksX1_store_6 24 rfl rfl
theorem dX1_store_0 : decode cX1_store 0 = .ok (.new 290, 3) := dk_187 1 34 (dk_at dksX1_store_0 0 rfl rfl)
theorem dX1_store_3 : decode cX1_store 3 = .ok (.dup, 1) := dk_89 (dk_at dksX1_store_0 3 rfl rfl)
theorem dX1_store_4 : decode cX1_store 4 = .ok (.invokespecial 398, 3) := dk_183 1 142 (dk_at dksX1_store_0 4 rfl rfl)
theorem dX1_store_7 : decode cX1_store 7 = .ok (.astore_n 1, 1) := dk_76 (dk_at dksX1_store_0 7 rfl rfl)
theorem dX1_store_8 : decode cX1_store 8 = .ok (.aload_n 0, 1) := dk_42 (dk_at dksX1_store_0 8 rfl rfl)
theorem dX1_store_9 : decode cX1_store 9 = .ok (.getfield 49, 3) := dk_180 0 49 (dk_at dksX1_store_0 9 rfl rfl)
theorem dX1_store_12 : decode cX1_store 12 = .ok (.iconst 0, 1) := dk_3 (dk_at dksX1_store_0 12 rfl rfl)
theorem dX1_store_13 : decode cX1_store 13 = .ok (.invokevirtual 399, 3) := dk_182 1 143 (dk_at dksX1_store_0 13 rfl rfl)
theorem dX1_store_16 : decode cX1_store 16 = .ok (.istore_n 2, 1) := dk_61 (dk_at dksX1_store_0 16 rfl rfl)
theorem dX1_store_17 : decode cX1_store 17 = .ok (.iload_n 2, 1) := dk_28 (dk_at dksX1_store_0 17 rfl rfl)
theorem dX1_store_18 : decode cX1_store 18 = .ok (.ifCond .lt 61, 3) := dk_155 0 61 (dk_at dksX1_store_0 18 rfl rfl)
theorem dX1_store_21 : decode cX1_store 21 = .ok (.aload_n 0, 1) := dk_42 (dk_at dksX1_store_0 21 rfl rfl)
theorem dX1_store_22 : decode cX1_store 22 = .ok (.getfield 33, 3) := dk_180 0 33 (dk_at dksX1_store_1 0 rfl rfl)
theorem dX1_store_25 : decode cX1_store 25 = .ok (.iload_n 2, 1) := dk_28 (dk_at dksX1_store_1 3 rfl rfl)
theorem dX1_store_26 : decode cX1_store 26 = .ok (.aaload, 1) := dk_50 (dk_at dksX1_store_1 4 rfl rfl)
theorem dX1_store_27 : decode cX1_store 27 = .ok (.ifnull 38, 3) := dk_198 0 38 (dk_at dksX1_store_1 5 rfl rfl)
theorem dX1_store_30 : decode cX1_store 30 = .ok (.aload_n 0, 1) := dk_42 (dk_at dksX1_store_1 8 rfl rfl)
theorem dX1_store_31 : decode cX1_store 31 = .ok (.getfield 33, 3) := dk_180 0 33 (dk_at dksX1_store_1 9 rfl rfl)
theorem dX1_store_34 : decode cX1_store 34 = .ok (.iload_n 2, 1) := dk_28 (dk_at dksX1_store_1 12 rfl rfl)
theorem dX1_store_35 : decode cX1_store 35 = .ok (.aaload, 1) := dk_50 (dk_at dksX1_store_1 13 rfl rfl)
theorem dX1_store_36 : decode cX1_store 36 = .ok (.invokestatic 281, 3) := dk_184 1 25 (dk_at dksX1_store_1 14 rfl rfl)
theorem dX1_store_39 : decode cX1_store 39 = .ok (.aload_n 0, 1) := dk_42 (dk_at dksX1_store_1 17 rfl rfl)
theorem dX1_store_40 : decode cX1_store 40 = .ok (.getfield 33, 3) := dk_180 0 33 (dk_at dksX1_store_1 18 rfl rfl)
theorem dX1_store_43 : decode cX1_store 43 = .ok (.iload_n 2, 1) := dk_28 (dk_at dksX1_store_1 21 rfl rfl)
theorem dX1_store_44 : decode cX1_store 44 = .ok (.aaload, 1) := dk_50 (dk_at dksX1_store_1 22 rfl rfl)
theorem dX1_store_45 : decode cX1_store 45 = .ok (.aload_n 1, 1) := dk_43 (dk_at dksX1_store_1 23 rfl rfl)
theorem dX1_store_46 : decode cX1_store 46 = .ok (.putfield 285, 3) := dk_181 1 29 (dk_at dksX1_store_2 0 rfl rfl)
theorem dX1_store_49 : decode cX1_store 49 = .ok (.aload_n 1, 1) := dk_43 (dk_at dksX1_store_2 3 rfl rfl)
theorem dX1_store_50 : decode cX1_store 50 = .ok (.getfield 289, 3) := dk_180 1 33 (dk_at dksX1_store_2 4 rfl rfl)
theorem dX1_store_53 : decode cX1_store 53 = .ok (.aload_n 0, 1) := dk_42 (dk_at dksX1_store_2 7 rfl rfl)
theorem dX1_store_54 : decode cX1_store 54 = .ok (.getfield 33, 3) := dk_180 0 33 (dk_at dksX1_store_2 8 rfl rfl)
theorem dX1_store_57 : decode cX1_store 57 = .ok (.iload_n 2, 1) := dk_28 (dk_at dksX1_store_2 11 rfl rfl)
theorem dX1_store_58 : decode cX1_store 58 = .ok (.aaload, 1) := dk_50 (dk_at dksX1_store_2 12 rfl rfl)
theorem dX1_store_59 : decode cX1_store 59 = .ok (.invokeinterface 65 2, 5) := by decide +kernel
theorem dX1_store_64 : decode cX1_store 64 = .ok (.pop, 1) := dk_87 (dk_at dksX1_store_2 18 rfl rfl)
theorem dX1_store_65 : decode cX1_store 65 = .ok (.aload_n 0, 1) := dk_42 (dk_at dksX1_store_2 19 rfl rfl)
theorem dX1_store_66 : decode cX1_store 66 = .ok (.getfield 49, 3) := dk_180 0 49 (dk_at dksX1_store_2 20 rfl rfl)
theorem dX1_store_69 : decode cX1_store 69 = .ok (.iload_n 2, 1) := dk_28 (dk_at dksX1_store_2 23 rfl rfl)
theorem dX1_store_70 : decode cX1_store 70 = .ok (.iconst 1, 1) := dk_4 (dk_at dksX1_store_3 0 rfl rfl)
theorem dX1_store_71 : decode cX1_store 71 = .ok (.iadd, 1) := dk_96 (dk_at dksX1_store_3 1 rfl rfl)
theorem dX1_store_72 : decode cX1_store 72 = .ok (.invokevirtual 399, 3) := dk_182 1 143 (dk_at dksX1_store_3 2 rfl rfl)
theorem dX1_store_75 : decode cX1_store 75 = .ok (.istore_n 2, 1) := dk_61 (dk_at dksX1_store_3 5 rfl rfl)
theorem dX1_store_76 : decode cX1_store 76 = .ok (.goto (-59), 3) := dk_167 255 197 (dk_at dksX1_store_3 6 rfl rfl)
theorem dX1_store_79 : decode cX1_store 79 = .ok (.aload_n 0, 1) := dk_42 (dk_at dksX1_store_3 9 rfl rfl)
theorem dX1_store_80 : decode cX1_store 80 = .ok (.getfield 49, 3) := dk_180 0 49 (dk_at dksX1_store_3 10 rfl rfl)
theorem dX1_store_83 : decode cX1_store 83 = .ok (.invokevirtual 402, 3) := dk_182 1 146 (dk_at dksX1_store_3 13 rfl rfl)
theorem dX1_store_86 : decode cX1_store 86 = .ok (.aload_n 1, 1) := dk_43 (dk_at dksX1_store_3 16 rfl rfl)
theorem dX1_store_87 : decode cX1_store 87 = .ok (.getfield 289, 3) := dk_180 1 33 (dk_at dksX1_store_3 17 rfl rfl)
theorem dX1_store_90 : decode cX1_store 90 = .ok (.invokeinterface 403 1, 5) := by decide +kernel
theorem dX1_store_95 : decode cX1_store 95 = .ok (.ifCond .ne 14, 3) := dk_154 0 14 (dk_at dksX1_store_4 5 rfl rfl)
theorem dX1_store_98 : decode cX1_store 98 = .ok (.aload_n 0, 1) := dk_42 (dk_at dksX1_store_4 8 rfl rfl)
theorem dX1_store_99 : decode cX1_store 99 = .ok (.getfield 41, 3) := dk_180 0 41 (dk_at dksX1_store_4 9 rfl rfl)
theorem dX1_store_102 : decode cX1_store 102 = .ok (.aload_n 1, 1) := dk_43 (dk_at dksX1_store_4 12 rfl rfl)
theorem dX1_store_103 : decode cX1_store 103 = .ok (.invokeinterface 65 2, 5) := by decide +kernel
theorem dX1_store_108 : decode cX1_store 108 = .ok (.pop, 1) := dk_87 (dk_at dksX1_store_4 18 rfl rfl)
theorem dX1_store_109 : decode cX1_store 109 = .ok (.aload_n 0, 1) := dk_42 (dk_at dksX1_store_4 19 rfl rfl)
theorem dX1_store_110 : decode cX1_store 110 = .ok (.getfield 41, 3) := dk_180 0 41 (dk_at dksX1_store_4 20 rfl rfl)
theorem dX1_store_113 : decode cX1_store 113 = .ok (.invokeinterface 106 1, 5) := by decide +kernel
theorem dX1_store_118 : decode cX1_store 118 = .ok (.astore_n 2, 1) := dk_77 (dk_at dksX1_store_5 5 rfl rfl)
theorem dX1_store_119 : decode cX1_store 119 = .ok (.aload_n 2, 1) := dk_44 (dk_at dksX1_store_5 6 rfl rfl)
theorem dX1_store_120 : decode cX1_store 120 = .ok (.invokeinterface 110 1, 5) := by decide +kernel
theorem dX1_store_125 : decode cX1_store 125 = .ok (.ifCond .eq 32, 3) := dk_153 0 32 (dk_at dksX1_store_5 12 rfl rfl)
theorem dX1_store_128 : decode cX1_store 128 = .ok (.aload_n 2, 1) := dk_44 (dk_at dksX1_store_5 15 rfl rfl)
theorem dX1_store_129 : decode cX1_store 129 = .ok (.invokeinterface 116 1, 5) := by decide +kernel
theorem dX1_store_134 : decode cX1_store 134 = .ok (.checkcast 290, 3) := dk_192 1 34 (dk_at dksX1_store_5 21 rfl rfl)
theorem dX1_store_137 : decode cX1_store 137 = .ok (.getfield 289, 3) := dk_180 1 33 (dk_at dksX1_store_6 0 rfl rfl)
theorem dX1_store_140 : decode cX1_store 140 = .ok (.invokeinterface 403 1, 5) := by decide +kernel
theorem dX1_store_145 : decode cX1_store 145 = .ok (.ifCond .eq (-26), 3) := dk_153 255 230 (dk_at dksX1_store_6 8 rfl rfl)
theorem dX1_store_148 : decode cX1_store 148 = .ok (.aload_n 2, 1) := dk_44 (dk_at dksX1_store_6 11 rfl rfl)
theorem dX1_store_149 : decode cX1_store 149 = .ok (.invokeinterface 208 1, 5) := by decide +kernel
theorem dX1_store_154 : decode cX1_store 154 = .ok (.goto (-35), 3) := dk_167 255 221 (dk_at dksX1_store_6 17 rfl rfl)
theorem dX1_store_157 : decode cX1_store 157 = .ok (.aload_n 0, 1) := dk_42 (dk_at dksX1_store_6 20 rfl rfl)
theorem dX1_store_158 : decode cX1_store 158 = .ok (.getfield 41, 3) := dk_180 0 41 (dk_at dksX1_store_6 21 rfl rfl)
theorem dX1_store_161 : decode cX1_store 161 = .ok (.invokeinterface 71 1, 5) := by decide +kernel
theorem dX1_store_166 : decode cX1_store 166 = .ok (.iconst 3, 1) := dk_6 (dk_at dksX1_store_7 5 rfl rfl)
theorem dX1_store_167 : decode cX1_store 167 = .ok (.if_icmp .le 10, 3) := dk_164 0 10 (dk_at dksX1_store_7 6 rfl rfl)
theorem dX1_store_170 : decode cX1_store 170 = .ok (.aload_n 0, 1) := dk_42 (dk_at dksX1_store_7 9 rfl rfl)
theorem dX1_store_171 : decode cX1_store 171 = .ok (.invokevirtual 404, 3) := dk_182 1 148 (dk_at dksX1_store_7 10 rfl rfl)
theorem dX1_store_174 : decode cX1_store 174 = .ok (.goto (-17), 3) := dk_167 255 239 (dk_at dksX1_store_7 13 rfl rfl)
theorem dX1_store_177 : decode cX1_store 177 = .ok (.return_, 1) := dk_177 (dk_at dksX1_store_7 16 rfl rfl)
abbrev cX1_join : ByteArray := prog_1_method_49_code
def yX1_join : MethodName := ⟨RX1, "join", "()V"⟩
def dkwX1_join_8 : List UInt8 := [180, 1, 33, 25, 5, 185, 0, 65, 2, 0, 87, 167, 255, 216, 177]
abbrev dktX1_join_8 : List UInt8 := dkwX1_join_8 ++ []
def dkwX1_join_7 : List UInt8 := [153, 0, 36, 25, 4, 185, 0, 116, 1, 0, 192, 0, 31, 58, 5, 25, 5, 44, 181, 1, 29, 44]
abbrev dktX1_join_7 : List UInt8 := dkwX1_join_7 ++ dktX1_join_8
def dkwX1_join_6 : List UInt8 := [78, 44, 3, 181, 1, 40, 45, 180, 1, 33, 185, 0, 106, 1, 0, 58, 4, 25, 4, 185, 0, 110, 1, 0]
abbrev dktX1_join_6 : List UInt8 := dkwX1_join_6 ++ dktX1_join_7
def dkwX1_join_5 : List UInt8 := [185, 0, 79, 2, 0, 192, 1, 34, 77, 42, 180, 0, 41, 27, 4, 96, 185, 1, 152, 2, 0, 192, 1, 34]
abbrev dktX1_join_5 : List UInt8 := dkwX1_join_5 ++ dktX1_join_6
def dkwX1_join_4 : List UInt8 := [162, 0, 7, 28, 167, 0, 4, 27, 60, 132, 2, 1, 167, 255, 157, 42, 180, 0, 41, 27]
abbrev dktX1_join_4 : List UInt8 := dkwX1_join_4 ++ dktX1_join_5
def dkwX1_join_3 : List UInt8 := [182, 1, 151, 42, 180, 0, 41, 27, 4, 96, 185, 0, 79, 2, 0, 192, 1, 34, 182, 1, 151, 96]
abbrev dktX1_join_3 : List UInt8 := dkwX1_join_3 ++ dktX1_join_4
def dkwX1_join_2 : List UInt8 := [192, 1, 34, 182, 1, 151, 96, 62, 29, 42, 180, 0, 41, 27, 185, 0, 79, 2, 0, 192, 1, 34]
abbrev dktX1_join_2 : List UInt8 := dkwX1_join_2 ++ dktX1_join_3
def dkwX1_join_1 : List UInt8 := [185, 0, 79, 2, 0, 192, 1, 34, 182, 1, 151, 42, 180, 0, 41, 28, 4, 96, 185, 0, 79, 2, 0]
abbrev dktX1_join_1 : List UInt8 := dkwX1_join_1 ++ dktX1_join_2
def dkwX1_join_0 : List UInt8 := [3, 60, 4, 61, 28, 4, 96, 42, 180, 0, 41, 185, 0, 71, 1, 0, 162, 0, 90, 42, 180, 0, 41, 28]
abbrev dktX1_join_0 : List UInt8 := dkwX1_join_0 ++ dktX1_join_1
theorem dksX1_join_0 : cX1_join.data.toList.drop 0 = dktX1_join_0 := by decide +kernel
theorem dksX1_join_1 : cX1_join.data.toList.drop 24 = dktX1_join_1 := dk_seg dksX1_join_0 24 rfl rfl
theorem dksX1_join_2 : cX1_join.data.toList.drop 47 = dktX1_join_2 := dk_seg dksX1_join_1 23 rfl rfl
theorem dksX1_join_3 : cX1_join.data.toList.drop 69 = dktX1_join_3 := dk_seg dksX1_join_2 22 rfl rfl
theorem dksX1_join_4 : cX1_join.data.toList.drop 91 = dktX1_join_4 := dk_seg dksX1_join_3 22 rfl rfl
theorem dksX1_join_5 : cX1_join.data.toList.drop 111 = dktX1_join_5 := dk_seg dksX1_join_4 20 rfl rfl
theorem dksX1_join_6 : cX1_join.data.toList.drop 135 = dktX1_join_6 := dk_seg dksX1_join_5 24 rfl rfl
theorem dksX1_join_7 : cX1_join.data.toList.drop 159 = dktX1_join_7 := dk_seg dksX1_join_6 24 rfl rfl
theorem dksX1_join_8 : cX1_join.data.toList.drop 181 = dktX1_join_8 := dk_seg dksX1_join_7 22 rfl rfl
theorem dX1_join_0 : decode cX1_join 0 = .ok (.iconst 0, 1) := dk_3 (dk_at dksX1_join_0 0 rfl rfl)
theorem dX1_join_1 : decode cX1_join 1 = .ok (.istore_n 1, 1) := dk_60 (dk_at dksX1_join_0 1 rfl rfl)
theorem dX1_join_2 : decode cX1_join 2 = .ok (.iconst 1, 1) := dk_4 (dk_at dksX1_join_0 2 rfl rfl)
theorem dX1_join_3 : decode cX1_join 3 = .ok (.istore_n 2, 1) := dk_61 (dk_at dksX1_join_0 3 rfl rfl)
theorem dX1_join_4 : decode cX1_join 4 = .ok (.iload_n 2, 1) := dk_28 (dk_at dksX1_join_0 4 rfl rfl)
theorem dX1_join_5 : decode cX1_join 5 = .ok (.iconst 1, 1) := dk_4 (dk_at dksX1_join_0 5 rfl rfl)
theorem dX1_join_6 : decode cX1_join 6 = .ok (.iadd, 1) := dk_96 (dk_at dksX1_join_0 6 rfl rfl)
theorem dX1_join_7 : decode cX1_join 7 = .ok (.aload_n 0, 1) := dk_42 (dk_at dksX1_join_0 7 rfl rfl)
theorem dX1_join_8 : decode cX1_join 8 = .ok (.getfield 41, 3) := dk_180 0 41 (dk_at dksX1_join_0 8 rfl rfl)
theorem dX1_join_11 : decode cX1_join 11 = .ok (.invokeinterface 71 1, 5) := by decide +kernel
theorem dX1_join_16 : decode cX1_join 16 = .ok (.if_icmp .ge 90, 3) := dk_162 0 90 (dk_at dksX1_join_0 16 rfl rfl)
theorem dX1_join_19 : decode cX1_join 19 = .ok (.aload_n 0, 1) := dk_42 (dk_at dksX1_join_0 19 rfl rfl)
theorem dX1_join_20 : decode cX1_join 20 = .ok (.getfield 41, 3) := dk_180 0 41 (dk_at dksX1_join_0 20 rfl rfl)
theorem dX1_join_23 : decode cX1_join 23 = .ok (.iload_n 2, 1) := dk_28 (dk_at dksX1_join_0 23 rfl rfl)
theorem dX1_join_24 : decode cX1_join 24 = .ok (.invokeinterface 79 2, 5) := by decide +kernel
theorem dX1_join_29 : decode cX1_join 29 = .ok (.checkcast 290, 3) := dk_192 1 34 (dk_at dksX1_join_1 5 rfl rfl)
theorem dX1_join_32 : decode cX1_join 32 = .ok (.invokevirtual 407, 3) := dk_182 1 151 (dk_at dksX1_join_1 8 rfl rfl)
theorem dX1_join_35 : decode cX1_join 35 = .ok (.aload_n 0, 1) := dk_42 (dk_at dksX1_join_1 11 rfl rfl)
theorem dX1_join_36 : decode cX1_join 36 = .ok (.getfield 41, 3) := dk_180 0 41 (dk_at dksX1_join_1 12 rfl rfl)
theorem dX1_join_39 : decode cX1_join 39 = .ok (.iload_n 2, 1) := dk_28 (dk_at dksX1_join_1 15 rfl rfl)
theorem dX1_join_40 : decode cX1_join 40 = .ok (.iconst 1, 1) := dk_4 (dk_at dksX1_join_1 16 rfl rfl)
theorem dX1_join_41 : decode cX1_join 41 = .ok (.iadd, 1) := dk_96 (dk_at dksX1_join_1 17 rfl rfl)
theorem dX1_join_42 : decode cX1_join 42 = .ok (.invokeinterface 79 2, 5) := by decide +kernel
theorem dX1_join_47 : decode cX1_join 47 = .ok (.checkcast 290, 3) := dk_192 1 34 (dk_at dksX1_join_2 0 rfl rfl)
theorem dX1_join_50 : decode cX1_join 50 = .ok (.invokevirtual 407, 3) := dk_182 1 151 (dk_at dksX1_join_2 3 rfl rfl)
theorem dX1_join_53 : decode cX1_join 53 = .ok (.iadd, 1) := dk_96 (dk_at dksX1_join_2 6 rfl rfl)
theorem dX1_join_54 : decode cX1_join 54 = .ok (.istore_n 3, 1) := dk_62 (dk_at dksX1_join_2 7 rfl rfl)
theorem dX1_join_55 : decode cX1_join 55 = .ok (.iload_n 3, 1) := dk_29 (dk_at dksX1_join_2 8 rfl rfl)
theorem dX1_join_56 : decode cX1_join 56 = .ok (.aload_n 0, 1) := dk_42 (dk_at dksX1_join_2 9 rfl rfl)
theorem dX1_join_57 : decode cX1_join 57 = .ok (.getfield 41, 3) := dk_180 0 41 (dk_at dksX1_join_2 10 rfl rfl)
theorem dX1_join_60 : decode cX1_join 60 = .ok (.iload_n 1, 1) := dk_27 (dk_at dksX1_join_2 13 rfl rfl)
theorem dX1_join_61 : decode cX1_join 61 = .ok (.invokeinterface 79 2, 5) := by decide +kernel
theorem dX1_join_66 : decode cX1_join 66 = .ok (.checkcast 290, 3) := dk_192 1 34 (dk_at dksX1_join_2 19 rfl rfl)
theorem dX1_join_69 : decode cX1_join 69 = .ok (.invokevirtual 407, 3) := dk_182 1 151 (dk_at dksX1_join_3 0 rfl rfl)
theorem dX1_join_72 : decode cX1_join 72 = .ok (.aload_n 0, 1) := dk_42 (dk_at dksX1_join_3 3 rfl rfl)
theorem dX1_join_73 : decode cX1_join 73 = .ok (.getfield 41, 3) := dk_180 0 41 (dk_at dksX1_join_3 4 rfl rfl)
theorem dX1_join_76 : decode cX1_join 76 = .ok (.iload_n 1, 1) := dk_27 (dk_at dksX1_join_3 7 rfl rfl)
theorem dX1_join_77 : decode cX1_join 77 = .ok (.iconst 1, 1) := dk_4 (dk_at dksX1_join_3 8 rfl rfl)
theorem dX1_join_78 : decode cX1_join 78 = .ok (.iadd, 1) := dk_96 (dk_at dksX1_join_3 9 rfl rfl)
theorem dX1_join_79 : decode cX1_join 79 = .ok (.invokeinterface 79 2, 5) := by decide +kernel
theorem dX1_join_84 : decode cX1_join 84 = .ok (.checkcast 290, 3) := dk_192 1 34 (dk_at dksX1_join_3 15 rfl rfl)
theorem dX1_join_87 : decode cX1_join 87 = .ok (.invokevirtual 407, 3) := dk_182 1 151 (dk_at dksX1_join_3 18 rfl rfl)
theorem dX1_join_90 : decode cX1_join 90 = .ok (.iadd, 1) := dk_96 (dk_at dksX1_join_3 21 rfl rfl)
theorem dX1_join_91 : decode cX1_join 91 = .ok (.if_icmp .ge 7, 3) := dk_162 0 7 (dk_at dksX1_join_4 0 rfl rfl)
theorem dX1_join_94 : decode cX1_join 94 = .ok (.iload_n 2, 1) := dk_28 (dk_at dksX1_join_4 3 rfl rfl)
theorem dX1_join_95 : decode cX1_join 95 = .ok (.goto 4, 3) := dk_167 0 4 (dk_at dksX1_join_4 4 rfl rfl)
theorem dX1_join_98 : decode cX1_join 98 = .ok (.iload_n 1, 1) := dk_27 (dk_at dksX1_join_4 7 rfl rfl)
theorem dX1_join_99 : decode cX1_join 99 = .ok (.istore_n 1, 1) := dk_60 (dk_at dksX1_join_4 8 rfl rfl)
theorem dX1_join_100 : decode cX1_join 100 = .ok (.iinc 2 1, 3) := dk_132 2 1 (dk_at dksX1_join_4 9 rfl rfl)
theorem dX1_join_103 : decode cX1_join 103 = .ok (.goto (-99), 3) := dk_167 255 157 (dk_at dksX1_join_4 12 rfl rfl)
theorem dX1_join_106 : decode cX1_join 106 = .ok (.aload_n 0, 1) := dk_42 (dk_at dksX1_join_4 15 rfl rfl)
theorem dX1_join_107 : decode cX1_join 107 = .ok (.getfield 41, 3) := dk_180 0 41 (dk_at dksX1_join_4 16 rfl rfl)
theorem dX1_join_110 : decode cX1_join 110 = .ok (.iload_n 1, 1) := dk_27 (dk_at dksX1_join_4 19 rfl rfl)
theorem dX1_join_111 : decode cX1_join 111 = .ok (.invokeinterface 79 2, 5) := by decide +kernel
theorem dX1_join_116 : decode cX1_join 116 = .ok (.checkcast 290, 3) := dk_192 1 34 (dk_at dksX1_join_5 5 rfl rfl)
theorem dX1_join_119 : decode cX1_join 119 = .ok (.astore_n 2, 1) := dk_77 (dk_at dksX1_join_5 8 rfl rfl)
theorem dX1_join_120 : decode cX1_join 120 = .ok (.aload_n 0, 1) := dk_42 (dk_at dksX1_join_5 9 rfl rfl)
theorem dX1_join_121 : decode cX1_join 121 = .ok (.getfield 41, 3) := dk_180 0 41 (dk_at dksX1_join_5 10 rfl rfl)
theorem dX1_join_124 : decode cX1_join 124 = .ok (.iload_n 1, 1) := dk_27 (dk_at dksX1_join_5 13 rfl rfl)
theorem dX1_join_125 : decode cX1_join 125 = .ok (.iconst 1, 1) := dk_4 (dk_at dksX1_join_5 14 rfl rfl)
theorem dX1_join_126 : decode cX1_join 126 = .ok (.iadd, 1) := dk_96 (dk_at dksX1_join_5 15 rfl rfl)
theorem dX1_join_127 : decode cX1_join 127 = .ok (.invokeinterface 408 2, 5) := by decide +kernel
theorem dX1_join_132 : decode cX1_join 132 = .ok (.checkcast 290, 3) := dk_192 1 34 (dk_at dksX1_join_5 21 rfl rfl)
theorem dX1_join_135 : decode cX1_join 135 = .ok (.astore_n 3, 1) := dk_78 (dk_at dksX1_join_6 0 rfl rfl)
theorem dX1_join_136 : decode cX1_join 136 = .ok (.aload_n 2, 1) := dk_44 (dk_at dksX1_join_6 1 rfl rfl)
theorem dX1_join_137 : decode cX1_join 137 = .ok (.iconst 0, 1) := dk_3 (dk_at dksX1_join_6 2 rfl rfl)
theorem dX1_join_138 : decode cX1_join 138 = .ok (.putfield 296, 3) := dk_181 1 40 (dk_at dksX1_join_6 3 rfl rfl)
theorem dX1_join_141 : decode cX1_join 141 = .ok (.aload_n 3, 1) := dk_45 (dk_at dksX1_join_6 6 rfl rfl)
theorem dX1_join_142 : decode cX1_join 142 = .ok (.getfield 289, 3) := dk_180 1 33 (dk_at dksX1_join_6 7 rfl rfl)
theorem dX1_join_145 : decode cX1_join 145 = .ok (.invokeinterface 106 1, 5) := by decide +kernel
theorem dX1_join_150 : decode cX1_join 150 = .ok (.astore 4, 2) := dk_58 4 (dk_at dksX1_join_6 15 rfl rfl)
theorem dX1_join_152 : decode cX1_join 152 = .ok (.aload 4, 2) := dk_25 4 (dk_at dksX1_join_6 17 rfl rfl)
theorem dX1_join_154 : decode cX1_join 154 = .ok (.invokeinterface 110 1, 5) := by decide +kernel
theorem dX1_join_159 : decode cX1_join 159 = .ok (.ifCond .eq 36, 3) := dk_153 0 36 (dk_at dksX1_join_7 0 rfl rfl)
theorem dX1_join_162 : decode cX1_join 162 = .ok (.aload 4, 2) := dk_25 4 (dk_at dksX1_join_7 3 rfl rfl)
theorem dX1_join_164 : decode cX1_join 164 = .ok (.invokeinterface 116 1, 5) := by decide +kernel
theorem dX1_join_169 : decode cX1_join 169 = .ok (.checkcast 31, 3) := dk_192 0 31 (dk_at dksX1_join_7 10 rfl rfl)
theorem dX1_join_172 : decode cX1_join 172 = .ok (.astore 5, 2) := dk_58 5 (dk_at dksX1_join_7 13 rfl rfl)
theorem dX1_join_174 : decode cX1_join 174 = .ok (.aload 5, 2) := dk_25 5 (dk_at dksX1_join_7 15 rfl rfl)
theorem dX1_join_176 : decode cX1_join 176 = .ok (.aload_n 2, 1) := dk_44 (dk_at dksX1_join_7 17 rfl rfl)
theorem dX1_join_177 : decode cX1_join 177 = .ok (.putfield 285, 3) := dk_181 1 29 (dk_at dksX1_join_7 18 rfl rfl)
theorem dX1_join_180 : decode cX1_join 180 = .ok (.aload_n 2, 1) := dk_44 (dk_at dksX1_join_7 21 rfl rfl)
theorem dX1_join_181 : decode cX1_join 181 = .ok (.getfield 289, 3) := dk_180 1 33 (dk_at dksX1_join_8 0 rfl rfl)
theorem dX1_join_184 : decode cX1_join 184 = .ok (.aload 5, 2) := dk_25 5 (dk_at dksX1_join_8 3 rfl rfl)
theorem dX1_join_186 : decode cX1_join 186 = .ok (.invokeinterface 65 2, 5) := by decide +kernel
theorem dX1_join_191 : decode cX1_join 191 = .ok (.pop, 1) := dk_87 (dk_at dksX1_join_8 10 rfl rfl)
theorem dX1_join_192 : decode cX1_join 192 = .ok (.goto (-40), 3) := dk_167 255 216 (dk_at dksX1_join_8 11 rfl rfl)
theorem dX1_join_195 : decode cX1_join 195 = .ok (.return_, 1) := dk_177 (dk_at dksX1_join_8 14 rfl rfl)
abbrev cX1_crawl_2 : ByteArray := prog_1_method_53_code
def yX1_crawl_2 : MethodName := ⟨RX1, "crawl", "(I)I"⟩
def dkwX1_crawl_2_2 : List UInt8 := [180, 1, 73, 199, 0, 7, 3, 167, 0, 4, 4, 96, 61, 167, 255, 220, 28, 172]
abbrev dktX1_crawl_2_2 : List UInt8 := dkwX1_crawl_2_2 ++ []
def dkwX1_crawl_2_1 : List UInt8 := [185, 0, 110, 1, 0, 153, 0, 33, 45, 185, 0, 116, 1, 0, 192, 0, 120, 58, 4, 28, 25, 4]
abbrev dktX1_crawl_2_1 : List UInt8 := dkwX1_crawl_2_1 ++ dktX1_crawl_2_2
def dkwX1_crawl_2_0 : List UInt8 := [42, 27, 182, 0, 228, 182, 0, 225, 3, 61, 42, 180, 0, 28, 185, 0, 106, 1, 0, 78, 45]
abbrev dktX1_crawl_2_0 : List UInt8 := dkwX1_crawl_2_0 ++ dktX1_crawl_2_1
theorem dksX1_crawl_2_0 : cX1_crawl_2.data.toList.drop 0 = dktX1_crawl_2_0 := by decide +kernel
theorem dksX1_crawl_2_1 : cX1_crawl_2.data.toList.drop 21 = dktX1_crawl_2_1 := dk_seg dksX1_crawl_2_0 21 rfl rfl
theorem dksX1_crawl_2_2 : cX1_crawl_2.data.toList.drop 43 = dktX1_crawl_2_2 := dk_seg dksX1_crawl_2_1 22 rfl rfl
theorem dX1_crawl_2_0 : decode cX1_crawl_2 0 = .ok (.aload_n 0, 1) := dk_42 (dk_at dksX1_crawl_2_0 0 rfl rfl)
theorem dX1_crawl_2_1 : decode cX1_crawl_2 1 = .ok (.iload_n 1, 1) := dk_27 (dk_at dksX1_crawl_2_0 1 rfl rfl)
theorem dX1_crawl_2_2 : decode cX1_crawl_2 2 = .ok (.invokevirtual 228, 3) := dk_182 0 228 (dk_at dksX1_crawl_2_0 2 rfl rfl)
theorem dX1_crawl_2_5 : decode cX1_crawl_2 5 = .ok (.invokevirtual 225, 3) := dk_182 0 225 (dk_at dksX1_crawl_2_0 5 rfl rfl)
theorem dX1_crawl_2_8 : decode cX1_crawl_2 8 = .ok (.iconst 0, 1) := dk_3 (dk_at dksX1_crawl_2_0 8 rfl rfl)
theorem dX1_crawl_2_9 : decode cX1_crawl_2 9 = .ok (.istore_n 2, 1) := dk_61 (dk_at dksX1_crawl_2_0 9 rfl rfl)
theorem dX1_crawl_2_10 : decode cX1_crawl_2 10 = .ok (.aload_n 0, 1) := dk_42 (dk_at dksX1_crawl_2_0 10 rfl rfl)
theorem dX1_crawl_2_11 : decode cX1_crawl_2 11 = .ok (.getfield 28, 3) := dk_180 0 28 (dk_at dksX1_crawl_2_0 11 rfl rfl)
theorem dX1_crawl_2_14 : decode cX1_crawl_2 14 = .ok (.invokeinterface 106 1, 5) := by decide +kernel
theorem dX1_crawl_2_19 : decode cX1_crawl_2 19 = .ok (.astore_n 3, 1) := dk_78 (dk_at dksX1_crawl_2_0 19 rfl rfl)
theorem dX1_crawl_2_20 : decode cX1_crawl_2 20 = .ok (.aload_n 3, 1) := dk_45 (dk_at dksX1_crawl_2_0 20 rfl rfl)
theorem dX1_crawl_2_21 : decode cX1_crawl_2 21 = .ok (.invokeinterface 110 1, 5) := by decide +kernel
theorem dX1_crawl_2_26 : decode cX1_crawl_2 26 = .ok (.ifCond .eq 33, 3) := dk_153 0 33 (dk_at dksX1_crawl_2_1 5 rfl rfl)
theorem dX1_crawl_2_29 : decode cX1_crawl_2 29 = .ok (.aload_n 3, 1) := dk_45 (dk_at dksX1_crawl_2_1 8 rfl rfl)
theorem dX1_crawl_2_30 : decode cX1_crawl_2 30 = .ok (.invokeinterface 116 1, 5) := by decide +kernel
theorem dX1_crawl_2_35 : decode cX1_crawl_2 35 = .ok (.checkcast 120, 3) := dk_192 0 120 (dk_at dksX1_crawl_2_1 14 rfl rfl)
theorem dX1_crawl_2_38 : decode cX1_crawl_2 38 = .ok (.astore 4, 2) := dk_58 4 (dk_at dksX1_crawl_2_1 17 rfl rfl)
theorem dX1_crawl_2_40 : decode cX1_crawl_2 40 = .ok (.iload_n 2, 1) := dk_28 (dk_at dksX1_crawl_2_1 19 rfl rfl)
theorem dX1_crawl_2_41 : decode cX1_crawl_2 41 = .ok (.aload 4, 2) := dk_25 4 (dk_at dksX1_crawl_2_1 20 rfl rfl)
theorem dX1_crawl_2_43 : decode cX1_crawl_2 43 = .ok (.getfield 329, 3) := dk_180 1 73 (dk_at dksX1_crawl_2_2 0 rfl rfl)
theorem dX1_crawl_2_46 : decode cX1_crawl_2 46 = .ok (.ifnonnull 7, 3) := dk_199 0 7 (dk_at dksX1_crawl_2_2 3 rfl rfl)
theorem dX1_crawl_2_49 : decode cX1_crawl_2 49 = .ok (.iconst 0, 1) := dk_3 (dk_at dksX1_crawl_2_2 6 rfl rfl)
theorem dX1_crawl_2_50 : decode cX1_crawl_2 50 = .ok (.goto 4, 3) := dk_167 0 4 (dk_at dksX1_crawl_2_2 7 rfl rfl)
theorem dX1_crawl_2_53 : decode cX1_crawl_2 53 = .ok (.iconst 1, 1) := dk_4 (dk_at dksX1_crawl_2_2 10 rfl rfl)
theorem dX1_crawl_2_54 : decode cX1_crawl_2 54 = .ok (.iadd, 1) := dk_96 (dk_at dksX1_crawl_2_2 11 rfl rfl)
theorem dX1_crawl_2_55 : decode cX1_crawl_2 55 = .ok (.istore_n 2, 1) := dk_61 (dk_at dksX1_crawl_2_2 12 rfl rfl)
theorem dX1_crawl_2_56 : decode cX1_crawl_2 56 = .ok (.goto (-36), 3) := dk_167 255 220 (dk_at dksX1_crawl_2_2 13 rfl rfl)
theorem dX1_crawl_2_59 : decode cX1_crawl_2 59 = .ok (.iload_n 2, 1) := dk_28 (dk_at dksX1_crawl_2_2 16 rfl rfl)
theorem dX1_crawl_2_60 : decode cX1_crawl_2 60 = .ok (.ireturn, 1) := dk_172 (dk_at dksX1_crawl_2_2 17 rfl rfl)
abbrev cX1_edition : ByteArray := prog_1_method_58_code
def yX1_edition : MethodName := ⟨RX1, "edition", "(I)I"⟩
def dkwX1_edition_1 : List UInt8 := [180, 1, 49, 172]
abbrev dktX1_edition_1 : List UInt8 := dkwX1_edition_1 ++ []
def dkwX1_edition_0 : List UInt8 := [42, 27, 182, 1, 155, 42, 180, 0, 33, 27, 50, 199, 0, 7, 2, 167, 0, 12, 42, 180, 0, 33, 27, 50]
abbrev dktX1_edition_0 : List UInt8 := dkwX1_edition_0 ++ dktX1_edition_1
theorem dksX1_edition_0 : cX1_edition.data.toList.drop 0 = dktX1_edition_0 := by decide +kernel
theorem dksX1_edition_1 : cX1_edition.data.toList.drop 24 = dktX1_edition_1 := dk_seg dksX1_edition_0 24 rfl rfl
theorem dX1_edition_0 : decode cX1_edition 0 = .ok (.aload_n 0, 1) := dk_42 (dk_at dksX1_edition_0 0 rfl rfl)
theorem dX1_edition_1 : decode cX1_edition 1 = .ok (.iload_n 1, 1) := dk_27 (dk_at dksX1_edition_0 1 rfl rfl)
theorem dX1_edition_2 : decode cX1_edition 2 = .ok (.invokevirtual 411, 3) := dk_182 1 155 (dk_at dksX1_edition_0 2 rfl rfl)
theorem dX1_edition_5 : decode cX1_edition 5 = .ok (.aload_n 0, 1) := dk_42 (dk_at dksX1_edition_0 5 rfl rfl)
theorem dX1_edition_6 : decode cX1_edition 6 = .ok (.getfield 33, 3) := dk_180 0 33 (dk_at dksX1_edition_0 6 rfl rfl)
theorem dX1_edition_9 : decode cX1_edition 9 = .ok (.iload_n 1, 1) := dk_27 (dk_at dksX1_edition_0 9 rfl rfl)
theorem dX1_edition_10 : decode cX1_edition 10 = .ok (.aaload, 1) := dk_50 (dk_at dksX1_edition_0 10 rfl rfl)
theorem dX1_edition_11 : decode cX1_edition 11 = .ok (.ifnonnull 7, 3) := dk_199 0 7 (dk_at dksX1_edition_0 11 rfl rfl)
theorem dX1_edition_14 : decode cX1_edition 14 = .ok (.iconst (-1), 1) := dk_2 (dk_at dksX1_edition_0 14 rfl rfl)
theorem dX1_edition_15 : decode cX1_edition 15 = .ok (.goto 12, 3) := dk_167 0 12 (dk_at dksX1_edition_0 15 rfl rfl)
theorem dX1_edition_18 : decode cX1_edition 18 = .ok (.aload_n 0, 1) := dk_42 (dk_at dksX1_edition_0 18 rfl rfl)
theorem dX1_edition_19 : decode cX1_edition 19 = .ok (.getfield 33, 3) := dk_180 0 33 (dk_at dksX1_edition_0 19 rfl rfl)
theorem dX1_edition_22 : decode cX1_edition 22 = .ok (.iload_n 1, 1) := dk_27 (dk_at dksX1_edition_0 22 rfl rfl)
theorem dX1_edition_23 : decode cX1_edition 23 = .ok (.aaload, 1) := dk_50 (dk_at dksX1_edition_0 23 rfl rfl)
theorem dX1_edition_24 : decode cX1_edition 24 = .ok (.getfield 305, 3) := dk_180 1 49 (dk_at dksX1_edition_1 0 rfl rfl)
theorem dX1_edition_27 : decode cX1_edition 27 = .ok (.ireturn, 1) := dk_172 (dk_at dksX1_edition_1 3 rfl rfl)
abbrev cX1_checkMade : ByteArray := prog_1_method_57_code
def yX1_checkMade : MethodName := ⟨RX1, "checkMade", "(I)V"⟩
def dkwX1_checkMade_0 : List UInt8 := [27, 3, 42, 180, 0, 19, 185, 0, 71, 1, 0, 4, 100, 184, 0, 75, 184, 0, 94, 177]
abbrev dktX1_checkMade_0 : List UInt8 := dkwX1_checkMade_0 ++ []
theorem dksX1_checkMade_0 : cX1_checkMade.data.toList.drop 0 = dktX1_checkMade_0 := by decide +kernel
theorem dX1_checkMade_0 : decode cX1_checkMade 0 = .ok (.iload_n 1, 1) := dk_27 (dk_at dksX1_checkMade_0 0 rfl rfl)
theorem dX1_checkMade_1 : decode cX1_checkMade 1 = .ok (.iconst 0, 1) := dk_3 (dk_at dksX1_checkMade_0 1 rfl rfl)
theorem dX1_checkMade_2 : decode cX1_checkMade 2 = .ok (.aload_n 0, 1) := dk_42 (dk_at dksX1_checkMade_0 2 rfl rfl)
theorem dX1_checkMade_3 : decode cX1_checkMade 3 = .ok (.getfield 19, 3) := dk_180 0 19 (dk_at dksX1_checkMade_0 3 rfl rfl)
theorem dX1_checkMade_6 : decode cX1_checkMade 6 = .ok (.invokeinterface 71 1, 5) := by decide +kernel
theorem dX1_checkMade_11 : decode cX1_checkMade 11 = .ok (.iconst 1, 1) := dk_4 (dk_at dksX1_checkMade_0 11 rfl rfl)
theorem dX1_checkMade_12 : decode cX1_checkMade 12 = .ok (.isub, 1) := dk_100 (dk_at dksX1_checkMade_0 12 rfl rfl)
theorem dX1_checkMade_13 : decode cX1_checkMade 13 = .ok (.invokestatic 75, 3) := dk_184 0 75 (dk_at dksX1_checkMade_0 13 rfl rfl)
theorem dX1_checkMade_16 : decode cX1_checkMade 16 = .ok (.invokestatic 94, 3) := dk_184 0 94 (dk_at dksX1_checkMade_0 16 rfl rfl)
theorem dX1_checkMade_19 : decode cX1_checkMade 19 = .ok (.return_, 1) := dk_177 (dk_at dksX1_checkMade_0 19 rfl rfl)
abbrev cX1_answers : ByteArray := prog_1_method_67_code
def yX1_answers : MethodName := ⟨RX1, "answers", "(IIII)I"⟩
def dkwX1_answers_1 : List UInt8 := [182, 1, 179, 185, 0, 71, 1, 0, 172]
abbrev dktX1_answers_1 : List UInt8 := dkwX1_answers_1 ++ []
def dkwX1_answers_0 : List UInt8 := [27, 184, 0, 217, 42, 21, 4, 182, 1, 172, 58, 5, 28, 29, 184, 1, 175, 42, 27, 28, 29, 25, 5]
abbrev dktX1_answers_0 : List UInt8 := dkwX1_answers_0 ++ dktX1_answers_1
theorem dksX1_answers_0 : cX1_answers.data.toList.drop 0 = dktX1_answers_0 := by decide +kernel
theorem dksX1_answers_1 : cX1_answers.data.toList.drop 23 = dktX1_answers_1 := dk_seg dksX1_answers_0 23 rfl rfl
theorem dX1_answers_0 : decode cX1_answers 0 = .ok (.iload_n 1, 1) := dk_27 (dk_at dksX1_answers_0 0 rfl rfl)
theorem dX1_answers_1 : decode cX1_answers 1 = .ok (.invokestatic 217, 3) := dk_184 0 217 (dk_at dksX1_answers_0 1 rfl rfl)
theorem dX1_answers_4 : decode cX1_answers 4 = .ok (.aload_n 0, 1) := dk_42 (dk_at dksX1_answers_0 4 rfl rfl)
theorem dX1_answers_5 : decode cX1_answers 5 = .ok (.iload 4, 2) := dk_21 4 (dk_at dksX1_answers_0 5 rfl rfl)
theorem dX1_answers_7 : decode cX1_answers 7 = .ok (.invokevirtual 428, 3) := dk_182 1 172 (dk_at dksX1_answers_0 7 rfl rfl)
theorem dX1_answers_10 : decode cX1_answers 10 = .ok (.astore 5, 2) := dk_58 5 (dk_at dksX1_answers_0 10 rfl rfl)
theorem dX1_answers_12 : decode cX1_answers 12 = .ok (.iload_n 2, 1) := dk_28 (dk_at dksX1_answers_0 12 rfl rfl)
theorem dX1_answers_13 : decode cX1_answers 13 = .ok (.iload_n 3, 1) := dk_29 (dk_at dksX1_answers_0 13 rfl rfl)
theorem dX1_answers_14 : decode cX1_answers 14 = .ok (.invokestatic 431, 3) := dk_184 1 175 (dk_at dksX1_answers_0 14 rfl rfl)
theorem dX1_answers_17 : decode cX1_answers 17 = .ok (.aload_n 0, 1) := dk_42 (dk_at dksX1_answers_0 17 rfl rfl)
theorem dX1_answers_18 : decode cX1_answers 18 = .ok (.iload_n 1, 1) := dk_27 (dk_at dksX1_answers_0 18 rfl rfl)
theorem dX1_answers_19 : decode cX1_answers 19 = .ok (.iload_n 2, 1) := dk_28 (dk_at dksX1_answers_0 19 rfl rfl)
theorem dX1_answers_20 : decode cX1_answers 20 = .ok (.iload_n 3, 1) := dk_29 (dk_at dksX1_answers_0 20 rfl rfl)
theorem dX1_answers_21 : decode cX1_answers 21 = .ok (.aload 5, 2) := dk_25 5 (dk_at dksX1_answers_0 21 rfl rfl)
theorem dX1_answers_23 : decode cX1_answers 23 = .ok (.invokevirtual 435, 3) := dk_182 1 179 (dk_at dksX1_answers_1 0 rfl rfl)
theorem dX1_answers_26 : decode cX1_answers 26 = .ok (.invokeinterface 71 1, 5) := by decide +kernel
theorem dX1_answers_31 : decode cX1_answers 31 = .ok (.ireturn, 1) := dk_172 (dk_at dksX1_answers_1 8 rfl rfl)
abbrev cX1_folderOr : ByteArray := prog_1_method_66_code
def yX1_folderOr : MethodName := ⟨RX1, "folderOr", "(I)LSearchKeeper$Node;"⟩
def dkwX1_folderOr_2 : List UInt8 := [185, 0, 79, 2, 0, 192, 0, 60, 176]
abbrev dktX1_folderOr_2 : List UInt8 := dkwX1_folderOr_2 ++ []
def dkwX1_folderOr_1 : List UInt8 := [4, 167, 0, 4, 3, 184, 0, 94, 27, 2, 160, 0, 7, 1, 167, 0, 16, 42, 180, 0, 19, 27]
abbrev dktX1_folderOr_1 : List UInt8 := dkwX1_folderOr_1 ++ dktX1_folderOr_2
def dkwX1_folderOr_0 : List UInt8 := [27, 2, 159, 0, 22, 27, 3, 42, 180, 0, 19, 185, 0, 71, 1, 0, 4, 100, 184, 0, 75, 153, 0, 7]
abbrev dktX1_folderOr_0 : List UInt8 := dkwX1_folderOr_0 ++ dktX1_folderOr_1
theorem dksX1_folderOr_0 : cX1_folderOr.data.toList.drop 0 = dktX1_folderOr_0 := by decide +kernel
theorem dksX1_folderOr_1 : cX1_folderOr.data.toList.drop 24 = dktX1_folderOr_1 := dk_seg dksX1_folderOr_0 24 rfl rfl
theorem dksX1_folderOr_2 : cX1_folderOr.data.toList.drop 46 = dktX1_folderOr_2 := dk_seg dksX1_folderOr_1 22 rfl rfl
theorem dX1_folderOr_0 : decode cX1_folderOr 0 = .ok (.iload_n 1, 1) := dk_27 (dk_at dksX1_folderOr_0 0 rfl rfl)
theorem dX1_folderOr_1 : decode cX1_folderOr 1 = .ok (.iconst (-1), 1) := dk_2 (dk_at dksX1_folderOr_0 1 rfl rfl)
theorem dX1_folderOr_2 : decode cX1_folderOr 2 = .ok (.if_icmp .eq 22, 3) := dk_159 0 22 (dk_at dksX1_folderOr_0 2 rfl rfl)
theorem dX1_folderOr_5 : decode cX1_folderOr 5 = .ok (.iload_n 1, 1) := dk_27 (dk_at dksX1_folderOr_0 5 rfl rfl)
theorem dX1_folderOr_6 : decode cX1_folderOr 6 = .ok (.iconst 0, 1) := dk_3 (dk_at dksX1_folderOr_0 6 rfl rfl)
theorem dX1_folderOr_7 : decode cX1_folderOr 7 = .ok (.aload_n 0, 1) := dk_42 (dk_at dksX1_folderOr_0 7 rfl rfl)
theorem dX1_folderOr_8 : decode cX1_folderOr 8 = .ok (.getfield 19, 3) := dk_180 0 19 (dk_at dksX1_folderOr_0 8 rfl rfl)
theorem dX1_folderOr_11 : decode cX1_folderOr 11 = .ok (.invokeinterface 71 1, 5) := by decide +kernel
theorem dX1_folderOr_16 : decode cX1_folderOr 16 = .ok (.iconst 1, 1) := dk_4 (dk_at dksX1_folderOr_0 16 rfl rfl)
theorem dX1_folderOr_17 : decode cX1_folderOr 17 = .ok (.isub, 1) := dk_100 (dk_at dksX1_folderOr_0 17 rfl rfl)
theorem dX1_folderOr_18 : decode cX1_folderOr 18 = .ok (.invokestatic 75, 3) := dk_184 0 75 (dk_at dksX1_folderOr_0 18 rfl rfl)
theorem dX1_folderOr_21 : decode cX1_folderOr 21 = .ok (.ifCond .eq 7, 3) := dk_153 0 7 (dk_at dksX1_folderOr_0 21 rfl rfl)
theorem dX1_folderOr_24 : decode cX1_folderOr 24 = .ok (.iconst 1, 1) := dk_4 (dk_at dksX1_folderOr_1 0 rfl rfl)
theorem dX1_folderOr_25 : decode cX1_folderOr 25 = .ok (.goto 4, 3) := dk_167 0 4 (dk_at dksX1_folderOr_1 1 rfl rfl)
theorem dX1_folderOr_28 : decode cX1_folderOr 28 = .ok (.iconst 0, 1) := dk_3 (dk_at dksX1_folderOr_1 4 rfl rfl)
theorem dX1_folderOr_29 : decode cX1_folderOr 29 = .ok (.invokestatic 94, 3) := dk_184 0 94 (dk_at dksX1_folderOr_1 5 rfl rfl)
theorem dX1_folderOr_32 : decode cX1_folderOr 32 = .ok (.iload_n 1, 1) := dk_27 (dk_at dksX1_folderOr_1 8 rfl rfl)
theorem dX1_folderOr_33 : decode cX1_folderOr 33 = .ok (.iconst (-1), 1) := dk_2 (dk_at dksX1_folderOr_1 9 rfl rfl)
theorem dX1_folderOr_34 : decode cX1_folderOr 34 = .ok (.if_icmp .ne 7, 3) := dk_160 0 7 (dk_at dksX1_folderOr_1 10 rfl rfl)
theorem dX1_folderOr_37 : decode cX1_folderOr 37 = .ok (.aconst_null, 1) := dk_1 (dk_at dksX1_folderOr_1 13 rfl rfl)
theorem dX1_folderOr_38 : decode cX1_folderOr 38 = .ok (.goto 16, 3) := dk_167 0 16 (dk_at dksX1_folderOr_1 14 rfl rfl)
theorem dX1_folderOr_41 : decode cX1_folderOr 41 = .ok (.aload_n 0, 1) := dk_42 (dk_at dksX1_folderOr_1 17 rfl rfl)
theorem dX1_folderOr_42 : decode cX1_folderOr 42 = .ok (.getfield 19, 3) := dk_180 0 19 (dk_at dksX1_folderOr_1 18 rfl rfl)
theorem dX1_folderOr_45 : decode cX1_folderOr 45 = .ok (.iload_n 1, 1) := dk_27 (dk_at dksX1_folderOr_1 21 rfl rfl)
theorem dX1_folderOr_46 : decode cX1_folderOr 46 = .ok (.invokeinterface 79 2, 5) := by decide +kernel
theorem dX1_folderOr_51 : decode cX1_folderOr 51 = .ok (.checkcast 60, 3) := dk_192 0 60 (dk_at dksX1_folderOr_2 5 rfl rfl)
theorem dX1_folderOr_54 : decode cX1_folderOr 54 = .ok (.areturn, 1) := dk_176 (dk_at dksX1_folderOr_2 8 rfl rfl)
abbrev cX1_checkWords : ByteArray := prog_1_method_64_code
def yX1_checkWords : MethodName := ⟨RX1, "checkWords", "(II)V"⟩
def dkwX1_checkWords_1 : List UInt8 := [184, 0, 140, 177]
abbrev dktX1_checkWords_1 : List UInt8 := dkwX1_checkWords_1 ++ []
def dkwX1_checkWords_0 : List UInt8 := [26, 184, 0, 175, 153, 0, 19, 27, 2, 159, 0, 10, 27, 184, 0, 175, 153, 0, 7, 4, 167, 0, 4, 3]
abbrev dktX1_checkWords_0 : List UInt8 := dkwX1_checkWords_0 ++ dktX1_checkWords_1
theorem dksX1_checkWords_0 : cX1_checkWords.data.toList.drop 0 = dktX1_checkWords_0 := by decide +kernel
theorem dksX1_checkWords_1 : cX1_checkWords.data.toList.drop 24 = dktX1_checkWords_1 := dk_seg dksX1_checkWords_0 24 rfl rfl
theorem dX1_checkWords_0 : decode cX1_checkWords 0 = .ok (.iload_n 0, 1) := dk_26 (dk_at dksX1_checkWords_0 0 rfl rfl)
theorem dX1_checkWords_1 : decode cX1_checkWords 1 = .ok (.invokestatic 175, 3) := dk_184 0 175 (dk_at dksX1_checkWords_0 1 rfl rfl)
theorem dX1_checkWords_4 : decode cX1_checkWords 4 = .ok (.ifCond .eq 19, 3) := dk_153 0 19 (dk_at dksX1_checkWords_0 4 rfl rfl)
theorem dX1_checkWords_7 : decode cX1_checkWords 7 = .ok (.iload_n 1, 1) := dk_27 (dk_at dksX1_checkWords_0 7 rfl rfl)
theorem dX1_checkWords_8 : decode cX1_checkWords 8 = .ok (.iconst (-1), 1) := dk_2 (dk_at dksX1_checkWords_0 8 rfl rfl)
theorem dX1_checkWords_9 : decode cX1_checkWords 9 = .ok (.if_icmp .eq 10, 3) := dk_159 0 10 (dk_at dksX1_checkWords_0 9 rfl rfl)
theorem dX1_checkWords_12 : decode cX1_checkWords 12 = .ok (.iload_n 1, 1) := dk_27 (dk_at dksX1_checkWords_0 12 rfl rfl)
theorem dX1_checkWords_13 : decode cX1_checkWords 13 = .ok (.invokestatic 175, 3) := dk_184 0 175 (dk_at dksX1_checkWords_0 13 rfl rfl)
theorem dX1_checkWords_16 : decode cX1_checkWords 16 = .ok (.ifCond .eq 7, 3) := dk_153 0 7 (dk_at dksX1_checkWords_0 16 rfl rfl)
theorem dX1_checkWords_19 : decode cX1_checkWords 19 = .ok (.iconst 1, 1) := dk_4 (dk_at dksX1_checkWords_0 19 rfl rfl)
theorem dX1_checkWords_20 : decode cX1_checkWords 20 = .ok (.goto 4, 3) := dk_167 0 4 (dk_at dksX1_checkWords_0 20 rfl rfl)
theorem dX1_checkWords_23 : decode cX1_checkWords 23 = .ok (.iconst 0, 1) := dk_3 (dk_at dksX1_checkWords_0 23 rfl rfl)
theorem dX1_checkWords_24 : decode cX1_checkWords 24 = .ok (.invokestatic 140, 3) := dk_184 0 140 (dk_at dksX1_checkWords_1 0 rfl rfl)
theorem dX1_checkWords_27 : decode cX1_checkWords 27 = .ok (.return_, 1) := dk_177 (dk_at dksX1_checkWords_1 3 rfl rfl)
abbrev cX1_answer : ByteArray := prog_1_method_65_code
def yX1_answer : MethodName := ⟨RX1, "answer", "(IIILSearchKeeper$Node;)Ljava/util/List;"⟩
def dkwX1_answer_8 : List UInt8 := [21, 6, 96, 184, 0, 185, 185, 1, 169, 3, 0, 132, 6, 1, 167, 255, 71, 25, 5, 176]
abbrev dktX1_answer_8 : List UInt8 := dkwX1_answer_8 ++ []
def dkwX1_answer_7 : List UInt8 := [161, 0, 9, 132, 11, 1, 167, 255, 218, 21, 10, 158, 0, 23, 25, 5, 21, 11, 16, 100, 21, 10, 104]
abbrev dktX1_answer_7 : List UInt8 := dkwX1_answer_7 ++ dktX1_answer_8
def dkwX1_answer_6 : List UInt8 := [162, 0, 32, 25, 5, 21, 11, 185, 0, 79, 2, 0, 192, 0, 186, 182, 1, 158, 16, 100, 108, 21, 10]
abbrev dktX1_answer_6 : List UInt8 := dkwX1_answer_6 ++ dktX1_answer_7
def dkwX1_answer_5 : List UInt8 := [29, 184, 1, 165, 167, 0, 4, 3, 54, 10, 3, 54, 11, 21, 11, 25, 5, 185, 0, 71, 1, 0]
abbrev dktX1_answer_5 : List UInt8 := dkwX1_answer_5 ++ dktX1_answer_6
def dkwX1_answer_4 : List UInt8 := [182, 1, 43, 153, 0, 7, 4, 167, 0, 4, 3, 54, 9, 21, 9, 153, 0, 16, 25, 7, 180, 1, 69, 28]
abbrev dktX1_answer_4 : List UInt8 := dkwX1_answer_4 ++ dktX1_answer_5
def dkwX1_answer_3 : List UInt8 := [154, 0, 32, 25, 8, 27, 182, 0, 220, 153, 0, 23, 25, 4, 198, 0, 14, 42, 25, 8, 25, 4]
abbrev dktX1_answer_3 : List UInt8 := dkwX1_answer_3 ++ dktX1_answer_4
def dkwX1_answer_2 : List UInt8 := [192, 0, 60, 58, 8, 25, 7, 198, 0, 48, 25, 8, 180, 0, 91, 154, 0, 40, 25, 8, 180, 0, 83]
abbrev dktX1_answer_2 : List UInt8 := dkwX1_answer_2 ++ dktX1_answer_3
def dkwX1_answer_1 : List UInt8 := [162, 0, 177, 42, 180, 0, 33, 21, 6, 50, 58, 7, 42, 180, 0, 19, 21, 6, 185, 0, 79, 2, 0]
abbrev dktX1_answer_1 : List UInt8 := dkwX1_answer_1 ++ dktX1_answer_2
def dkwX1_answer_0 : List UInt8 := [187, 0, 16, 89, 183, 0, 18, 58, 5, 3, 54, 6, 21, 6, 42, 180, 0, 19, 185, 0, 71, 1, 0]
abbrev dktX1_answer_0 : List UInt8 := dkwX1_answer_0 ++ dktX1_answer_1
theorem dksX1_answer_0 : cX1_answer.data.toList.drop 0 = dktX1_answer_0 := by decide +kernel
theorem dksX1_answer_1 : cX1_answer.data.toList.drop 23 = dktX1_answer_1 := dk_seg dksX1_answer_0 23 rfl rfl
theorem dksX1_answer_2 : cX1_answer.data.toList.drop 46 = dktX1_answer_2 := dk_seg dksX1_answer_1 23 rfl rfl
theorem dksX1_answer_3 : cX1_answer.data.toList.drop 69 = dktX1_answer_3 := dk_seg dksX1_answer_2 23 rfl rfl
theorem dksX1_answer_4 : cX1_answer.data.toList.drop 91 = dktX1_answer_4 := dk_seg dksX1_answer_3 22 rfl rfl
theorem dksX1_answer_5 : cX1_answer.data.toList.drop 115 = dktX1_answer_5 := dk_seg dksX1_answer_4 24 rfl rfl
theorem dksX1_answer_6 : cX1_answer.data.toList.drop 137 = dktX1_answer_6 := dk_seg dksX1_answer_5 22 rfl rfl
theorem dksX1_answer_7 : cX1_answer.data.toList.drop 160 = dktX1_answer_7 := dk_seg dksX1_answer_6 23 rfl rfl
theorem dksX1_answer_8 : cX1_answer.data.toList.drop 183 = dktX1_answer_8 := dk_seg dksX1_answer_7 23 rfl rfl
theorem dX1_answer_0 : decode cX1_answer 0 = .ok (.new 16, 3) := dk_187 0 16 (dk_at dksX1_answer_0 0 rfl rfl)
theorem dX1_answer_3 : decode cX1_answer 3 = .ok (.dup, 1) := dk_89 (dk_at dksX1_answer_0 3 rfl rfl)
theorem dX1_answer_4 : decode cX1_answer 4 = .ok (.invokespecial 18, 3) := dk_183 0 18 (dk_at dksX1_answer_0 4 rfl rfl)
theorem dX1_answer_7 : decode cX1_answer 7 = .ok (.astore 5, 2) := dk_58 5 (dk_at dksX1_answer_0 7 rfl rfl)
theorem dX1_answer_9 : decode cX1_answer 9 = .ok (.iconst 0, 1) := dk_3 (dk_at dksX1_answer_0 9 rfl rfl)
theorem dX1_answer_10 : decode cX1_answer 10 = .ok (.istore 6, 2) := dk_54 6 (dk_at dksX1_answer_0 10 rfl rfl)
theorem dX1_answer_12 : decode cX1_answer 12 = .ok (.iload 6, 2) := dk_21 6 (dk_at dksX1_answer_0 12 rfl rfl)
theorem dX1_answer_14 : decode cX1_answer 14 = .ok (.aload_n 0, 1) := dk_42 (dk_at dksX1_answer_0 14 rfl rfl)
theorem dX1_answer_15 : decode cX1_answer 15 = .ok (.getfield 19, 3) := dk_180 0 19 (dk_at dksX1_answer_0 15 rfl rfl)
theorem dX1_answer_18 : decode cX1_answer 18 = .ok (.invokeinterface 71 1, 5) := by decide +kernel
theorem dX1_answer_23 : decode cX1_answer 23 = .ok (.if_icmp .ge 177, 3) := dk_162 0 177 (dk_at dksX1_answer_1 0 rfl rfl)
theorem dX1_answer_26 : decode cX1_answer 26 = .ok (.aload_n 0, 1) := dk_42 (dk_at dksX1_answer_1 3 rfl rfl)
theorem dX1_answer_27 : decode cX1_answer 27 = .ok (.getfield 33, 3) := dk_180 0 33 (dk_at dksX1_answer_1 4 rfl rfl)
theorem dX1_answer_30 : decode cX1_answer 30 = .ok (.iload 6, 2) := dk_21 6 (dk_at dksX1_answer_1 7 rfl rfl)
theorem dX1_answer_32 : decode cX1_answer 32 = .ok (.aaload, 1) := dk_50 (dk_at dksX1_answer_1 9 rfl rfl)
theorem dX1_answer_33 : decode cX1_answer 33 = .ok (.astore 7, 2) := dk_58 7 (dk_at dksX1_answer_1 10 rfl rfl)
theorem dX1_answer_35 : decode cX1_answer 35 = .ok (.aload_n 0, 1) := dk_42 (dk_at dksX1_answer_1 12 rfl rfl)
theorem dX1_answer_36 : decode cX1_answer 36 = .ok (.getfield 19, 3) := dk_180 0 19 (dk_at dksX1_answer_1 13 rfl rfl)
theorem dX1_answer_39 : decode cX1_answer 39 = .ok (.iload 6, 2) := dk_21 6 (dk_at dksX1_answer_1 16 rfl rfl)
theorem dX1_answer_41 : decode cX1_answer 41 = .ok (.invokeinterface 79 2, 5) := by decide +kernel
theorem dX1_answer_46 : decode cX1_answer 46 = .ok (.checkcast 60, 3) := dk_192 0 60 (dk_at dksX1_answer_2 0 rfl rfl)
theorem dX1_answer_49 : decode cX1_answer 49 = .ok (.astore 8, 2) := dk_58 8 (dk_at dksX1_answer_2 3 rfl rfl)
theorem dX1_answer_51 : decode cX1_answer 51 = .ok (.aload 7, 2) := dk_25 7 (dk_at dksX1_answer_2 5 rfl rfl)
theorem dX1_answer_53 : decode cX1_answer 53 = .ok (.ifnull 48, 3) := dk_198 0 48 (dk_at dksX1_answer_2 7 rfl rfl)
theorem dX1_answer_56 : decode cX1_answer 56 = .ok (.aload 8, 2) := dk_25 8 (dk_at dksX1_answer_2 10 rfl rfl)
theorem dX1_answer_58 : decode cX1_answer 58 = .ok (.getfield 91, 3) := dk_180 0 91 (dk_at dksX1_answer_2 12 rfl rfl)
theorem dX1_answer_61 : decode cX1_answer 61 = .ok (.ifCond .ne 40, 3) := dk_154 0 40 (dk_at dksX1_answer_2 15 rfl rfl)
theorem dX1_answer_64 : decode cX1_answer 64 = .ok (.aload 8, 2) := dk_25 8 (dk_at dksX1_answer_2 18 rfl rfl)
theorem dX1_answer_66 : decode cX1_answer 66 = .ok (.getfield 83, 3) := dk_180 0 83 (dk_at dksX1_answer_2 20 rfl rfl)
theorem dX1_answer_69 : decode cX1_answer 69 = .ok (.ifCond .ne 32, 3) := dk_154 0 32 (dk_at dksX1_answer_3 0 rfl rfl)
theorem dX1_answer_72 : decode cX1_answer 72 = .ok (.aload 8, 2) := dk_25 8 (dk_at dksX1_answer_3 3 rfl rfl)
theorem dX1_answer_74 : decode cX1_answer 74 = .ok (.iload_n 1, 1) := dk_27 (dk_at dksX1_answer_3 5 rfl rfl)
theorem dX1_answer_75 : decode cX1_answer 75 = .ok (.invokevirtual 220, 3) := dk_182 0 220 (dk_at dksX1_answer_3 6 rfl rfl)
theorem dX1_answer_78 : decode cX1_answer 78 = .ok (.ifCond .eq 23, 3) := dk_153 0 23 (dk_at dksX1_answer_3 9 rfl rfl)
theorem dX1_answer_81 : decode cX1_answer 81 = .ok (.aload 4, 2) := dk_25 4 (dk_at dksX1_answer_3 12 rfl rfl)
theorem dX1_answer_83 : decode cX1_answer 83 = .ok (.ifnull 14, 3) := dk_198 0 14 (dk_at dksX1_answer_3 14 rfl rfl)
theorem dX1_answer_86 : decode cX1_answer 86 = .ok (.aload_n 0, 1) := dk_42 (dk_at dksX1_answer_3 17 rfl rfl)
theorem dX1_answer_87 : decode cX1_answer 87 = .ok (.aload 8, 2) := dk_25 8 (dk_at dksX1_answer_3 18 rfl rfl)
theorem dX1_answer_89 : decode cX1_answer 89 = .ok (.aload 4, 2) := dk_25 4 (dk_at dksX1_answer_3 20 rfl rfl)
theorem dX1_answer_91 : decode cX1_answer 91 = .ok (.invokevirtual 299, 3) := dk_182 1 43 (dk_at dksX1_answer_4 0 rfl rfl)
theorem dX1_answer_94 : decode cX1_answer 94 = .ok (.ifCond .eq 7, 3) := dk_153 0 7 (dk_at dksX1_answer_4 3 rfl rfl)
theorem dX1_answer_97 : decode cX1_answer 97 = .ok (.iconst 1, 1) := dk_4 (dk_at dksX1_answer_4 6 rfl rfl)
theorem dX1_answer_98 : decode cX1_answer 98 = .ok (.goto 4, 3) := dk_167 0 4 (dk_at dksX1_answer_4 7 rfl rfl)
theorem dX1_answer_101 : decode cX1_answer 101 = .ok (.iconst 0, 1) := dk_3 (dk_at dksX1_answer_4 10 rfl rfl)
theorem dX1_answer_102 : decode cX1_answer 102 = .ok (.istore 9, 2) := dk_54 9 (dk_at dksX1_answer_4 11 rfl rfl)
theorem dX1_answer_104 : decode cX1_answer 104 = .ok (.iload 9, 2) := dk_21 9 (dk_at dksX1_answer_4 13 rfl rfl)
theorem dX1_answer_106 : decode cX1_answer 106 = .ok (.ifCond .eq 16, 3) := dk_153 0 16 (dk_at dksX1_answer_4 15 rfl rfl)
theorem dX1_answer_109 : decode cX1_answer 109 = .ok (.aload 7, 2) := dk_25 7 (dk_at dksX1_answer_4 18 rfl rfl)
theorem dX1_answer_111 : decode cX1_answer 111 = .ok (.getfield 325, 3) := dk_180 1 69 (dk_at dksX1_answer_4 20 rfl rfl)
theorem dX1_answer_114 : decode cX1_answer 114 = .ok (.iload_n 2, 1) := dk_28 (dk_at dksX1_answer_4 23 rfl rfl)
theorem dX1_answer_115 : decode cX1_answer 115 = .ok (.iload_n 3, 1) := dk_29 (dk_at dksX1_answer_5 0 rfl rfl)
theorem dX1_answer_116 : decode cX1_answer 116 = .ok (.invokestatic 421, 3) := dk_184 1 165 (dk_at dksX1_answer_5 1 rfl rfl)
theorem dX1_answer_119 : decode cX1_answer 119 = .ok (.goto 4, 3) := dk_167 0 4 (dk_at dksX1_answer_5 4 rfl rfl)
theorem dX1_answer_122 : decode cX1_answer 122 = .ok (.iconst 0, 1) := dk_3 (dk_at dksX1_answer_5 7 rfl rfl)
theorem dX1_answer_123 : decode cX1_answer 123 = .ok (.istore 10, 2) := dk_54 10 (dk_at dksX1_answer_5 8 rfl rfl)
theorem dX1_answer_125 : decode cX1_answer 125 = .ok (.iconst 0, 1) := dk_3 (dk_at dksX1_answer_5 10 rfl rfl)
theorem dX1_answer_126 : decode cX1_answer 126 = .ok (.istore 11, 2) := dk_54 11 (dk_at dksX1_answer_5 11 rfl rfl)
theorem dX1_answer_128 : decode cX1_answer 128 = .ok (.iload 11, 2) := dk_21 11 (dk_at dksX1_answer_5 13 rfl rfl)
theorem dX1_answer_130 : decode cX1_answer 130 = .ok (.aload 5, 2) := dk_25 5 (dk_at dksX1_answer_5 15 rfl rfl)
theorem dX1_answer_132 : decode cX1_answer 132 = .ok (.invokeinterface 71 1, 5) := by decide +kernel
theorem dX1_answer_137 : decode cX1_answer 137 = .ok (.if_icmp .ge 32, 3) := dk_162 0 32 (dk_at dksX1_answer_6 0 rfl rfl)
theorem dX1_answer_140 : decode cX1_answer 140 = .ok (.aload 5, 2) := dk_25 5 (dk_at dksX1_answer_6 3 rfl rfl)
theorem dX1_answer_142 : decode cX1_answer 142 = .ok (.iload 11, 2) := dk_21 11 (dk_at dksX1_answer_6 5 rfl rfl)
theorem dX1_answer_144 : decode cX1_answer 144 = .ok (.invokeinterface 79 2, 5) := by decide +kernel
theorem dX1_answer_149 : decode cX1_answer 149 = .ok (.checkcast 186, 3) := dk_192 0 186 (dk_at dksX1_answer_6 12 rfl rfl)
theorem dX1_answer_152 : decode cX1_answer 152 = .ok (.invokevirtual 414, 3) := dk_182 1 158 (dk_at dksX1_answer_6 15 rfl rfl)
theorem dX1_answer_155 : decode cX1_answer 155 = .ok (.bipush 100, 2) := dk_16 100 (dk_at dksX1_answer_6 18 rfl rfl)
theorem dX1_answer_157 : decode cX1_answer 157 = .ok (.idiv, 1) := dk_108 (dk_at dksX1_answer_6 20 rfl rfl)
theorem dX1_answer_158 : decode cX1_answer 158 = .ok (.iload 10, 2) := dk_21 10 (dk_at dksX1_answer_6 21 rfl rfl)
theorem dX1_answer_160 : decode cX1_answer 160 = .ok (.if_icmp .lt 9, 3) := dk_161 0 9 (dk_at dksX1_answer_7 0 rfl rfl)
theorem dX1_answer_163 : decode cX1_answer 163 = .ok (.iinc 11 1, 3) := dk_132 11 1 (dk_at dksX1_answer_7 3 rfl rfl)
theorem dX1_answer_166 : decode cX1_answer 166 = .ok (.goto (-38), 3) := dk_167 255 218 (dk_at dksX1_answer_7 6 rfl rfl)
theorem dX1_answer_169 : decode cX1_answer 169 = .ok (.iload 10, 2) := dk_21 10 (dk_at dksX1_answer_7 9 rfl rfl)
theorem dX1_answer_171 : decode cX1_answer 171 = .ok (.ifCond .le 23, 3) := dk_158 0 23 (dk_at dksX1_answer_7 11 rfl rfl)
theorem dX1_answer_174 : decode cX1_answer 174 = .ok (.aload 5, 2) := dk_25 5 (dk_at dksX1_answer_7 14 rfl rfl)
theorem dX1_answer_176 : decode cX1_answer 176 = .ok (.iload 11, 2) := dk_21 11 (dk_at dksX1_answer_7 16 rfl rfl)
theorem dX1_answer_178 : decode cX1_answer 178 = .ok (.bipush 100, 2) := dk_16 100 (dk_at dksX1_answer_7 18 rfl rfl)
theorem dX1_answer_180 : decode cX1_answer 180 = .ok (.iload 10, 2) := dk_21 10 (dk_at dksX1_answer_7 20 rfl rfl)
theorem dX1_answer_182 : decode cX1_answer 182 = .ok (.imul, 1) := dk_104 (dk_at dksX1_answer_7 22 rfl rfl)
theorem dX1_answer_183 : decode cX1_answer 183 = .ok (.iload 6, 2) := dk_21 6 (dk_at dksX1_answer_8 0 rfl rfl)
theorem dX1_answer_185 : decode cX1_answer 185 = .ok (.iadd, 1) := dk_96 (dk_at dksX1_answer_8 2 rfl rfl)
theorem dX1_answer_186 : decode cX1_answer 186 = .ok (.invokestatic 185, 3) := dk_184 0 185 (dk_at dksX1_answer_8 3 rfl rfl)
theorem dX1_answer_189 : decode cX1_answer 189 = .ok (.invokeinterface 425 3, 5) := by decide +kernel
theorem dX1_answer_194 : decode cX1_answer 194 = .ok (.iinc 6 1, 3) := dk_132 6 1 (dk_at dksX1_answer_8 11 rfl rfl)
theorem dX1_answer_197 : decode cX1_answer 197 = .ok (.goto (-185), 3) := dk_167 255 71 (dk_at dksX1_answer_8 14 rfl rfl)
theorem dX1_answer_200 : decode cX1_answer 200 = .ok (.aload 5, 2) := dk_25 5 (dk_at dksX1_answer_8 17 rfl rfl)
theorem dX1_answer_202 : decode cX1_answer 202 = .ok (.areturn, 1) := dk_176 (dk_at dksX1_answer_8 19 rfl rfl)
abbrev cX1_score : ByteArray := prog_1_method_63_code
def yX1_score : MethodName := ⟨RX1, "score", "(Ljava/util/List;II)I"⟩
def dkwX1_score_5 : List UInt8 := [167, 0, 19, 29, 21, 4, 96, 21, 5, 153, 0, 8, 16, 10, 167, 0, 4, 3, 96, 172]
abbrev dktX1_score_5 : List UInt8 := dkwX1_score_5 ++ []
def dkwX1_score_4 : List UInt8 := [54, 5, 132, 6, 1, 167, 255, 185, 29, 153, 0, 13, 28, 2, 159, 0, 12, 21, 4, 154, 0, 7, 3]
abbrev dktX1_score_4 : List UInt8 := dkwX1_score_4 ++ dktX1_score_5
def dkwX1_score_3 : List UInt8 := [21, 6, 4, 96, 185, 0, 79, 2, 0, 192, 0, 186, 182, 1, 158, 28, 160, 0, 7, 4, 167, 0, 4, 3]
abbrev dktX1_score_3 : List UInt8 := dkwX1_score_3 ++ dktX1_score_4
def dkwX1_score_2 : List UInt8 := [2, 159, 0, 45, 42, 21, 6, 185, 0, 79, 2, 0, 192, 0, 186, 182, 1, 158, 27, 160, 0, 27, 42]
abbrev dktX1_score_2 : List UInt8 := dkwX1_score_2 ++ dktX1_score_3
def dkwX1_score_1 : List UInt8 := [54, 5, 3, 54, 6, 21, 6, 4, 96, 42, 185, 0, 71, 1, 0, 162, 0, 64, 21, 5, 154, 0, 46, 28]
abbrev dktX1_score_1 : List UInt8 := dkwX1_score_1 ++ dktX1_score_2
def dkwX1_score_0 : List UInt8 := [42, 27, 184, 1, 161, 62, 28, 2, 160, 0, 7, 3, 167, 0, 8, 42, 28, 184, 1, 161, 54, 4, 3]
abbrev dktX1_score_0 : List UInt8 := dkwX1_score_0 ++ dktX1_score_1
theorem dksX1_score_0 : cX1_score.data.toList.drop 0 = dktX1_score_0 := by decide +kernel
theorem dksX1_score_1 : cX1_score.data.toList.drop 23 = dktX1_score_1 := dk_seg dksX1_score_0 23 rfl rfl
theorem dksX1_score_2 : cX1_score.data.toList.drop 47 = dktX1_score_2 := dk_seg dksX1_score_1 24 rfl rfl
theorem dksX1_score_3 : cX1_score.data.toList.drop 70 = dktX1_score_3 := dk_seg dksX1_score_2 23 rfl rfl
theorem dksX1_score_4 : cX1_score.data.toList.drop 94 = dktX1_score_4 := dk_seg dksX1_score_3 24 rfl rfl
theorem dksX1_score_5 : cX1_score.data.toList.drop 117 = dktX1_score_5 := dk_seg dksX1_score_4 23 rfl rfl
theorem dX1_score_0 : decode cX1_score 0 = .ok (.aload_n 0, 1) := dk_42 (dk_at dksX1_score_0 0 rfl rfl)
theorem dX1_score_1 : decode cX1_score 1 = .ok (.iload_n 1, 1) := dk_27 (dk_at dksX1_score_0 1 rfl rfl)
theorem dX1_score_2 : decode cX1_score 2 = .ok (.invokestatic 417, 3) := dk_184 1 161 (dk_at dksX1_score_0 2 rfl rfl)
theorem dX1_score_5 : decode cX1_score 5 = .ok (.istore_n 3, 1) := dk_62 (dk_at dksX1_score_0 5 rfl rfl)
theorem dX1_score_6 : decode cX1_score 6 = .ok (.iload_n 2, 1) := dk_28 (dk_at dksX1_score_0 6 rfl rfl)
theorem dX1_score_7 : decode cX1_score 7 = .ok (.iconst (-1), 1) := dk_2 (dk_at dksX1_score_0 7 rfl rfl)
theorem dX1_score_8 : decode cX1_score 8 = .ok (.if_icmp .ne 7, 3) := dk_160 0 7 (dk_at dksX1_score_0 8 rfl rfl)
theorem dX1_score_11 : decode cX1_score 11 = .ok (.iconst 0, 1) := dk_3 (dk_at dksX1_score_0 11 rfl rfl)
theorem dX1_score_12 : decode cX1_score 12 = .ok (.goto 8, 3) := dk_167 0 8 (dk_at dksX1_score_0 12 rfl rfl)
theorem dX1_score_15 : decode cX1_score 15 = .ok (.aload_n 0, 1) := dk_42 (dk_at dksX1_score_0 15 rfl rfl)
theorem dX1_score_16 : decode cX1_score 16 = .ok (.iload_n 2, 1) := dk_28 (dk_at dksX1_score_0 16 rfl rfl)
theorem dX1_score_17 : decode cX1_score 17 = .ok (.invokestatic 417, 3) := dk_184 1 161 (dk_at dksX1_score_0 17 rfl rfl)
theorem dX1_score_20 : decode cX1_score 20 = .ok (.istore 4, 2) := dk_54 4 (dk_at dksX1_score_0 20 rfl rfl)
theorem dX1_score_22 : decode cX1_score 22 = .ok (.iconst 0, 1) := dk_3 (dk_at dksX1_score_0 22 rfl rfl)
theorem dX1_score_23 : decode cX1_score 23 = .ok (.istore 5, 2) := dk_54 5 (dk_at dksX1_score_1 0 rfl rfl)
theorem dX1_score_25 : decode cX1_score 25 = .ok (.iconst 0, 1) := dk_3 (dk_at dksX1_score_1 2 rfl rfl)
theorem dX1_score_26 : decode cX1_score 26 = .ok (.istore 6, 2) := dk_54 6 (dk_at dksX1_score_1 3 rfl rfl)
theorem dX1_score_28 : decode cX1_score 28 = .ok (.iload 6, 2) := dk_21 6 (dk_at dksX1_score_1 5 rfl rfl)
theorem dX1_score_30 : decode cX1_score 30 = .ok (.iconst 1, 1) := dk_4 (dk_at dksX1_score_1 7 rfl rfl)
theorem dX1_score_31 : decode cX1_score 31 = .ok (.iadd, 1) := dk_96 (dk_at dksX1_score_1 8 rfl rfl)
theorem dX1_score_32 : decode cX1_score 32 = .ok (.aload_n 0, 1) := dk_42 (dk_at dksX1_score_1 9 rfl rfl)
theorem dX1_score_33 : decode cX1_score 33 = .ok (.invokeinterface 71 1, 5) := by decide +kernel
theorem dX1_score_38 : decode cX1_score 38 = .ok (.if_icmp .ge 64, 3) := dk_162 0 64 (dk_at dksX1_score_1 15 rfl rfl)
theorem dX1_score_41 : decode cX1_score 41 = .ok (.iload 5, 2) := dk_21 5 (dk_at dksX1_score_1 18 rfl rfl)
theorem dX1_score_43 : decode cX1_score 43 = .ok (.ifCond .ne 46, 3) := dk_154 0 46 (dk_at dksX1_score_1 20 rfl rfl)
theorem dX1_score_46 : decode cX1_score 46 = .ok (.iload_n 2, 1) := dk_28 (dk_at dksX1_score_1 23 rfl rfl)
theorem dX1_score_47 : decode cX1_score 47 = .ok (.iconst (-1), 1) := dk_2 (dk_at dksX1_score_2 0 rfl rfl)
theorem dX1_score_48 : decode cX1_score 48 = .ok (.if_icmp .eq 45, 3) := dk_159 0 45 (dk_at dksX1_score_2 1 rfl rfl)
theorem dX1_score_51 : decode cX1_score 51 = .ok (.aload_n 0, 1) := dk_42 (dk_at dksX1_score_2 4 rfl rfl)
theorem dX1_score_52 : decode cX1_score 52 = .ok (.iload 6, 2) := dk_21 6 (dk_at dksX1_score_2 5 rfl rfl)
theorem dX1_score_54 : decode cX1_score 54 = .ok (.invokeinterface 79 2, 5) := by decide +kernel
theorem dX1_score_59 : decode cX1_score 59 = .ok (.checkcast 186, 3) := dk_192 0 186 (dk_at dksX1_score_2 12 rfl rfl)
theorem dX1_score_62 : decode cX1_score 62 = .ok (.invokevirtual 414, 3) := dk_182 1 158 (dk_at dksX1_score_2 15 rfl rfl)
theorem dX1_score_65 : decode cX1_score 65 = .ok (.iload_n 1, 1) := dk_27 (dk_at dksX1_score_2 18 rfl rfl)
theorem dX1_score_66 : decode cX1_score 66 = .ok (.if_icmp .ne 27, 3) := dk_160 0 27 (dk_at dksX1_score_2 19 rfl rfl)
theorem dX1_score_69 : decode cX1_score 69 = .ok (.aload_n 0, 1) := dk_42 (dk_at dksX1_score_2 22 rfl rfl)
theorem dX1_score_70 : decode cX1_score 70 = .ok (.iload 6, 2) := dk_21 6 (dk_at dksX1_score_3 0 rfl rfl)
theorem dX1_score_72 : decode cX1_score 72 = .ok (.iconst 1, 1) := dk_4 (dk_at dksX1_score_3 2 rfl rfl)
theorem dX1_score_73 : decode cX1_score 73 = .ok (.iadd, 1) := dk_96 (dk_at dksX1_score_3 3 rfl rfl)
theorem dX1_score_74 : decode cX1_score 74 = .ok (.invokeinterface 79 2, 5) := by decide +kernel
theorem dX1_score_79 : decode cX1_score 79 = .ok (.checkcast 186, 3) := dk_192 0 186 (dk_at dksX1_score_3 9 rfl rfl)
theorem dX1_score_82 : decode cX1_score 82 = .ok (.invokevirtual 414, 3) := dk_182 1 158 (dk_at dksX1_score_3 12 rfl rfl)
theorem dX1_score_85 : decode cX1_score 85 = .ok (.iload_n 2, 1) := dk_28 (dk_at dksX1_score_3 15 rfl rfl)
theorem dX1_score_86 : decode cX1_score 86 = .ok (.if_icmp .ne 7, 3) := dk_160 0 7 (dk_at dksX1_score_3 16 rfl rfl)
theorem dX1_score_89 : decode cX1_score 89 = .ok (.iconst 1, 1) := dk_4 (dk_at dksX1_score_3 19 rfl rfl)
theorem dX1_score_90 : decode cX1_score 90 = .ok (.goto 4, 3) := dk_167 0 4 (dk_at dksX1_score_3 20 rfl rfl)
theorem dX1_score_93 : decode cX1_score 93 = .ok (.iconst 0, 1) := dk_3 (dk_at dksX1_score_3 23 rfl rfl)
theorem dX1_score_94 : decode cX1_score 94 = .ok (.istore 5, 2) := dk_54 5 (dk_at dksX1_score_4 0 rfl rfl)
theorem dX1_score_96 : decode cX1_score 96 = .ok (.iinc 6 1, 3) := dk_132 6 1 (dk_at dksX1_score_4 2 rfl rfl)
theorem dX1_score_99 : decode cX1_score 99 = .ok (.goto (-71), 3) := dk_167 255 185 (dk_at dksX1_score_4 5 rfl rfl)
theorem dX1_score_102 : decode cX1_score 102 = .ok (.iload_n 3, 1) := dk_29 (dk_at dksX1_score_4 8 rfl rfl)
theorem dX1_score_103 : decode cX1_score 103 = .ok (.ifCond .eq 13, 3) := dk_153 0 13 (dk_at dksX1_score_4 9 rfl rfl)
theorem dX1_score_106 : decode cX1_score 106 = .ok (.iload_n 2, 1) := dk_28 (dk_at dksX1_score_4 12 rfl rfl)
theorem dX1_score_107 : decode cX1_score 107 = .ok (.iconst (-1), 1) := dk_2 (dk_at dksX1_score_4 13 rfl rfl)
theorem dX1_score_108 : decode cX1_score 108 = .ok (.if_icmp .eq 12, 3) := dk_159 0 12 (dk_at dksX1_score_4 14 rfl rfl)
theorem dX1_score_111 : decode cX1_score 111 = .ok (.iload 4, 2) := dk_21 4 (dk_at dksX1_score_4 17 rfl rfl)
theorem dX1_score_113 : decode cX1_score 113 = .ok (.ifCond .ne 7, 3) := dk_154 0 7 (dk_at dksX1_score_4 19 rfl rfl)
theorem dX1_score_116 : decode cX1_score 116 = .ok (.iconst 0, 1) := dk_3 (dk_at dksX1_score_4 22 rfl rfl)
theorem dX1_score_117 : decode cX1_score 117 = .ok (.goto 19, 3) := dk_167 0 19 (dk_at dksX1_score_5 0 rfl rfl)
theorem dX1_score_120 : decode cX1_score 120 = .ok (.iload_n 3, 1) := dk_29 (dk_at dksX1_score_5 3 rfl rfl)
theorem dX1_score_121 : decode cX1_score 121 = .ok (.iload 4, 2) := dk_21 4 (dk_at dksX1_score_5 4 rfl rfl)
theorem dX1_score_123 : decode cX1_score 123 = .ok (.iadd, 1) := dk_96 (dk_at dksX1_score_5 6 rfl rfl)
theorem dX1_score_124 : decode cX1_score 124 = .ok (.iload 5, 2) := dk_21 5 (dk_at dksX1_score_5 7 rfl rfl)
theorem dX1_score_126 : decode cX1_score 126 = .ok (.ifCond .eq 8, 3) := dk_153 0 8 (dk_at dksX1_score_5 9 rfl rfl)
theorem dX1_score_129 : decode cX1_score 129 = .ok (.bipush 10, 2) := dk_16 10 (dk_at dksX1_score_5 12 rfl rfl)
theorem dX1_score_131 : decode cX1_score 131 = .ok (.goto 4, 3) := dk_167 0 4 (dk_at dksX1_score_5 14 rfl rfl)
theorem dX1_score_134 : decode cX1_score 134 = .ok (.iconst 0, 1) := dk_3 (dk_at dksX1_score_5 17 rfl rfl)
theorem dX1_score_135 : decode cX1_score 135 = .ok (.iadd, 1) := dk_96 (dk_at dksX1_score_5 18 rfl rfl)
theorem dX1_score_136 : decode cX1_score 136 = .ok (.ireturn, 1) := dk_172 (dk_at dksX1_score_5 19 rfl rfl)
abbrev cX1_count : ByteArray := prog_1_method_62_code
def yX1_count : MethodName := ⟨RX1, "count", "(Ljava/util/List;I)I"⟩
def dkwX1_count_2 : List UInt8 := [172]
abbrev dktX1_count_2 : List UInt8 := dkwX1_count_2 ++ []
def dkwX1_count_1 : List UInt8 := [192, 0, 186, 182, 1, 158, 27, 160, 0, 7, 4, 167, 0, 4, 3, 96, 61, 132, 3, 1, 167, 255, 218, 28]
abbrev dktX1_count_1 : List UInt8 := dkwX1_count_1 ++ dktX1_count_2
def dkwX1_count_0 : List UInt8 := [3, 61, 3, 62, 29, 42, 185, 0, 71, 1, 0, 162, 0, 34, 28, 42, 29, 185, 0, 79, 2, 0]
abbrev dktX1_count_0 : List UInt8 := dkwX1_count_0 ++ dktX1_count_1
theorem dksX1_count_0 : cX1_count.data.toList.drop 0 = dktX1_count_0 := by decide +kernel
theorem dksX1_count_1 : cX1_count.data.toList.drop 22 = dktX1_count_1 := dk_seg dksX1_count_0 22 rfl rfl
theorem dksX1_count_2 : cX1_count.data.toList.drop 46 = dktX1_count_2 := dk_seg dksX1_count_1 24 rfl rfl
theorem dX1_count_0 : decode cX1_count 0 = .ok (.iconst 0, 1) := dk_3 (dk_at dksX1_count_0 0 rfl rfl)
theorem dX1_count_1 : decode cX1_count 1 = .ok (.istore_n 2, 1) := dk_61 (dk_at dksX1_count_0 1 rfl rfl)
theorem dX1_count_2 : decode cX1_count 2 = .ok (.iconst 0, 1) := dk_3 (dk_at dksX1_count_0 2 rfl rfl)
theorem dX1_count_3 : decode cX1_count 3 = .ok (.istore_n 3, 1) := dk_62 (dk_at dksX1_count_0 3 rfl rfl)
theorem dX1_count_4 : decode cX1_count 4 = .ok (.iload_n 3, 1) := dk_29 (dk_at dksX1_count_0 4 rfl rfl)
theorem dX1_count_5 : decode cX1_count 5 = .ok (.aload_n 0, 1) := dk_42 (dk_at dksX1_count_0 5 rfl rfl)
theorem dX1_count_6 : decode cX1_count 6 = .ok (.invokeinterface 71 1, 5) := by decide +kernel
theorem dX1_count_11 : decode cX1_count 11 = .ok (.if_icmp .ge 34, 3) := dk_162 0 34 (dk_at dksX1_count_0 11 rfl rfl)
theorem dX1_count_14 : decode cX1_count 14 = .ok (.iload_n 2, 1) := dk_28 (dk_at dksX1_count_0 14 rfl rfl)
theorem dX1_count_15 : decode cX1_count 15 = .ok (.aload_n 0, 1) := dk_42 (dk_at dksX1_count_0 15 rfl rfl)
theorem dX1_count_16 : decode cX1_count 16 = .ok (.iload_n 3, 1) := dk_29 (dk_at dksX1_count_0 16 rfl rfl)
theorem dX1_count_17 : decode cX1_count 17 = .ok (.invokeinterface 79 2, 5) := by decide +kernel
theorem dX1_count_22 : decode cX1_count 22 = .ok (.checkcast 186, 3) := dk_192 0 186 (dk_at dksX1_count_1 0 rfl rfl)
theorem dX1_count_25 : decode cX1_count 25 = .ok (.invokevirtual 414, 3) := dk_182 1 158 (dk_at dksX1_count_1 3 rfl rfl)
theorem dX1_count_28 : decode cX1_count 28 = .ok (.iload_n 1, 1) := dk_27 (dk_at dksX1_count_1 6 rfl rfl)
theorem dX1_count_29 : decode cX1_count 29 = .ok (.if_icmp .ne 7, 3) := dk_160 0 7 (dk_at dksX1_count_1 7 rfl rfl)
theorem dX1_count_32 : decode cX1_count 32 = .ok (.iconst 1, 1) := dk_4 (dk_at dksX1_count_1 10 rfl rfl)
theorem dX1_count_33 : decode cX1_count 33 = .ok (.goto 4, 3) := dk_167 0 4 (dk_at dksX1_count_1 11 rfl rfl)
theorem dX1_count_36 : decode cX1_count 36 = .ok (.iconst 0, 1) := dk_3 (dk_at dksX1_count_1 14 rfl rfl)
theorem dX1_count_37 : decode cX1_count 37 = .ok (.iadd, 1) := dk_96 (dk_at dksX1_count_1 15 rfl rfl)
theorem dX1_count_38 : decode cX1_count 38 = .ok (.istore_n 2, 1) := dk_61 (dk_at dksX1_count_1 16 rfl rfl)
theorem dX1_count_39 : decode cX1_count 39 = .ok (.iinc 3 1, 3) := dk_132 3 1 (dk_at dksX1_count_1 17 rfl rfl)
theorem dX1_count_42 : decode cX1_count 42 = .ok (.goto (-38), 3) := dk_167 255 218 (dk_at dksX1_count_1 20 rfl rfl)
theorem dX1_count_45 : decode cX1_count 45 = .ok (.iload_n 2, 1) := dk_28 (dk_at dksX1_count_1 23 rfl rfl)
theorem dX1_count_46 : decode cX1_count 46 = .ok (.ireturn, 1) := dk_172 (dk_at dksX1_count_2 0 rfl rfl)
abbrev cX1_answersAnew : ByteArray := prog_1_method_68_code
def yX1_answersAnew : MethodName := ⟨RX1, "answersAnew", "(IIII)I"⟩
def dkwX1_answersAnew_7 : List UInt8 := [54, 6, 132, 7, 1, 167, 255, 115, 21, 6, 172]
abbrev dktX1_answersAnew_7 : List UInt8 := dkwX1_answersAnew_7 ++ []
def dkwX1_answersAnew_6 : List UInt8 := [180, 0, 57, 183, 1, 63, 180, 1, 66, 28, 29, 184, 1, 165, 158, 0, 7, 4, 167, 0, 4, 3, 96]
abbrev dktX1_answersAnew_6 : List UInt8 := dkwX1_answersAnew_6 ++ dktX1_answersAnew_7
def dkwX1_answersAnew_5 : List UInt8 := [54, 10, 21, 6, 21, 10, 153, 0, 38, 187, 1, 61, 89, 25, 8, 180, 0, 182, 42, 180, 0, 53, 42]
abbrev dktX1_answersAnew_5 : List UInt8 := dkwX1_answersAnew_5 ++ dktX1_answersAnew_6
def dkwX1_answersAnew_4 : List UInt8 := [25, 5, 182, 0, 125, 153, 0, 17, 25, 9, 25, 5, 182, 0, 198, 153, 0, 7, 4, 167, 0, 4, 3]
abbrev dktX1_answersAnew_4 : List UInt8 := dkwX1_answersAnew_4 ++ dktX1_answersAnew_5
def dkwX1_answersAnew_3 : List UInt8 := [25, 8, 180, 0, 91, 154, 0, 41, 25, 8, 27, 182, 0, 220, 153, 0, 32, 25, 5, 198, 0, 23, 25, 8]
abbrev dktX1_answersAnew_3 : List UInt8 := dkwX1_answersAnew_3 ++ dktX1_answersAnew_4
def dkwX1_answersAnew_2 : List UInt8 := [185, 0, 79, 2, 0, 192, 0, 60, 58, 8, 42, 25, 8, 182, 0, 150, 58, 9, 25, 9, 198, 0, 49]
abbrev dktX1_answersAnew_2 : List UInt8 := dkwX1_answersAnew_2 ++ dktX1_answersAnew_3
def dkwX1_answersAnew_1 : List UInt8 := [21, 7, 42, 180, 0, 19, 185, 0, 71, 1, 0, 162, 0, 133, 42, 180, 0, 19, 21, 7]
abbrev dktX1_answersAnew_1 : List UInt8 := dkwX1_answersAnew_1 ++ dktX1_answersAnew_2
def dkwX1_answersAnew_0 : List UInt8 := [27, 184, 0, 217, 42, 21, 4, 182, 1, 172, 58, 5, 28, 29, 184, 1, 175, 3, 54, 6, 3, 54, 7]
abbrev dktX1_answersAnew_0 : List UInt8 := dkwX1_answersAnew_0 ++ dktX1_answersAnew_1
theorem dksX1_answersAnew_0 : cX1_answersAnew.data.toList.drop 0 = dktX1_answersAnew_0 := by decide +kernel
theorem dksX1_answersAnew_1 : cX1_answersAnew.data.toList.drop 23 = dktX1_answersAnew_1 := dk_seg dksX1_answersAnew_0 23 rfl rfl
theorem dksX1_answersAnew_2 : cX1_answersAnew.data.toList.drop 43 = dktX1_answersAnew_2 := dk_seg dksX1_answersAnew_1 20 rfl rfl
theorem dksX1_answersAnew_3 : cX1_answersAnew.data.toList.drop 66 = dktX1_answersAnew_3 := dk_seg dksX1_answersAnew_2 23 rfl rfl
theorem dksX1_answersAnew_4 : cX1_answersAnew.data.toList.drop 90 = dktX1_answersAnew_4 := dk_seg dksX1_answersAnew_3 24 rfl rfl
theorem dksX1_answersAnew_5 : cX1_answersAnew.data.toList.drop 113 = dktX1_answersAnew_5 := dk_seg dksX1_answersAnew_4 23 rfl rfl
theorem dksX1_answersAnew_6 : cX1_answersAnew.data.toList.drop 136 = dktX1_answersAnew_6 := dk_seg dksX1_answersAnew_5 23 rfl rfl
theorem dksX1_answersAnew_7 : cX1_answersAnew.data.toList.drop 159 = dktX1_answersAnew_7 := dk_seg dksX1_answersAnew_6 23 rfl rfl
theorem dX1_answersAnew_0 : decode cX1_answersAnew 0 = .ok (.iload_n 1, 1) := dk_27 (dk_at dksX1_answersAnew_0 0 rfl rfl)
theorem dX1_answersAnew_1 : decode cX1_answersAnew 1 = .ok (.invokestatic 217, 3) := dk_184 0 217 (dk_at dksX1_answersAnew_0 1 rfl rfl)
theorem dX1_answersAnew_4 : decode cX1_answersAnew 4 = .ok (.aload_n 0, 1) := dk_42 (dk_at dksX1_answersAnew_0 4 rfl rfl)
theorem dX1_answersAnew_5 : decode cX1_answersAnew 5 = .ok (.iload 4, 2) := dk_21 4 (dk_at dksX1_answersAnew_0 5 rfl rfl)
theorem dX1_answersAnew_7 : decode cX1_answersAnew 7 = .ok (.invokevirtual 428, 3) := dk_182 1 172 (dk_at dksX1_answersAnew_0 7 rfl rfl)
theorem dX1_answersAnew_10 : decode cX1_answersAnew 10 = .ok (.astore 5, 2) := dk_58 5 (dk_at dksX1_answersAnew_0 10 rfl rfl)
theorem dX1_answersAnew_12 : decode cX1_answersAnew 12 = .ok (.iload_n 2, 1) := dk_28 (dk_at dksX1_answersAnew_0 12 rfl rfl)
theorem dX1_answersAnew_13 : decode cX1_answersAnew 13 = .ok (.iload_n 3, 1) := dk_29 (dk_at dksX1_answersAnew_0 13 rfl rfl)
theorem dX1_answersAnew_14 : decode cX1_answersAnew 14 = .ok (.invokestatic 431, 3) := dk_184 1 175 (dk_at dksX1_answersAnew_0 14 rfl rfl)
theorem dX1_answersAnew_17 : decode cX1_answersAnew 17 = .ok (.iconst 0, 1) := dk_3 (dk_at dksX1_answersAnew_0 17 rfl rfl)
theorem dX1_answersAnew_18 : decode cX1_answersAnew 18 = .ok (.istore 6, 2) := dk_54 6 (dk_at dksX1_answersAnew_0 18 rfl rfl)
theorem dX1_answersAnew_20 : decode cX1_answersAnew 20 = .ok (.iconst 0, 1) := dk_3 (dk_at dksX1_answersAnew_0 20 rfl rfl)
theorem dX1_answersAnew_21 : decode cX1_answersAnew 21 = .ok (.istore 7, 2) := dk_54 7 (dk_at dksX1_answersAnew_0 21 rfl rfl)
theorem dX1_answersAnew_23 : decode cX1_answersAnew 23 = .ok (.iload 7, 2) := dk_21 7 (dk_at dksX1_answersAnew_1 0 rfl rfl)
theorem dX1_answersAnew_25 : decode cX1_answersAnew 25 = .ok (.aload_n 0, 1) := dk_42 (dk_at dksX1_answersAnew_1 2 rfl rfl)
theorem dX1_answersAnew_26 : decode cX1_answersAnew 26 = .ok (.getfield 19, 3) := dk_180 0 19 (dk_at dksX1_answersAnew_1 3 rfl rfl)
theorem dX1_answersAnew_29 : decode cX1_answersAnew 29 = .ok (.invokeinterface 71 1, 5) := by decide +kernel
theorem dX1_answersAnew_34 : decode cX1_answersAnew 34 = .ok (.if_icmp .ge 133, 3) := dk_162 0 133 (dk_at dksX1_answersAnew_1 11 rfl rfl)
theorem dX1_answersAnew_37 : decode cX1_answersAnew 37 = .ok (.aload_n 0, 1) := dk_42 (dk_at dksX1_answersAnew_1 14 rfl rfl)
theorem dX1_answersAnew_38 : decode cX1_answersAnew 38 = .ok (.getfield 19, 3) := dk_180 0 19 (dk_at dksX1_answersAnew_1 15 rfl rfl)
theorem dX1_answersAnew_41 : decode cX1_answersAnew 41 = .ok (.iload 7, 2) := dk_21 7 (dk_at dksX1_answersAnew_1 18 rfl rfl)
theorem dX1_answersAnew_43 : decode cX1_answersAnew 43 = .ok (.invokeinterface 79 2, 5) := by decide +kernel
theorem dX1_answersAnew_48 : decode cX1_answersAnew 48 = .ok (.checkcast 60, 3) := dk_192 0 60 (dk_at dksX1_answersAnew_2 5 rfl rfl)
theorem dX1_answersAnew_51 : decode cX1_answersAnew 51 = .ok (.astore 8, 2) := dk_58 8 (dk_at dksX1_answersAnew_2 8 rfl rfl)
theorem dX1_answersAnew_53 : decode cX1_answersAnew 53 = .ok (.aload_n 0, 1) := dk_42 (dk_at dksX1_answersAnew_2 10 rfl rfl)
theorem dX1_answersAnew_54 : decode cX1_answersAnew 54 = .ok (.aload 8, 2) := dk_25 8 (dk_at dksX1_answersAnew_2 11 rfl rfl)
theorem dX1_answersAnew_56 : decode cX1_answersAnew 56 = .ok (.invokevirtual 150, 3) := dk_182 0 150 (dk_at dksX1_answersAnew_2 13 rfl rfl)
theorem dX1_answersAnew_59 : decode cX1_answersAnew 59 = .ok (.astore 9, 2) := dk_58 9 (dk_at dksX1_answersAnew_2 16 rfl rfl)
theorem dX1_answersAnew_61 : decode cX1_answersAnew 61 = .ok (.aload 9, 2) := dk_25 9 (dk_at dksX1_answersAnew_2 18 rfl rfl)
theorem dX1_answersAnew_63 : decode cX1_answersAnew 63 = .ok (.ifnull 49, 3) := dk_198 0 49 (dk_at dksX1_answersAnew_2 20 rfl rfl)
theorem dX1_answersAnew_66 : decode cX1_answersAnew 66 = .ok (.aload 8, 2) := dk_25 8 (dk_at dksX1_answersAnew_3 0 rfl rfl)
theorem dX1_answersAnew_68 : decode cX1_answersAnew 68 = .ok (.getfield 91, 3) := dk_180 0 91 (dk_at dksX1_answersAnew_3 2 rfl rfl)
theorem dX1_answersAnew_71 : decode cX1_answersAnew 71 = .ok (.ifCond .ne 41, 3) := dk_154 0 41 (dk_at dksX1_answersAnew_3 5 rfl rfl)
theorem dX1_answersAnew_74 : decode cX1_answersAnew 74 = .ok (.aload 8, 2) := dk_25 8 (dk_at dksX1_answersAnew_3 8 rfl rfl)
theorem dX1_answersAnew_76 : decode cX1_answersAnew 76 = .ok (.iload_n 1, 1) := dk_27 (dk_at dksX1_answersAnew_3 10 rfl rfl)
theorem dX1_answersAnew_77 : decode cX1_answersAnew 77 = .ok (.invokevirtual 220, 3) := dk_182 0 220 (dk_at dksX1_answersAnew_3 11 rfl rfl)
theorem dX1_answersAnew_80 : decode cX1_answersAnew 80 = .ok (.ifCond .eq 32, 3) := dk_153 0 32 (dk_at dksX1_answersAnew_3 14 rfl rfl)
theorem dX1_answersAnew_83 : decode cX1_answersAnew 83 = .ok (.aload 5, 2) := dk_25 5 (dk_at dksX1_answersAnew_3 17 rfl rfl)
theorem dX1_answersAnew_85 : decode cX1_answersAnew 85 = .ok (.ifnull 23, 3) := dk_198 0 23 (dk_at dksX1_answersAnew_3 19 rfl rfl)
theorem dX1_answersAnew_88 : decode cX1_answersAnew 88 = .ok (.aload 8, 2) := dk_25 8 (dk_at dksX1_answersAnew_3 22 rfl rfl)
theorem dX1_answersAnew_90 : decode cX1_answersAnew 90 = .ok (.aload 5, 2) := dk_25 5 (dk_at dksX1_answersAnew_4 0 rfl rfl)
theorem dX1_answersAnew_92 : decode cX1_answersAnew 92 = .ok (.invokevirtual 125, 3) := dk_182 0 125 (dk_at dksX1_answersAnew_4 2 rfl rfl)
theorem dX1_answersAnew_95 : decode cX1_answersAnew 95 = .ok (.ifCond .eq 17, 3) := dk_153 0 17 (dk_at dksX1_answersAnew_4 5 rfl rfl)
theorem dX1_answersAnew_98 : decode cX1_answersAnew 98 = .ok (.aload 9, 2) := dk_25 9 (dk_at dksX1_answersAnew_4 8 rfl rfl)
theorem dX1_answersAnew_100 : decode cX1_answersAnew 100 = .ok (.aload 5, 2) := dk_25 5 (dk_at dksX1_answersAnew_4 10 rfl rfl)
theorem dX1_answersAnew_102 : decode cX1_answersAnew 102 = .ok (.invokevirtual 198, 3) := dk_182 0 198 (dk_at dksX1_answersAnew_4 12 rfl rfl)
theorem dX1_answersAnew_105 : decode cX1_answersAnew 105 = .ok (.ifCond .eq 7, 3) := dk_153 0 7 (dk_at dksX1_answersAnew_4 15 rfl rfl)
theorem dX1_answersAnew_108 : decode cX1_answersAnew 108 = .ok (.iconst 1, 1) := dk_4 (dk_at dksX1_answersAnew_4 18 rfl rfl)
theorem dX1_answersAnew_109 : decode cX1_answersAnew 109 = .ok (.goto 4, 3) := dk_167 0 4 (dk_at dksX1_answersAnew_4 19 rfl rfl)
theorem dX1_answersAnew_112 : decode cX1_answersAnew 112 = .ok (.iconst 0, 1) := dk_3 (dk_at dksX1_answersAnew_4 22 rfl rfl)
theorem dX1_answersAnew_113 : decode cX1_answersAnew 113 = .ok (.istore 10, 2) := dk_54 10 (dk_at dksX1_answersAnew_5 0 rfl rfl)
theorem dX1_answersAnew_115 : decode cX1_answersAnew 115 = .ok (.iload 6, 2) := dk_21 6 (dk_at dksX1_answersAnew_5 2 rfl rfl)
theorem dX1_answersAnew_117 : decode cX1_answersAnew 117 = .ok (.iload 10, 2) := dk_21 10 (dk_at dksX1_answersAnew_5 4 rfl rfl)
theorem dX1_answersAnew_119 : decode cX1_answersAnew 119 = .ok (.ifCond .eq 38, 3) := dk_153 0 38 (dk_at dksX1_answersAnew_5 6 rfl rfl)
theorem dX1_answersAnew_122 : decode cX1_answersAnew 122 = .ok (.new 317, 3) := dk_187 1 61 (dk_at dksX1_answersAnew_5 9 rfl rfl)
theorem dX1_answersAnew_125 : decode cX1_answersAnew 125 = .ok (.dup, 1) := dk_89 (dk_at dksX1_answersAnew_5 12 rfl rfl)
theorem dX1_answersAnew_126 : decode cX1_answersAnew 126 = .ok (.aload 8, 2) := dk_25 8 (dk_at dksX1_answersAnew_5 13 rfl rfl)
theorem dX1_answersAnew_128 : decode cX1_answersAnew 128 = .ok (.getfield 182, 3) := dk_180 0 182 (dk_at dksX1_answersAnew_5 15 rfl rfl)
theorem dX1_answersAnew_131 : decode cX1_answersAnew 131 = .ok (.aload_n 0, 1) := dk_42 (dk_at dksX1_answersAnew_5 18 rfl rfl)
theorem dX1_answersAnew_132 : decode cX1_answersAnew 132 = .ok (.getfield 53, 3) := dk_180 0 53 (dk_at dksX1_answersAnew_5 19 rfl rfl)
theorem dX1_answersAnew_135 : decode cX1_answersAnew 135 = .ok (.aload_n 0, 1) := dk_42 (dk_at dksX1_answersAnew_5 22 rfl rfl)
theorem dX1_answersAnew_136 : decode cX1_answersAnew 136 = .ok (.getfield 57, 3) := dk_180 0 57 (dk_at dksX1_answersAnew_6 0 rfl rfl)
theorem dX1_answersAnew_139 : decode cX1_answersAnew 139 = .ok (.invokespecial 319, 3) := dk_183 1 63 (dk_at dksX1_answersAnew_6 3 rfl rfl)
theorem dX1_answersAnew_142 : decode cX1_answersAnew 142 = .ok (.getfield 322, 3) := dk_180 1 66 (dk_at dksX1_answersAnew_6 6 rfl rfl)
theorem dX1_answersAnew_145 : decode cX1_answersAnew 145 = .ok (.iload_n 2, 1) := dk_28 (dk_at dksX1_answersAnew_6 9 rfl rfl)
theorem dX1_answersAnew_146 : decode cX1_answersAnew 146 = .ok (.iload_n 3, 1) := dk_29 (dk_at dksX1_answersAnew_6 10 rfl rfl)
theorem dX1_answersAnew_147 : decode cX1_answersAnew 147 = .ok (.invokestatic 421, 3) := dk_184 1 165 (dk_at dksX1_answersAnew_6 11 rfl rfl)
theorem dX1_answersAnew_150 : decode cX1_answersAnew 150 = .ok (.ifCond .le 7, 3) := dk_158 0 7 (dk_at dksX1_answersAnew_6 14 rfl rfl)
theorem dX1_answersAnew_153 : decode cX1_answersAnew 153 = .ok (.iconst 1, 1) := dk_4 (dk_at dksX1_answersAnew_6 17 rfl rfl)
theorem dX1_answersAnew_154 : decode cX1_answersAnew 154 = .ok (.goto 4, 3) := dk_167 0 4 (dk_at dksX1_answersAnew_6 18 rfl rfl)
theorem dX1_answersAnew_157 : decode cX1_answersAnew 157 = .ok (.iconst 0, 1) := dk_3 (dk_at dksX1_answersAnew_6 21 rfl rfl)
theorem dX1_answersAnew_158 : decode cX1_answersAnew 158 = .ok (.iadd, 1) := dk_96 (dk_at dksX1_answersAnew_6 22 rfl rfl)
theorem dX1_answersAnew_159 : decode cX1_answersAnew 159 = .ok (.istore 6, 2) := dk_54 6 (dk_at dksX1_answersAnew_7 0 rfl rfl)
theorem dX1_answersAnew_161 : decode cX1_answersAnew 161 = .ok (.iinc 7 1, 3) := dk_132 7 1 (dk_at dksX1_answersAnew_7 2 rfl rfl)
theorem dX1_answersAnew_164 : decode cX1_answersAnew 164 = .ok (.goto (-141), 3) := dk_167 255 115 (dk_at dksX1_answersAnew_7 5 rfl rfl)
theorem dX1_answersAnew_167 : decode cX1_answersAnew 167 = .ok (.iload 6, 2) := dk_21 6 (dk_at dksX1_answersAnew_7 8 rfl rfl)
theorem dX1_answersAnew_169 : decode cX1_answersAnew 169 = .ok (.ireturn, 1) := dk_172 (dk_at dksX1_answersAnew_7 10 rfl rfl)
abbrev cX1_answer_2 : ByteArray := prog_1_method_69_code
def yX1_answer_2 : MethodName := ⟨RX1, "answer", "(IIII)I"⟩
def dkwX1_answer_2_2 : List UInt8 := [192, 0, 186, 182, 1, 158, 172]
abbrev dktX1_answer_2_2 : List UInt8 := dkwX1_answer_2_2 ++ []
def dkwX1_answer_2_1 : List UInt8 := [185, 0, 71, 1, 0, 4, 100, 184, 0, 75, 184, 0, 94, 25, 5, 21, 4, 185, 0, 79, 2, 0]
abbrev dktX1_answer_2_1 : List UInt8 := dkwX1_answer_2_1 ++ dktX1_answer_2_2
def dkwX1_answer_2_0 : List UInt8 := [27, 184, 0, 217, 28, 29, 184, 1, 175, 42, 27, 28, 29, 1, 182, 1, 179, 58, 5, 21, 4, 3, 25, 5]
abbrev dktX1_answer_2_0 : List UInt8 := dkwX1_answer_2_0 ++ dktX1_answer_2_1
theorem dksX1_answer_2_0 : cX1_answer_2.data.toList.drop 0 = dktX1_answer_2_0 := by decide +kernel
theorem dksX1_answer_2_1 : cX1_answer_2.data.toList.drop 24 = dktX1_answer_2_1 := dk_seg dksX1_answer_2_0 24 rfl rfl
theorem dksX1_answer_2_2 : cX1_answer_2.data.toList.drop 46 = dktX1_answer_2_2 := dk_seg dksX1_answer_2_1 22 rfl rfl
theorem dX1_answer_2_0 : decode cX1_answer_2 0 = .ok (.iload_n 1, 1) := dk_27 (dk_at dksX1_answer_2_0 0 rfl rfl)
theorem dX1_answer_2_1 : decode cX1_answer_2 1 = .ok (.invokestatic 217, 3) := dk_184 0 217 (dk_at dksX1_answer_2_0 1 rfl rfl)
theorem dX1_answer_2_4 : decode cX1_answer_2 4 = .ok (.iload_n 2, 1) := dk_28 (dk_at dksX1_answer_2_0 4 rfl rfl)
theorem dX1_answer_2_5 : decode cX1_answer_2 5 = .ok (.iload_n 3, 1) := dk_29 (dk_at dksX1_answer_2_0 5 rfl rfl)
theorem dX1_answer_2_6 : decode cX1_answer_2 6 = .ok (.invokestatic 431, 3) := dk_184 1 175 (dk_at dksX1_answer_2_0 6 rfl rfl)
theorem dX1_answer_2_9 : decode cX1_answer_2 9 = .ok (.aload_n 0, 1) := dk_42 (dk_at dksX1_answer_2_0 9 rfl rfl)
theorem dX1_answer_2_10 : decode cX1_answer_2 10 = .ok (.iload_n 1, 1) := dk_27 (dk_at dksX1_answer_2_0 10 rfl rfl)
theorem dX1_answer_2_11 : decode cX1_answer_2 11 = .ok (.iload_n 2, 1) := dk_28 (dk_at dksX1_answer_2_0 11 rfl rfl)
theorem dX1_answer_2_12 : decode cX1_answer_2 12 = .ok (.iload_n 3, 1) := dk_29 (dk_at dksX1_answer_2_0 12 rfl rfl)
theorem dX1_answer_2_13 : decode cX1_answer_2 13 = .ok (.aconst_null, 1) := dk_1 (dk_at dksX1_answer_2_0 13 rfl rfl)
theorem dX1_answer_2_14 : decode cX1_answer_2 14 = .ok (.invokevirtual 435, 3) := dk_182 1 179 (dk_at dksX1_answer_2_0 14 rfl rfl)
theorem dX1_answer_2_17 : decode cX1_answer_2 17 = .ok (.astore 5, 2) := dk_58 5 (dk_at dksX1_answer_2_0 17 rfl rfl)
theorem dX1_answer_2_19 : decode cX1_answer_2 19 = .ok (.iload 4, 2) := dk_21 4 (dk_at dksX1_answer_2_0 19 rfl rfl)
theorem dX1_answer_2_21 : decode cX1_answer_2 21 = .ok (.iconst 0, 1) := dk_3 (dk_at dksX1_answer_2_0 21 rfl rfl)
theorem dX1_answer_2_22 : decode cX1_answer_2 22 = .ok (.aload 5, 2) := dk_25 5 (dk_at dksX1_answer_2_0 22 rfl rfl)
theorem dX1_answer_2_24 : decode cX1_answer_2 24 = .ok (.invokeinterface 71 1, 5) := by decide +kernel
theorem dX1_answer_2_29 : decode cX1_answer_2 29 = .ok (.iconst 1, 1) := dk_4 (dk_at dksX1_answer_2_1 5 rfl rfl)
theorem dX1_answer_2_30 : decode cX1_answer_2 30 = .ok (.isub, 1) := dk_100 (dk_at dksX1_answer_2_1 6 rfl rfl)
theorem dX1_answer_2_31 : decode cX1_answer_2 31 = .ok (.invokestatic 75, 3) := dk_184 0 75 (dk_at dksX1_answer_2_1 7 rfl rfl)
theorem dX1_answer_2_34 : decode cX1_answer_2 34 = .ok (.invokestatic 94, 3) := dk_184 0 94 (dk_at dksX1_answer_2_1 10 rfl rfl)
theorem dX1_answer_2_37 : decode cX1_answer_2 37 = .ok (.aload 5, 2) := dk_25 5 (dk_at dksX1_answer_2_1 13 rfl rfl)
theorem dX1_answer_2_39 : decode cX1_answer_2 39 = .ok (.iload 4, 2) := dk_21 4 (dk_at dksX1_answer_2_1 15 rfl rfl)
theorem dX1_answer_2_41 : decode cX1_answer_2 41 = .ok (.invokeinterface 79 2, 5) := by decide +kernel
theorem dX1_answer_2_46 : decode cX1_answer_2 46 = .ok (.checkcast 186, 3) := dk_192 0 186 (dk_at dksX1_answer_2_2 0 rfl rfl)
theorem dX1_answer_2_49 : decode cX1_answer_2 49 = .ok (.invokevirtual 414, 3) := dk_182 1 158 (dk_at dksX1_answer_2_2 3 rfl rfl)
theorem dX1_answer_2_52 : decode cX1_answer_2 52 = .ok (.ireturn, 1) := dk_172 (dk_at dksX1_answer_2_2 6 rfl rfl)
abbrev cX1_closest : ByteArray := prog_1_method_70_code
def yX1_closest : MethodName := ⟨RX1, "closest", "(IIII)I"⟩
def dkwX1_closest_11 : List UInt8 := [167, 255, 96, 132, 9, 1, 167, 255, 72, 21, 7, 172]
abbrev dktX1_closest_11 : List UInt8 := dkwX1_closest_11 ++ []
def dkwX1_closest_10 : List UInt8 := [96, 167, 0, 11, 16, 100, 21, 10, 104, 21, 9, 96, 54, 7, 21, 10, 21, 9, 100, 54, 8, 132, 10, 1]
abbrev dktX1_closest_10 : List UInt8 := dkwX1_closest_10 ++ dktX1_closest_11
def dkwX1_closest_9 : List UInt8 := [54, 12, 21, 11, 154, 0, 8, 21, 12, 153, 0, 36, 21, 11, 153, 0, 14, 16, 100, 21, 9, 104, 21, 10]
abbrev dktX1_closest_9 : List UInt8 := dkwX1_closest_9 ++ dktX1_closest_10
def dkwX1_closest_8 : List UInt8 := [25, 6, 21, 10, 185, 0, 79, 2, 0, 192, 0, 186, 182, 1, 158, 29, 160, 0, 7, 4, 167, 0, 4, 3]
abbrev dktX1_closest_8 : List UInt8 := dkwX1_closest_8 ++ dktX1_closest_9
def dkwX1_closest_7 : List UInt8 := [3, 54, 11, 25, 6, 21, 9, 185, 0, 79, 2, 0, 192, 0, 186, 182, 1, 158, 21, 4, 160, 0, 26]
abbrev dktX1_closest_7 : List UInt8 := dkwX1_closest_7 ++ dktX1_closest_8
def dkwX1_closest_6 : List UInt8 := [25, 6, 21, 10, 185, 0, 79, 2, 0, 192, 0, 186, 182, 1, 158, 21, 4, 160, 0, 7, 4, 167, 0, 4]
abbrev dktX1_closest_6 : List UInt8 := dkwX1_closest_6 ++ dktX1_closest_7
def dkwX1_closest_5 : List UInt8 := [21, 8, 162, 0, 144, 25, 6, 21, 9, 185, 0, 79, 2, 0, 192, 0, 186, 182, 1, 158, 29, 160, 0, 27]
abbrev dktX1_closest_5 : List UInt8 := dkwX1_closest_5 ++ dktX1_closest_6
def dkwX1_closest_4 : List UInt8 := [21, 9, 4, 96, 54, 10, 21, 10, 25, 6, 185, 0, 71, 1, 0, 162, 0, 154, 21, 10, 21, 9, 100]
abbrev dktX1_closest_4 : List UInt8 := dkwX1_closest_4 ++ dktX1_closest_5
def dkwX1_closest_3 : List UInt8 := [58, 6, 2, 54, 7, 16, 20, 54, 8, 3, 54, 9, 21, 9, 25, 6, 185, 0, 71, 1, 0, 162, 0, 178]
abbrev dktX1_closest_3 : List UInt8 := dkwX1_closest_3 ++ dktX1_closest_4
def dkwX1_closest_2 : List UInt8 := [50, 199, 0, 13, 187, 0, 16, 89, 183, 0, 18, 167, 0, 12, 42, 180, 0, 33, 28, 50, 180, 1, 69]
abbrev dktX1_closest_2 : List UInt8 := dkwX1_closest_2 ++ dktX1_closest_3
def dkwX1_closest_1 : List UInt8 := [153, 0, 15, 21, 4, 184, 0, 175, 153, 0, 7, 4, 167, 0, 4, 3, 184, 0, 140, 42, 180, 0, 33, 28]
abbrev dktX1_closest_1 : List UInt8 := dkwX1_closest_1 ++ dktX1_closest_2
def dkwX1_closest_0 : List UInt8 := [27, 184, 0, 217, 42, 28, 182, 0, 172, 58, 5, 25, 5, 27, 182, 0, 220, 184, 0, 94, 29, 184, 0, 175]
abbrev dktX1_closest_0 : List UInt8 := dkwX1_closest_0 ++ dktX1_closest_1
theorem dksX1_closest_0 : cX1_closest.data.toList.drop 0 = dktX1_closest_0 := by decide +kernel
theorem dksX1_closest_1 : cX1_closest.data.toList.drop 24 = dktX1_closest_1 := dk_seg dksX1_closest_0 24 rfl rfl
theorem dksX1_closest_2 : cX1_closest.data.toList.drop 48 = dktX1_closest_2 := dk_seg dksX1_closest_1 24 rfl rfl
theorem dksX1_closest_3 : cX1_closest.data.toList.drop 71 = dktX1_closest_3 := dk_seg dksX1_closest_2 23 rfl rfl
theorem dksX1_closest_4 : cX1_closest.data.toList.drop 95 = dktX1_closest_4 := dk_seg dksX1_closest_3 24 rfl rfl
theorem dksX1_closest_5 : cX1_closest.data.toList.drop 118 = dktX1_closest_5 := dk_seg dksX1_closest_4 23 rfl rfl
theorem dksX1_closest_6 : cX1_closest.data.toList.drop 142 = dktX1_closest_6 := dk_seg dksX1_closest_5 24 rfl rfl
theorem dksX1_closest_7 : cX1_closest.data.toList.drop 166 = dktX1_closest_7 := dk_seg dksX1_closest_6 24 rfl rfl
theorem dksX1_closest_8 : cX1_closest.data.toList.drop 189 = dktX1_closest_8 := dk_seg dksX1_closest_7 23 rfl rfl
theorem dksX1_closest_9 : cX1_closest.data.toList.drop 213 = dktX1_closest_9 := dk_seg dksX1_closest_8 24 rfl rfl
theorem dksX1_closest_10 : cX1_closest.data.toList.drop 237 = dktX1_closest_10 := dk_seg dksX1_closest_9 24 rfl rfl
theorem dksX1_closest_11 : cX1_closest.data.toList.drop 261 = dktX1_closest_11 := dk_seg dksX1_closest_10 24 rfl rfl
theorem dX1_closest_0 : decode cX1_closest 0 = .ok (.iload_n 1, 1) := dk_27 (dk_at dksX1_closest_0 0 rfl rfl)
theorem dX1_closest_1 : decode cX1_closest 1 = .ok (.invokestatic 217, 3) := dk_184 0 217 (dk_at dksX1_closest_0 1 rfl rfl)
theorem dX1_closest_4 : decode cX1_closest 4 = .ok (.aload_n 0, 1) := dk_42 (dk_at dksX1_closest_0 4 rfl rfl)
theorem dX1_closest_5 : decode cX1_closest 5 = .ok (.iload_n 2, 1) := dk_28 (dk_at dksX1_closest_0 5 rfl rfl)
theorem dX1_closest_6 : decode cX1_closest 6 = .ok (.invokevirtual 172, 3) := dk_182 0 172 (dk_at dksX1_closest_0 6 rfl rfl)
theorem dX1_closest_9 : decode cX1_closest 9 = .ok (.astore 5, 2) := dk_58 5 (dk_at dksX1_closest_0 9 rfl rfl)
theorem dX1_closest_11 : decode cX1_closest 11 = .ok (.aload 5, 2) := dk_25 5 (dk_at dksX1_closest_0 11 rfl rfl)
theorem dX1_closest_13 : decode cX1_closest 13 = .ok (.iload_n 1, 1) := dk_27 (dk_at dksX1_closest_0 13 rfl rfl)
theorem dX1_closest_14 : decode cX1_closest 14 = .ok (.invokevirtual 220, 3) := dk_182 0 220 (dk_at dksX1_closest_0 14 rfl rfl)
theorem dX1_closest_17 : decode cX1_closest 17 = .ok (.invokestatic 94, 3) := dk_184 0 94 (dk_at dksX1_closest_0 17 rfl rfl)
theorem dX1_closest_20 : decode cX1_closest 20 = .ok (.iload_n 3, 1) := dk_29 (dk_at dksX1_closest_0 20 rfl rfl)
theorem dX1_closest_21 : decode cX1_closest 21 = .ok (.invokestatic 175, 3) := dk_184 0 175 (dk_at dksX1_closest_0 21 rfl rfl)
theorem dX1_closest_24 : decode cX1_closest 24 = .ok (.ifCond .eq 15, 3) := dk_153 0 15 (dk_at dksX1_closest_1 0 rfl rfl)
theorem dX1_closest_27 : decode cX1_closest 27 = .ok (.iload 4, 2) := dk_21 4 (dk_at dksX1_closest_1 3 rfl rfl)
theorem dX1_closest_29 : decode cX1_closest 29 = .ok (.invokestatic 175, 3) := dk_184 0 175 (dk_at dksX1_closest_1 5 rfl rfl)
theorem dX1_closest_32 : decode cX1_closest 32 = .ok (.ifCond .eq 7, 3) := dk_153 0 7 (dk_at dksX1_closest_1 8 rfl rfl)
theorem dX1_closest_35 : decode cX1_closest 35 = .ok (.iconst 1, 1) := dk_4 (dk_at dksX1_closest_1 11 rfl rfl)
theorem dX1_closest_36 : decode cX1_closest 36 = .ok (.goto 4, 3) := dk_167 0 4 (dk_at dksX1_closest_1 12 rfl rfl)
theorem dX1_closest_39 : decode cX1_closest 39 = .ok (.iconst 0, 1) := dk_3 (dk_at dksX1_closest_1 15 rfl rfl)
theorem dX1_closest_40 : decode cX1_closest 40 = .ok (.invokestatic 140, 3) := dk_184 0 140 (dk_at dksX1_closest_1 16 rfl rfl)
theorem dX1_closest_43 : decode cX1_closest 43 = .ok (.aload_n 0, 1) := dk_42 (dk_at dksX1_closest_1 19 rfl rfl)
theorem dX1_closest_44 : decode cX1_closest 44 = .ok (.getfield 33, 3) := dk_180 0 33 (dk_at dksX1_closest_1 20 rfl rfl)
theorem dX1_closest_47 : decode cX1_closest 47 = .ok (.iload_n 2, 1) := dk_28 (dk_at dksX1_closest_1 23 rfl rfl)
theorem dX1_closest_48 : decode cX1_closest 48 = .ok (.aaload, 1) := dk_50 (dk_at dksX1_closest_2 0 rfl rfl)
theorem dX1_closest_49 : decode cX1_closest 49 = .ok (.ifnonnull 13, 3) := dk_199 0 13 (dk_at dksX1_closest_2 1 rfl rfl)
theorem dX1_closest_52 : decode cX1_closest 52 = .ok (.new 16, 3) := dk_187 0 16 (dk_at dksX1_closest_2 4 rfl rfl)
theorem dX1_closest_55 : decode cX1_closest 55 = .ok (.dup, 1) := dk_89 (dk_at dksX1_closest_2 7 rfl rfl)
theorem dX1_closest_56 : decode cX1_closest 56 = .ok (.invokespecial 18, 3) := dk_183 0 18 (dk_at dksX1_closest_2 8 rfl rfl)
theorem dX1_closest_59 : decode cX1_closest 59 = .ok (.goto 12, 3) := dk_167 0 12 (dk_at dksX1_closest_2 11 rfl rfl)
theorem dX1_closest_62 : decode cX1_closest 62 = .ok (.aload_n 0, 1) := dk_42 (dk_at dksX1_closest_2 14 rfl rfl)
theorem dX1_closest_63 : decode cX1_closest 63 = .ok (.getfield 33, 3) := dk_180 0 33 (dk_at dksX1_closest_2 15 rfl rfl)
theorem dX1_closest_66 : decode cX1_closest 66 = .ok (.iload_n 2, 1) := dk_28 (dk_at dksX1_closest_2 18 rfl rfl)
theorem dX1_closest_67 : decode cX1_closest 67 = .ok (.aaload, 1) := dk_50 (dk_at dksX1_closest_2 19 rfl rfl)
theorem dX1_closest_68 : decode cX1_closest 68 = .ok (.getfield 325, 3) := dk_180 1 69 (dk_at dksX1_closest_2 20 rfl rfl)
theorem dX1_closest_71 : decode cX1_closest 71 = .ok (.astore 6, 2) := dk_58 6 (dk_at dksX1_closest_3 0 rfl rfl)
theorem dX1_closest_73 : decode cX1_closest 73 = .ok (.iconst (-1), 1) := dk_2 (dk_at dksX1_closest_3 2 rfl rfl)
theorem dX1_closest_74 : decode cX1_closest 74 = .ok (.istore 7, 2) := dk_54 7 (dk_at dksX1_closest_3 3 rfl rfl)
theorem dX1_closest_76 : decode cX1_closest 76 = .ok (.bipush 20, 2) := dk_16 20 (dk_at dksX1_closest_3 5 rfl rfl)
theorem dX1_closest_78 : decode cX1_closest 78 = .ok (.istore 8, 2) := dk_54 8 (dk_at dksX1_closest_3 7 rfl rfl)
theorem dX1_closest_80 : decode cX1_closest 80 = .ok (.iconst 0, 1) := dk_3 (dk_at dksX1_closest_3 9 rfl rfl)
theorem dX1_closest_81 : decode cX1_closest 81 = .ok (.istore 9, 2) := dk_54 9 (dk_at dksX1_closest_3 10 rfl rfl)
theorem dX1_closest_83 : decode cX1_closest 83 = .ok (.iload 9, 2) := dk_21 9 (dk_at dksX1_closest_3 12 rfl rfl)
theorem dX1_closest_85 : decode cX1_closest 85 = .ok (.aload 6, 2) := dk_25 6 (dk_at dksX1_closest_3 14 rfl rfl)
theorem dX1_closest_87 : decode cX1_closest 87 = .ok (.invokeinterface 71 1, 5) := by decide +kernel
theorem dX1_closest_92 : decode cX1_closest 92 = .ok (.if_icmp .ge 178, 3) := dk_162 0 178 (dk_at dksX1_closest_3 21 rfl rfl)
theorem dX1_closest_95 : decode cX1_closest 95 = .ok (.iload 9, 2) := dk_21 9 (dk_at dksX1_closest_4 0 rfl rfl)
theorem dX1_closest_97 : decode cX1_closest 97 = .ok (.iconst 1, 1) := dk_4 (dk_at dksX1_closest_4 2 rfl rfl)
theorem dX1_closest_98 : decode cX1_closest 98 = .ok (.iadd, 1) := dk_96 (dk_at dksX1_closest_4 3 rfl rfl)
theorem dX1_closest_99 : decode cX1_closest 99 = .ok (.istore 10, 2) := dk_54 10 (dk_at dksX1_closest_4 4 rfl rfl)
theorem dX1_closest_101 : decode cX1_closest 101 = .ok (.iload 10, 2) := dk_21 10 (dk_at dksX1_closest_4 6 rfl rfl)
theorem dX1_closest_103 : decode cX1_closest 103 = .ok (.aload 6, 2) := dk_25 6 (dk_at dksX1_closest_4 8 rfl rfl)
theorem dX1_closest_105 : decode cX1_closest 105 = .ok (.invokeinterface 71 1, 5) := by decide +kernel
theorem dX1_closest_110 : decode cX1_closest 110 = .ok (.if_icmp .ge 154, 3) := dk_162 0 154 (dk_at dksX1_closest_4 15 rfl rfl)
theorem dX1_closest_113 : decode cX1_closest 113 = .ok (.iload 10, 2) := dk_21 10 (dk_at dksX1_closest_4 18 rfl rfl)
theorem dX1_closest_115 : decode cX1_closest 115 = .ok (.iload 9, 2) := dk_21 9 (dk_at dksX1_closest_4 20 rfl rfl)
theorem dX1_closest_117 : decode cX1_closest 117 = .ok (.isub, 1) := dk_100 (dk_at dksX1_closest_4 22 rfl rfl)
theorem dX1_closest_118 : decode cX1_closest 118 = .ok (.iload 8, 2) := dk_21 8 (dk_at dksX1_closest_5 0 rfl rfl)
theorem dX1_closest_120 : decode cX1_closest 120 = .ok (.if_icmp .ge 144, 3) := dk_162 0 144 (dk_at dksX1_closest_5 2 rfl rfl)
theorem dX1_closest_123 : decode cX1_closest 123 = .ok (.aload 6, 2) := dk_25 6 (dk_at dksX1_closest_5 5 rfl rfl)
theorem dX1_closest_125 : decode cX1_closest 125 = .ok (.iload 9, 2) := dk_21 9 (dk_at dksX1_closest_5 7 rfl rfl)
theorem dX1_closest_127 : decode cX1_closest 127 = .ok (.invokeinterface 79 2, 5) := by decide +kernel
theorem dX1_closest_132 : decode cX1_closest 132 = .ok (.checkcast 186, 3) := dk_192 0 186 (dk_at dksX1_closest_5 14 rfl rfl)
theorem dX1_closest_135 : decode cX1_closest 135 = .ok (.invokevirtual 414, 3) := dk_182 1 158 (dk_at dksX1_closest_5 17 rfl rfl)
theorem dX1_closest_138 : decode cX1_closest 138 = .ok (.iload_n 3, 1) := dk_29 (dk_at dksX1_closest_5 20 rfl rfl)
theorem dX1_closest_139 : decode cX1_closest 139 = .ok (.if_icmp .ne 27, 3) := dk_160 0 27 (dk_at dksX1_closest_5 21 rfl rfl)
theorem dX1_closest_142 : decode cX1_closest 142 = .ok (.aload 6, 2) := dk_25 6 (dk_at dksX1_closest_6 0 rfl rfl)
theorem dX1_closest_144 : decode cX1_closest 144 = .ok (.iload 10, 2) := dk_21 10 (dk_at dksX1_closest_6 2 rfl rfl)
theorem dX1_closest_146 : decode cX1_closest 146 = .ok (.invokeinterface 79 2, 5) := by decide +kernel
theorem dX1_closest_151 : decode cX1_closest 151 = .ok (.checkcast 186, 3) := dk_192 0 186 (dk_at dksX1_closest_6 9 rfl rfl)
theorem dX1_closest_154 : decode cX1_closest 154 = .ok (.invokevirtual 414, 3) := dk_182 1 158 (dk_at dksX1_closest_6 12 rfl rfl)
theorem dX1_closest_157 : decode cX1_closest 157 = .ok (.iload 4, 2) := dk_21 4 (dk_at dksX1_closest_6 15 rfl rfl)
theorem dX1_closest_159 : decode cX1_closest 159 = .ok (.if_icmp .ne 7, 3) := dk_160 0 7 (dk_at dksX1_closest_6 17 rfl rfl)
theorem dX1_closest_162 : decode cX1_closest 162 = .ok (.iconst 1, 1) := dk_4 (dk_at dksX1_closest_6 20 rfl rfl)
theorem dX1_closest_163 : decode cX1_closest 163 = .ok (.goto 4, 3) := dk_167 0 4 (dk_at dksX1_closest_6 21 rfl rfl)
theorem dX1_closest_166 : decode cX1_closest 166 = .ok (.iconst 0, 1) := dk_3 (dk_at dksX1_closest_7 0 rfl rfl)
theorem dX1_closest_167 : decode cX1_closest 167 = .ok (.istore 11, 2) := dk_54 11 (dk_at dksX1_closest_7 1 rfl rfl)
theorem dX1_closest_169 : decode cX1_closest 169 = .ok (.aload 6, 2) := dk_25 6 (dk_at dksX1_closest_7 3 rfl rfl)
theorem dX1_closest_171 : decode cX1_closest 171 = .ok (.iload 9, 2) := dk_21 9 (dk_at dksX1_closest_7 5 rfl rfl)
theorem dX1_closest_173 : decode cX1_closest 173 = .ok (.invokeinterface 79 2, 5) := by decide +kernel
theorem dX1_closest_178 : decode cX1_closest 178 = .ok (.checkcast 186, 3) := dk_192 0 186 (dk_at dksX1_closest_7 12 rfl rfl)
theorem dX1_closest_181 : decode cX1_closest 181 = .ok (.invokevirtual 414, 3) := dk_182 1 158 (dk_at dksX1_closest_7 15 rfl rfl)
theorem dX1_closest_184 : decode cX1_closest 184 = .ok (.iload 4, 2) := dk_21 4 (dk_at dksX1_closest_7 18 rfl rfl)
theorem dX1_closest_186 : decode cX1_closest 186 = .ok (.if_icmp .ne 26, 3) := dk_160 0 26 (dk_at dksX1_closest_7 20 rfl rfl)
theorem dX1_closest_189 : decode cX1_closest 189 = .ok (.aload 6, 2) := dk_25 6 (dk_at dksX1_closest_8 0 rfl rfl)
theorem dX1_closest_191 : decode cX1_closest 191 = .ok (.iload 10, 2) := dk_21 10 (dk_at dksX1_closest_8 2 rfl rfl)
theorem dX1_closest_193 : decode cX1_closest 193 = .ok (.invokeinterface 79 2, 5) := by decide +kernel
theorem dX1_closest_198 : decode cX1_closest 198 = .ok (.checkcast 186, 3) := dk_192 0 186 (dk_at dksX1_closest_8 9 rfl rfl)
theorem dX1_closest_201 : decode cX1_closest 201 = .ok (.invokevirtual 414, 3) := dk_182 1 158 (dk_at dksX1_closest_8 12 rfl rfl)
theorem dX1_closest_204 : decode cX1_closest 204 = .ok (.iload_n 3, 1) := dk_29 (dk_at dksX1_closest_8 15 rfl rfl)
theorem dX1_closest_205 : decode cX1_closest 205 = .ok (.if_icmp .ne 7, 3) := dk_160 0 7 (dk_at dksX1_closest_8 16 rfl rfl)
theorem dX1_closest_208 : decode cX1_closest 208 = .ok (.iconst 1, 1) := dk_4 (dk_at dksX1_closest_8 19 rfl rfl)
theorem dX1_closest_209 : decode cX1_closest 209 = .ok (.goto 4, 3) := dk_167 0 4 (dk_at dksX1_closest_8 20 rfl rfl)
theorem dX1_closest_212 : decode cX1_closest 212 = .ok (.iconst 0, 1) := dk_3 (dk_at dksX1_closest_8 23 rfl rfl)
theorem dX1_closest_213 : decode cX1_closest 213 = .ok (.istore 12, 2) := dk_54 12 (dk_at dksX1_closest_9 0 rfl rfl)
theorem dX1_closest_215 : decode cX1_closest 215 = .ok (.iload 11, 2) := dk_21 11 (dk_at dksX1_closest_9 2 rfl rfl)
theorem dX1_closest_217 : decode cX1_closest 217 = .ok (.ifCond .ne 8, 3) := dk_154 0 8 (dk_at dksX1_closest_9 4 rfl rfl)
theorem dX1_closest_220 : decode cX1_closest 220 = .ok (.iload 12, 2) := dk_21 12 (dk_at dksX1_closest_9 7 rfl rfl)
theorem dX1_closest_222 : decode cX1_closest 222 = .ok (.ifCond .eq 36, 3) := dk_153 0 36 (dk_at dksX1_closest_9 9 rfl rfl)
theorem dX1_closest_225 : decode cX1_closest 225 = .ok (.iload 11, 2) := dk_21 11 (dk_at dksX1_closest_9 12 rfl rfl)
theorem dX1_closest_227 : decode cX1_closest 227 = .ok (.ifCond .eq 14, 3) := dk_153 0 14 (dk_at dksX1_closest_9 14 rfl rfl)
theorem dX1_closest_230 : decode cX1_closest 230 = .ok (.bipush 100, 2) := dk_16 100 (dk_at dksX1_closest_9 17 rfl rfl)
theorem dX1_closest_232 : decode cX1_closest 232 = .ok (.iload 9, 2) := dk_21 9 (dk_at dksX1_closest_9 19 rfl rfl)
theorem dX1_closest_234 : decode cX1_closest 234 = .ok (.imul, 1) := dk_104 (dk_at dksX1_closest_9 21 rfl rfl)
theorem dX1_closest_235 : decode cX1_closest 235 = .ok (.iload 10, 2) := dk_21 10 (dk_at dksX1_closest_9 22 rfl rfl)
theorem dX1_closest_237 : decode cX1_closest 237 = .ok (.iadd, 1) := dk_96 (dk_at dksX1_closest_10 0 rfl rfl)
theorem dX1_closest_238 : decode cX1_closest 238 = .ok (.goto 11, 3) := dk_167 0 11 (dk_at dksX1_closest_10 1 rfl rfl)
theorem dX1_closest_241 : decode cX1_closest 241 = .ok (.bipush 100, 2) := dk_16 100 (dk_at dksX1_closest_10 4 rfl rfl)
theorem dX1_closest_243 : decode cX1_closest 243 = .ok (.iload 10, 2) := dk_21 10 (dk_at dksX1_closest_10 6 rfl rfl)
theorem dX1_closest_245 : decode cX1_closest 245 = .ok (.imul, 1) := dk_104 (dk_at dksX1_closest_10 8 rfl rfl)
theorem dX1_closest_246 : decode cX1_closest 246 = .ok (.iload 9, 2) := dk_21 9 (dk_at dksX1_closest_10 9 rfl rfl)
theorem dX1_closest_248 : decode cX1_closest 248 = .ok (.iadd, 1) := dk_96 (dk_at dksX1_closest_10 11 rfl rfl)
theorem dX1_closest_249 : decode cX1_closest 249 = .ok (.istore 7, 2) := dk_54 7 (dk_at dksX1_closest_10 12 rfl rfl)
theorem dX1_closest_251 : decode cX1_closest 251 = .ok (.iload 10, 2) := dk_21 10 (dk_at dksX1_closest_10 14 rfl rfl)
theorem dX1_closest_253 : decode cX1_closest 253 = .ok (.iload 9, 2) := dk_21 9 (dk_at dksX1_closest_10 16 rfl rfl)
theorem dX1_closest_255 : decode cX1_closest 255 = .ok (.isub, 1) := dk_100 (dk_at dksX1_closest_10 18 rfl rfl)
theorem dX1_closest_256 : decode cX1_closest 256 = .ok (.istore 8, 2) := dk_54 8 (dk_at dksX1_closest_10 19 rfl rfl)
theorem dX1_closest_258 : decode cX1_closest 258 = .ok (.iinc 10 1, 3) := dk_132 10 1 (dk_at dksX1_closest_10 21 rfl rfl)
theorem dX1_closest_261 : decode cX1_closest 261 = .ok (.goto (-160), 3) := dk_167 255 96 (dk_at dksX1_closest_11 0 rfl rfl)
theorem dX1_closest_264 : decode cX1_closest 264 = .ok (.iinc 9 1, 3) := dk_132 9 1 (dk_at dksX1_closest_11 3 rfl rfl)
theorem dX1_closest_267 : decode cX1_closest 267 = .ok (.goto (-184), 3) := dk_167 255 72 (dk_at dksX1_closest_11 6 rfl rfl)
theorem dX1_closest_270 : decode cX1_closest 270 = .ok (.iload 7, 2) := dk_21 7 (dk_at dksX1_closest_11 9 rfl rfl)
theorem dX1_closest_272 : decode cX1_closest 272 = .ok (.ireturn, 1) := dk_172 (dk_at dksX1_closest_11 11 rfl rfl)
theorem q95 : (Jvm.Cond.initialized "SearchKeeper") ∈ lw_all := lw_g (lw_at lw_m1 1 rfl) rfl
theorem q144 : (Jvm.Cond.instantiable "SearchKeeper" (12 : Nat)) ∈ lw_all := lw_g (lw_at lw_m1 50 rfl) rfl
theorem q146 : (Jvm.Cond.instanceMethod ({ cls := "SearchKeeper", name := "<init>", desc := "()V" } : Jvm.MethodName)) ∈ lw_all := lw_g (lw_at lw_m1 52 rfl) rfl
theorem q147 : (Jvm.Cond.code ({ cls := "SearchKeeper", name := "<init>", desc := "()V" } : Jvm.MethodName) prog_1_method_5_code (1 : Nat) (Option.none : Option Jvm.ClassFile.FieldType)) ∈ lw_all := lw_g (lw_at lw_m1 53 rfl) rfl
theorem q148 : (Jvm.Cond.methodLink "SearchKeeper" (13 : Nat) ({ cls := "java/lang/Object", name := "<init>", desc := "()V" } : Jvm.MethodName)) ∈ lw_all := lw_g (lw_at lw_m1 54 rfl) rfl
theorem q151 : (Jvm.Cond.classLink "SearchKeeper" (16 : Nat) "java/util/ArrayList") ∈ lw_all := lw_g (lw_at lw_m1 57 rfl) rfl
theorem q153 : (Jvm.Cond.methodLink "SearchKeeper" (18 : Nat) ({ cls := "java/util/ArrayList", name := "<init>", desc := "()V" } : Jvm.MethodName)) ∈ lw_all := lw_g (lw_at lw_m1 59 rfl) rfl
theorem q184 : (Jvm.Cond.classLink "SearchKeeper" (25 : Nat) "java/util/LinkedList") ∈ lw_all := lw_g (lw_at lw_m1 90 rfl) rfl
theorem q186 : (Jvm.Cond.methodLink "SearchKeeper" (27 : Nat) ({ cls := "java/util/LinkedList", name := "<init>", desc := "()V" } : Jvm.MethodName)) ∈ lw_all := lw_g (lw_at lw_m1 92 rfl) rfl
theorem q205 : (Jvm.Cond.classLink "SearchKeeper" (31 : Nat) "SearchKeeper$Entry") ∈ lw_all := lw_g (lw_at lw_m1 111 rfl) rfl
theorem q207 : (Jvm.Cond.classLink "SearchKeeper" (44 : Nat) "java/util/BitSet") ∈ lw_all := lw_g (lw_at lw_m1 113 rfl) rfl
theorem q209 : (Jvm.Cond.methodLink "SearchKeeper" (46 : Nat) ({ cls := "java/util/BitSet", name := "<init>", desc := "(I)V" } : Jvm.MethodName)) ∈ lw_all := lw_g (lw_at lw_m1 115 rfl) rfl
theorem q231 : (Jvm.Cond.classLink "SearchKeeper" (60 : Nat) "SearchKeeper$Node") ∈ lw_all := lw_g (lw_at lw_m1 137 rfl) rfl
theorem q233 : (Jvm.Cond.methodLink "SearchKeeper" (62 : Nat) ({ cls := "SearchKeeper$Node", name := "<init>", desc := "(IZ)V" } : Jvm.MethodName)) ∈ lw_all := lw_g (lw_at lw_m1 139 rfl) rfl
theorem q240 : (Jvm.Cond.fieldLinkNest "SearchKeeper" (163 : Nat) "SearchKeeper$Node" "number" "I" "SearchKeeper") ∈ lw_tbl := lw_at lw_m1 146 rfl
theorem q242 : (Jvm.Cond.fieldLinkNest "SearchKeeper" (91 : Nat) "SearchKeeper$Node" "isFolder" "Z" "SearchKeeper") ∈ lw_tbl := lw_at lw_m1 148 rfl
theorem q244 : (Jvm.Cond.fieldLinkNest "SearchKeeper" (98 : Nat) "SearchKeeper$Node" "parent" "LSearchKeeper$Node;" "SearchKeeper") ∈ lw_tbl := lw_at lw_m1 150 rfl
theorem q245 : (Jvm.Cond.fieldLinkNest "SearchKeeper" (102 : Nat) "SearchKeeper$Node" "name" "C" "SearchKeeper") ∈ lw_tbl := lw_at lw_m1 151 rfl
theorem q247 : (Jvm.Cond.fieldLinkNest "SearchKeeper" (166 : Nat) "SearchKeeper$Node" "edition" "I" "SearchKeeper") ∈ lw_tbl := lw_at lw_m1 153 rfl
theorem q249 : (Jvm.Cond.fieldLinkNest "SearchKeeper" (182 : Nat) "SearchKeeper$Node" "marks" "Ljava/util/List;" "SearchKeeper") ∈ lw_tbl := lw_at lw_m1 155 rfl
theorem q250 : (Jvm.Cond.fieldLinkNest "SearchKeeper" (179 : Nat) "SearchKeeper$Node" "isLocked" "Z" "SearchKeeper") ∈ lw_tbl := lw_at lw_m1 156 rfl
theorem q252 : (Jvm.Cond.fieldLinkNest "SearchKeeper" (214 : Nat) "SearchKeeper$Node" "people" "I" "SearchKeeper") ∈ lw_tbl := lw_at lw_m1 158 rfl
theorem q253 : (Jvm.Cond.fieldLinkNest "SearchKeeper" (83 : Nat) "SearchKeeper$Node" "isGone" "Z" "SearchKeeper") ∈ lw_tbl := lw_at lw_m1 159 rfl
theorem q273 : (Jvm.Cond.interfaceEntry "SearchKeeper" (65 : Nat)) ∈ lw_tbl := lw_at lw_m1 179 rfl
theorem q274 : (Jvm.Cond.methodLink "SearchKeeper" (65 : Nat) ({ cls := "java/util/List", name := "add", desc := "(Ljava/lang/Object;)Z" } : Jvm.MethodName)) ∈ lw_all := lw_g (lw_at lw_m1 180 rfl) rfl
theorem q311 : (Jvm.Cond.selects "SearchKeeper" ({ cls := "java/lang/Object", name := "getClass", desc := "()Ljava/lang/Class;" } : Jvm.MethodName) ({ cls := "java/lang/Object", name := "getClass", desc := "()Ljava/lang/Class;" } : Jvm.MethodName)) ∈ lw_all := lw_g (lw_at lw_m1 217 rfl) rfl
theorem q385 : (Jvm.Cond.fieldLink "SearchKeeper" (19 : Nat) "SearchKeeper" "nodes" "Ljava/util/List;") ∈ lw_all := lw_g (lw_at lw_m2 51 rfl) rfl
theorem q386 : (Jvm.Cond.fieldLink "SearchKeeper" (28 : Nat) "SearchKeeper" "roots" "Ljava/util/List;") ∈ lw_all := lw_g (lw_at lw_m2 52 rfl) rfl
theorem q387 : (Jvm.Cond.fieldLink "SearchKeeper" (33 : Nat) "SearchKeeper" "entries" "[LSearchKeeper$Entry;") ∈ lw_all := lw_g (lw_at lw_m2 53 rfl) rfl
theorem q388 : (Jvm.Cond.fieldLink "SearchKeeper" (37 : Nat) "SearchKeeper" "acts" "Ljava/util/LinkedList;") ∈ lw_all := lw_g (lw_at lw_m2 54 rfl) rfl
theorem q389 : (Jvm.Cond.fieldLink "SearchKeeper" (41 : Nat) "SearchKeeper" "segments" "Ljava/util/List;") ∈ lw_all := lw_g (lw_at lw_m2 55 rfl) rfl
theorem q390 : (Jvm.Cond.fieldLink "SearchKeeper" (49 : Nat) "SearchKeeper" "read" "Ljava/util/BitSet;") ∈ lw_all := lw_g (lw_at lw_m2 56 rfl) rfl
theorem q391 : (Jvm.Cond.fieldLink "SearchKeeper" (377 : Nat) "SearchKeeper" "minute" "I") ∈ lw_all := lw_g (lw_at lw_m2 57 rfl) rfl
theorem q392 : (Jvm.Cond.fieldLink "SearchKeeper" (383 : Nat) "SearchKeeper" "isOnBattery" "Z") ∈ lw_all := lw_g (lw_at lw_m2 58 rfl) rfl
theorem q393 : (Jvm.Cond.fieldLink "SearchKeeper" (374 : Nat) "SearchKeeper" "hour" "I") ∈ lw_all := lw_g (lw_at lw_m2 59 rfl) rfl
theorem q394 : (Jvm.Cond.fieldLink "SearchKeeper" (380 : Nat) "SearchKeeper" "hourSteps" "I") ∈ lw_all := lw_g (lw_at lw_m2 60 rfl) rfl
theorem q395 : (Jvm.Cond.fieldLink "SearchKeeper" (53 : Nat) "SearchKeeper" "depth" "I") ∈ lw_all := lw_g (lw_at lw_m2 61 rfl) rfl
theorem q396 : (Jvm.Cond.fieldLink "SearchKeeper" (57 : Nat) "SearchKeeper" "most" "I") ∈ lw_all := lw_g (lw_at lw_m2 62 rfl) rfl
theorem q397 : (Jvm.Cond.laysFinal "SearchKeeper" "SearchKeeper" "nodes" "Ljava/util/List;") ∈ lw_all := lw_g (lw_at lw_m2 63 rfl) rfl
theorem q398 : (Jvm.Cond.soleField "SearchKeeper" "nodes") ∈ lw_all := lw_g (lw_at lw_m2 64 rfl) rfl
theorem q399 : (Jvm.Cond.laysFinal "SearchKeeper" "SearchKeeper" "roots" "Ljava/util/List;") ∈ lw_all := lw_g (lw_at lw_m2 65 rfl) rfl
theorem q400 : (Jvm.Cond.soleField "SearchKeeper" "roots") ∈ lw_all := lw_g (lw_at lw_m2 66 rfl) rfl
theorem q401 : (Jvm.Cond.laysFinal "SearchKeeper" "SearchKeeper" "entries" "[LSearchKeeper$Entry;") ∈ lw_all := lw_g (lw_at lw_m2 67 rfl) rfl
theorem q402 : (Jvm.Cond.soleField "SearchKeeper" "entries") ∈ lw_all := lw_g (lw_at lw_m2 68 rfl) rfl
theorem q403 : (Jvm.Cond.laysFinal "SearchKeeper" "SearchKeeper" "acts" "Ljava/util/LinkedList;") ∈ lw_all := lw_g (lw_at lw_m2 69 rfl) rfl
theorem q404 : (Jvm.Cond.soleField "SearchKeeper" "acts") ∈ lw_all := lw_g (lw_at lw_m2 70 rfl) rfl
theorem q405 : (Jvm.Cond.laysFinal "SearchKeeper" "SearchKeeper" "segments" "Ljava/util/List;") ∈ lw_all := lw_g (lw_at lw_m2 71 rfl) rfl
theorem q406 : (Jvm.Cond.soleField "SearchKeeper" "segments") ∈ lw_all := lw_g (lw_at lw_m2 72 rfl) rfl
theorem q407 : (Jvm.Cond.laysFinal "SearchKeeper" "SearchKeeper" "read" "Ljava/util/BitSet;") ∈ lw_all := lw_g (lw_at lw_m2 73 rfl) rfl
theorem q408 : (Jvm.Cond.soleField "SearchKeeper" "read") ∈ lw_all := lw_g (lw_at lw_m2 74 rfl) rfl
theorem q409 : (Jvm.Cond.lays "SearchKeeper" "SearchKeeper" "minute" "I") ∈ lw_all := lw_g (lw_at lw_m2 75 rfl) rfl
theorem q410 : (Jvm.Cond.soleField "SearchKeeper" "minute") ∈ lw_all := lw_g (lw_at lw_m2 76 rfl) rfl
theorem q411 : (Jvm.Cond.lays "SearchKeeper" "SearchKeeper" "isOnBattery" "Z") ∈ lw_all := lw_g (lw_at lw_m2 77 rfl) rfl
theorem q412 : (Jvm.Cond.soleField "SearchKeeper" "isOnBattery") ∈ lw_all := lw_g (lw_at lw_m2 78 rfl) rfl
theorem q413 : (Jvm.Cond.lays "SearchKeeper" "SearchKeeper" "hour" "I") ∈ lw_all := lw_g (lw_at lw_m2 79 rfl) rfl
theorem q414 : (Jvm.Cond.soleField "SearchKeeper" "hour") ∈ lw_all := lw_g (lw_at lw_m2 80 rfl) rfl
theorem q415 : (Jvm.Cond.lays "SearchKeeper" "SearchKeeper" "hourSteps" "I") ∈ lw_all := lw_g (lw_at lw_m2 81 rfl) rfl
theorem q416 : (Jvm.Cond.soleField "SearchKeeper" "hourSteps") ∈ lw_all := lw_g (lw_at lw_m2 82 rfl) rfl
theorem q417 : (Jvm.Cond.lays "SearchKeeper" "SearchKeeper" "depth" "I") ∈ lw_all := lw_g (lw_at lw_m2 83 rfl) rfl
theorem q418 : (Jvm.Cond.soleField "SearchKeeper" "depth") ∈ lw_all := lw_g (lw_at lw_m2 84 rfl) rfl
theorem q419 : (Jvm.Cond.lays "SearchKeeper" "SearchKeeper" "most" "I") ∈ lw_all := lw_g (lw_at lw_m2 85 rfl) rfl
theorem q420 : (Jvm.Cond.soleField "SearchKeeper" "most") ∈ lw_all := lw_g (lw_at lw_m2 86 rfl) rfl
theorem q421 : (Jvm.Cond.superclass "SearchKeeper" "java/lang/Object") ∈ lw_all := lw_g (lw_at lw_m2 87 rfl) rfl
theorem q423 : (Jvm.Cond.instanceMethod ({ cls := "SearchKeeper", name := "nodes", desc := "()I" } : Jvm.MethodName)) ∈ lw_all := lw_g (lw_at lw_m2 89 rfl) rfl
theorem q424 : (Jvm.Cond.selects "SearchKeeper" ({ cls := "SearchKeeper", name := "nodes", desc := "()I" } : Jvm.MethodName) ({ cls := "SearchKeeper", name := "nodes", desc := "()I" } : Jvm.MethodName)) ∈ lw_all := lw_g (lw_at lw_m2 90 rfl) rfl
theorem q425 : (Jvm.Cond.code ({ cls := "SearchKeeper", name := "nodes", desc := "()I" } : Jvm.MethodName) prog_1_method_25_code (3 : Nat) (Option.some Jvm.ClassFile.FieldType.int)) ∈ lw_all := lw_g (lw_at lw_m2 91 rfl) rfl
theorem q426 : (Jvm.Cond.interfaceEntry "SearchKeeper" (71 : Nat)) ∈ lw_tbl := lw_at lw_m2 92 rfl
theorem q427 : (Jvm.Cond.methodLink "SearchKeeper" (71 : Nat) ({ cls := "java/util/List", name := "size", desc := "()I" } : Jvm.MethodName)) ∈ lw_all := lw_g (lw_at lw_m2 93 rfl) rfl
theorem q440 : (Jvm.Cond.interfaceEntry "SearchKeeper" (79 : Nat)) ∈ lw_tbl := lw_at lw_m2 106 rfl
theorem q441 : (Jvm.Cond.methodLink "SearchKeeper" (79 : Nat) ({ cls := "java/util/List", name := "get", desc := "(I)Ljava/lang/Object;" } : Jvm.MethodName)) ∈ lw_all := lw_g (lw_at lw_m2 107 rfl) rfl
theorem q795 : (Jvm.Cond.instanceMethod ({ cls := "SearchKeeper", name := "battery", desc := "(Z)Z" } : Jvm.MethodName)) ∈ lw_all := lw_g (lw_at lw_m3 221 rfl) rfl
theorem q796 : (Jvm.Cond.selects "SearchKeeper" ({ cls := "SearchKeeper", name := "battery", desc := "(Z)Z" } : Jvm.MethodName) ({ cls := "SearchKeeper", name := "battery", desc := "(Z)Z" } : Jvm.MethodName)) ∈ lw_all := lw_g (lw_at lw_m3 222 rfl) rfl
theorem q797 : (Jvm.Cond.code ({ cls := "SearchKeeper", name := "battery", desc := "(Z)Z" } : Jvm.MethodName) prog_1_method_51_code (3 : Nat) (Option.some Jvm.ClassFile.FieldType.boolean)) ∈ lw_all := lw_g (lw_at lw_m3 223 rfl) rfl
theorem q799 : (Jvm.Cond.instanceMethod ({ cls := "SearchKeeper", name := "acts", desc := "()I" } : Jvm.MethodName)) ∈ lw_all := lw_g (lw_at lw_m3 225 rfl) rfl
theorem q800 : (Jvm.Cond.selects "SearchKeeper" ({ cls := "SearchKeeper", name := "acts", desc := "()I" } : Jvm.MethodName) ({ cls := "SearchKeeper", name := "acts", desc := "()I" } : Jvm.MethodName)) ∈ lw_all := lw_g (lw_at lw_m3 226 rfl) rfl
theorem q801 : (Jvm.Cond.code ({ cls := "SearchKeeper", name := "acts", desc := "()I" } : Jvm.MethodName) prog_1_method_54_code (1 : Nat) (Option.some Jvm.ClassFile.FieldType.int)) ∈ lw_all := lw_g (lw_at lw_m3 227 rfl) rfl
theorem q802 : (Jvm.Cond.methodLink "SearchKeeper" (238 : Nat) ({ cls := "java/util/LinkedList", name := "size", desc := "()I" } : Jvm.MethodName)) ∈ lw_all := lw_g (lw_at lw_m3 228 rfl) rfl
theorem q804 : (Jvm.Cond.instanceMethod ({ cls := "SearchKeeper", name := "isQuiet", desc := "()Z" } : Jvm.MethodName)) ∈ lw_all := lw_g (lw_at lw_m3 230 rfl) rfl
theorem q805 : (Jvm.Cond.selects "SearchKeeper" ({ cls := "SearchKeeper", name := "isQuiet", desc := "()Z" } : Jvm.MethodName) ({ cls := "SearchKeeper", name := "isQuiet", desc := "()Z" } : Jvm.MethodName)) ∈ lw_all := lw_g (lw_at lw_m3 231 rfl) rfl
theorem q806 : (Jvm.Cond.code ({ cls := "SearchKeeper", name := "isQuiet", desc := "()Z" } : Jvm.MethodName) prog_1_method_55_code (1 : Nat) (Option.some Jvm.ClassFile.FieldType.boolean)) ∈ lw_all := lw_g (lw_at lw_m3 232 rfl) rfl
theorem q807 : (Jvm.Cond.methodLink "SearchKeeper" (349 : Nat) ({ cls := "SearchKeeper", name := "telling", desc := "()LSearchKeeper$Root;" } : Jvm.MethodName)) ∈ lw_all := lw_g (lw_at lw_m3 233 rfl) rfl
theorem q808 : (Jvm.Cond.privateMethod ({ cls := "SearchKeeper", name := "telling", desc := "()LSearchKeeper$Root;" } : Jvm.MethodName)) ∈ lw_tbl := lw_at lw_m3 234 rfl
theorem q809 : (Jvm.Cond.instanceMethod ({ cls := "SearchKeeper", name := "telling", desc := "()LSearchKeeper$Root;" } : Jvm.MethodName)) ∈ lw_all := lw_g (lw_at lw_m3 235 rfl) rfl
theorem q810 : (Jvm.Cond.code ({ cls := "SearchKeeper", name := "telling", desc := "()LSearchKeeper$Root;" } : Jvm.MethodName) prog_1_method_42_code (3 : Nat) (Option.some (Jvm.ClassFile.FieldType.object "SearchKeeper$Root"))) ∈ lw_all := lw_g (lw_at lw_m3 236 rfl) rfl
theorem q811 : (Jvm.Cond.interfaceEntry "SearchKeeper" (106 : Nat)) ∈ lw_tbl := lw_at lw_m3 237 rfl
theorem q812 : (Jvm.Cond.methodLink "SearchKeeper" (106 : Nat) ({ cls := "java/util/List", name := "iterator", desc := "()Ljava/util/Iterator;" } : Jvm.MethodName)) ∈ lw_all := lw_g (lw_at lw_m3 238 rfl) rfl
theorem q924 : (Jvm.Cond.interfaceEntry "SearchKeeper" (110 : Nat)) ∈ lw_tbl := lw_at lw_m4 110 rfl
theorem q925 : (Jvm.Cond.methodLink "SearchKeeper" (110 : Nat) ({ cls := "java/util/Iterator", name := "hasNext", desc := "()Z" } : Jvm.MethodName)) ∈ lw_all := lw_g (lw_at lw_m4 111 rfl) rfl
theorem q954 : (Jvm.Cond.interfaceEntry "SearchKeeper" (116 : Nat)) ∈ lw_tbl := lw_at lw_m4 140 rfl
theorem q955 : (Jvm.Cond.methodLink "SearchKeeper" (116 : Nat) ({ cls := "java/util/Iterator", name := "next", desc := "()Ljava/lang/Object;" } : Jvm.MethodName)) ∈ lw_all := lw_g (lw_at lw_m4 141 rfl) rfl
theorem q1055 : (Jvm.Cond.classLink "SearchKeeper" (120 : Nat) "SearchKeeper$Root") ∈ lw_all := lw_g (lw_at lw_m5 1 rfl) rfl
theorem q1056 : (Jvm.Cond.methodLink "SearchKeeper" (239 : Nat) ({ cls := "java/util/LinkedList", name := "isEmpty", desc := "()Z" } : Jvm.MethodName)) ∈ lw_all := lw_g (lw_at lw_m5 2 rfl) rfl
theorem q1068 : (Jvm.Cond.methodLink "SearchKeeper" (356 : Nat) ({ cls := "SearchKeeper", name := "crawling", desc := "()LSearchKeeper$Root;" } : Jvm.MethodName)) ∈ lw_all := lw_g (lw_at lw_m5 14 rfl) rfl
theorem q1069 : (Jvm.Cond.privateMethod ({ cls := "SearchKeeper", name := "crawling", desc := "()LSearchKeeper$Root;" } : Jvm.MethodName)) ∈ lw_tbl := lw_at lw_m5 15 rfl
theorem q1070 : (Jvm.Cond.instanceMethod ({ cls := "SearchKeeper", name := "crawling", desc := "()LSearchKeeper$Root;" } : Jvm.MethodName)) ∈ lw_all := lw_g (lw_at lw_m5 16 rfl) rfl
theorem q1071 : (Jvm.Cond.code ({ cls := "SearchKeeper", name := "crawling", desc := "()LSearchKeeper$Root;" } : Jvm.MethodName) prog_1_method_43_code (3 : Nat) (Option.some (Jvm.ClassFile.FieldType.object "SearchKeeper$Root"))) ∈ lw_all := lw_g (lw_at lw_m5 17 rfl) rfl
theorem q1073 : (Jvm.Cond.instanceMethod ({ cls := "SearchKeeper", name := "entries", desc := "()I" } : Jvm.MethodName)) ∈ lw_all := lw_g (lw_at lw_m5 19 rfl) rfl
theorem q1074 : (Jvm.Cond.selects "SearchKeeper" ({ cls := "SearchKeeper", name := "entries", desc := "()I" } : Jvm.MethodName) ({ cls := "SearchKeeper", name := "entries", desc := "()I" } : Jvm.MethodName)) ∈ lw_all := lw_g (lw_at lw_m5 20 rfl) rfl
theorem q1075 : (Jvm.Cond.code ({ cls := "SearchKeeper", name := "entries", desc := "()I" } : Jvm.MethodName) prog_1_method_56_code (3 : Nat) (Option.some Jvm.ClassFile.FieldType.int)) ∈ lw_all := lw_g (lw_at lw_m5 21 rfl) rfl
theorem q1077 : (Jvm.Cond.instanceMethod ({ cls := "SearchKeeper", name := "stale", desc := "()I" } : Jvm.MethodName)) ∈ lw_all := lw_g (lw_at lw_m5 23 rfl) rfl
theorem q1078 : (Jvm.Cond.selects "SearchKeeper" ({ cls := "SearchKeeper", name := "stale", desc := "()I" } : Jvm.MethodName) ({ cls := "SearchKeeper", name := "stale", desc := "()I" } : Jvm.MethodName)) ∈ lw_all := lw_g (lw_at lw_m5 24 rfl) rfl
theorem q1079 : (Jvm.Cond.code ({ cls := "SearchKeeper", name := "stale", desc := "()I" } : Jvm.MethodName) prog_1_method_59_code (7 : Nat) (Option.some Jvm.ClassFile.FieldType.int)) ∈ lw_all := lw_g (lw_at lw_m5 25 rfl) rfl
theorem q1080 : (Jvm.Cond.methodLink "SearchKeeper" (150 : Nat) ({ cls := "SearchKeeper", name := "above", desc := "(LSearchKeeper$Node;)LSearchKeeper$Root;" } : Jvm.MethodName)) ∈ lw_all := lw_g (lw_at lw_m5 26 rfl) rfl
theorem q1081 : (Jvm.Cond.privateMethod ({ cls := "SearchKeeper", name := "above", desc := "(LSearchKeeper$Node;)LSearchKeeper$Root;" } : Jvm.MethodName)) ∈ lw_tbl := lw_at lw_m5 27 rfl
theorem q1082 : (Jvm.Cond.instanceMethod ({ cls := "SearchKeeper", name := "above", desc := "(LSearchKeeper$Node;)LSearchKeeper$Root;" } : Jvm.MethodName)) ∈ lw_all := lw_g (lw_at lw_m5 28 rfl) rfl
theorem q1083 : (Jvm.Cond.code ({ cls := "SearchKeeper", name := "above", desc := "(LSearchKeeper$Node;)LSearchKeeper$Root;" } : Jvm.MethodName) prog_1_method_11_code (4 : Nat) (Option.some (Jvm.ClassFile.FieldType.object "SearchKeeper$Root"))) ∈ lw_all := lw_g (lw_at lw_m5 29 rfl) rfl
theorem q1084 : (Jvm.Cond.methodLink "SearchKeeper" (125 : Nat) ({ cls := "SearchKeeper$Node", name := "isBelow", desc := "(LSearchKeeper$Node;)Z" } : Jvm.MethodName)) ∈ lw_all := lw_g (lw_at lw_m5 30 rfl) rfl
theorem q1089 : (Jvm.Cond.instanceMethod ({ cls := "SearchKeeper", name := "segments", desc := "()I" } : Jvm.MethodName)) ∈ lw_all := lw_g (lw_at lw_m5 35 rfl) rfl
theorem q1090 : (Jvm.Cond.selects "SearchKeeper" ({ cls := "SearchKeeper", name := "segments", desc := "()I" } : Jvm.MethodName) ({ cls := "SearchKeeper", name := "segments", desc := "()I" } : Jvm.MethodName)) ∈ lw_all := lw_g (lw_at lw_m5 36 rfl) rfl
theorem q1091 : (Jvm.Cond.code ({ cls := "SearchKeeper", name := "segments", desc := "()I" } : Jvm.MethodName) prog_1_method_60_code (1 : Nat) (Option.some Jvm.ClassFile.FieldType.int)) ∈ lw_all := lw_g (lw_at lw_m5 37 rfl) rfl
theorem q1093 : (Jvm.Cond.instanceMethod ({ cls := "SearchKeeper", name := "dead", desc := "()I" } : Jvm.MethodName)) ∈ lw_all := lw_g (lw_at lw_m5 39 rfl) rfl
theorem q1094 : (Jvm.Cond.selects "SearchKeeper" ({ cls := "SearchKeeper", name := "dead", desc := "()I" } : Jvm.MethodName) ({ cls := "SearchKeeper", name := "dead", desc := "()I" } : Jvm.MethodName)) ∈ lw_all := lw_g (lw_at lw_m5 40 rfl) rfl
theorem q1095 : (Jvm.Cond.code ({ cls := "SearchKeeper", name := "dead", desc := "()I" } : Jvm.MethodName) prog_1_method_61_code (3 : Nat) (Option.some Jvm.ClassFile.FieldType.int)) ∈ lw_all := lw_g (lw_at lw_m5 41 rfl) rfl
theorem q1096 : (Jvm.Cond.classLink "SearchKeeper" (290 : Nat) "SearchKeeper$Segment") ∈ lw_all := lw_g (lw_at lw_m5 42 rfl) rfl
theorem q1119 : (Jvm.Cond.instanceMethod ({ cls := "SearchKeeper", name := "make", desc := "(ICZ)I" } : Jvm.MethodName)) ∈ lw_all := lw_g (lw_at lw_m5 65 rfl) rfl
theorem q1120 : (Jvm.Cond.selects "SearchKeeper" ({ cls := "SearchKeeper", name := "make", desc := "(ICZ)I" } : Jvm.MethodName) ({ cls := "SearchKeeper", name := "make", desc := "(ICZ)I" } : Jvm.MethodName)) ∈ lw_all := lw_g (lw_at lw_m5 66 rfl) rfl
theorem q1121 : (Jvm.Cond.code ({ cls := "SearchKeeper", name := "make", desc := "(ICZ)I" } : Jvm.MethodName) prog_1_method_13_code (6 : Nat) (Option.some Jvm.ClassFile.FieldType.int)) ∈ lw_all := lw_g (lw_at lw_m5 67 rfl) rfl
theorem q1122 : (Jvm.Cond.methodLink "SearchKeeper" (133 : Nat) ({ cls := "SearchKeeper", name := "folderAt", desc := "(I)LSearchKeeper$Node;" } : Jvm.MethodName)) ∈ lw_all := lw_g (lw_at lw_m5 68 rfl) rfl
theorem q1123 : (Jvm.Cond.privateMethod ({ cls := "SearchKeeper", name := "folderAt", desc := "(I)LSearchKeeper$Node;" } : Jvm.MethodName)) ∈ lw_tbl := lw_at lw_m5 69 rfl
theorem q1124 : (Jvm.Cond.instanceMethod ({ cls := "SearchKeeper", name := "folderAt", desc := "(I)LSearchKeeper$Node;" } : Jvm.MethodName)) ∈ lw_all := lw_g (lw_at lw_m5 70 rfl) rfl
theorem q1125 : (Jvm.Cond.code ({ cls := "SearchKeeper", name := "folderAt", desc := "(I)LSearchKeeper$Node;" } : Jvm.MethodName) prog_1_method_7_code (3 : Nat) (Option.some (Jvm.ClassFile.FieldType.object "SearchKeeper$Node"))) ∈ lw_all := lw_g (lw_at lw_m5 71 rfl) rfl
theorem q1126 : (Jvm.Cond.methodLink "SearchKeeper" (87 : Nat) ({ cls := "SearchKeeper", name := "nodeAt", desc := "(I)LSearchKeeper$Node;" } : Jvm.MethodName)) ∈ lw_all := lw_g (lw_at lw_m5 72 rfl) rfl
theorem q1127 : (Jvm.Cond.privateMethod ({ cls := "SearchKeeper", name := "nodeAt", desc := "(I)LSearchKeeper$Node;" } : Jvm.MethodName)) ∈ lw_tbl := lw_at lw_m5 73 rfl
theorem q1128 : (Jvm.Cond.instanceMethod ({ cls := "SearchKeeper", name := "nodeAt", desc := "(I)LSearchKeeper$Node;" } : Jvm.MethodName)) ∈ lw_all := lw_g (lw_at lw_m5 74 rfl) rfl
theorem q1129 : (Jvm.Cond.code ({ cls := "SearchKeeper", name := "nodeAt", desc := "(I)LSearchKeeper$Node;" } : Jvm.MethodName) prog_1_method_6_code (2 : Nat) (Option.some (Jvm.ClassFile.FieldType.object "SearchKeeper$Node"))) ∈ lw_all := lw_g (lw_at lw_m5 75 rfl) rfl
theorem q1130 : (Jvm.Cond.methodLink "SearchKeeper" (75 : Nat) ({ cls := "SearchKeeper", name := "isIn", desc := "(III)Z" } : Jvm.MethodName)) ∈ lw_all := lw_g (lw_at lw_m5 76 rfl) rfl
theorem q1131 : (Jvm.Cond.static ({ cls := "SearchKeeper", name := "isIn", desc := "(III)Z" } : Jvm.MethodName)) ∈ lw_all := lw_g (lw_at lw_m5 77 rfl) rfl
theorem q1132 : (Jvm.Cond.code ({ cls := "SearchKeeper", name := "isIn", desc := "(III)Z" } : Jvm.MethodName) prog_1_method_4_code (3 : Nat) (Option.some Jvm.ClassFile.FieldType.boolean)) ∈ lw_all := lw_g (lw_at lw_m5 78 rfl) rfl
theorem q1133 : (Jvm.Cond.methodLink "SearchKeeper" (94 : Nat) ({ cls := "SearchKeeper", name := "need", desc := "(Z)V" } : Jvm.MethodName)) ∈ lw_all := lw_g (lw_at lw_m5 79 rfl) rfl
theorem q1134 : (Jvm.Cond.static ({ cls := "SearchKeeper", name := "need", desc := "(Z)V" } : Jvm.MethodName)) ∈ lw_all := lw_g (lw_at lw_m5 80 rfl) rfl
theorem q1135 : (Jvm.Cond.code ({ cls := "SearchKeeper", name := "need", desc := "(Z)V" } : Jvm.MethodName) prog_1_method_3_code (1 : Nat) (Option.none : Option Jvm.ClassFile.FieldType)) ∈ lw_all := lw_g (lw_at lw_m5 81 rfl) rfl
theorem q1136 : (Jvm.Cond.classLink "SearchKeeper" (10 : Nat) "java/lang/IndexOutOfBoundsException") ∈ lw_all := lw_g (lw_at lw_m5 82 rfl) rfl
theorem q1137 : (Jvm.Cond.methodLink "SearchKeeper" (12 : Nat) ({ cls := "java/lang/IndexOutOfBoundsException", name := "<init>", desc := "()V" } : Jvm.MethodName)) ∈ lw_all := lw_g (lw_at lw_m5 83 rfl) rfl
theorem q1147 : (Jvm.Cond.methodLink "SearchKeeper" (136 : Nat) ({ cls := "SearchKeeper", name := "isName", desc := "(C)Z" } : Jvm.MethodName)) ∈ lw_all := lw_g (lw_at lw_m5 93 rfl) rfl
theorem q1148 : (Jvm.Cond.static ({ cls := "SearchKeeper", name := "isName", desc := "(C)Z" } : Jvm.MethodName)) ∈ lw_all := lw_g (lw_at lw_m5 94 rfl) rfl
theorem q1149 : (Jvm.Cond.code ({ cls := "SearchKeeper", name := "isName", desc := "(C)Z" } : Jvm.MethodName) prog_1_method_9_code (1 : Nat) (Option.some Jvm.ClassFile.FieldType.boolean)) ∈ lw_all := lw_g (lw_at lw_m5 95 rfl) rfl
theorem q1150 : (Jvm.Cond.methodLink "SearchKeeper" (140 : Nat) ({ cls := "SearchKeeper", name := "check", desc := "(Z)V" } : Jvm.MethodName)) ∈ lw_all := lw_g (lw_at lw_m5 96 rfl) rfl
theorem q1151 : (Jvm.Cond.static ({ cls := "SearchKeeper", name := "check", desc := "(Z)V" } : Jvm.MethodName)) ∈ lw_all := lw_g (lw_at lw_m5 97 rfl) rfl
theorem q1152 : (Jvm.Cond.code ({ cls := "SearchKeeper", name := "check", desc := "(Z)V" } : Jvm.MethodName) prog_1_method_1_code (1 : Nat) (Option.none : Option Jvm.ClassFile.FieldType)) ∈ lw_all := lw_g (lw_at lw_m5 98 rfl) rfl
theorem q1153 : (Jvm.Cond.classLink "SearchKeeper" (1 : Nat) "java/lang/IllegalArgumentException") ∈ lw_all := lw_g (lw_at lw_m5 99 rfl) rfl
theorem q1154 : (Jvm.Cond.methodLink "SearchKeeper" (3 : Nat) ({ cls := "java/lang/IllegalArgumentException", name := "<init>", desc := "()V" } : Jvm.MethodName)) ∈ lw_all := lw_g (lw_at lw_m5 100 rfl) rfl
theorem q1158 : (Jvm.Cond.methodLink "SearchKeeper" (143 : Nat) ({ cls := "SearchKeeper", name := "isTaken", desc := "(LSearchKeeper$Node;CLSearchKeeper$Node;)Z" } : Jvm.MethodName)) ∈ lw_all := lw_g (lw_at lw_m5 104 rfl) rfl
theorem q1159 : (Jvm.Cond.privateMethod ({ cls := "SearchKeeper", name := "isTaken", desc := "(LSearchKeeper$Node;CLSearchKeeper$Node;)Z" } : Jvm.MethodName)) ∈ lw_tbl := lw_at lw_m5 105 rfl
theorem q1160 : (Jvm.Cond.instanceMethod ({ cls := "SearchKeeper", name := "isTaken", desc := "(LSearchKeeper$Node;CLSearchKeeper$Node;)Z" } : Jvm.MethodName)) ∈ lw_all := lw_g (lw_at lw_m5 106 rfl) rfl
theorem q1161 : (Jvm.Cond.code ({ cls := "SearchKeeper", name := "isTaken", desc := "(LSearchKeeper$Node;CLSearchKeeper$Node;)Z" } : Jvm.MethodName) prog_1_method_10_code (7 : Nat) (Option.some Jvm.ClassFile.FieldType.boolean)) ∈ lw_all := lw_g (lw_at lw_m5 107 rfl) rfl
theorem q1162 : (Jvm.Cond.methodLink "SearchKeeper" (147 : Nat) ({ cls := "SearchKeeper", name := "possible", desc := "(Z)V" } : Jvm.MethodName)) ∈ lw_all := lw_g (lw_at lw_m5 108 rfl) rfl
theorem q1163 : (Jvm.Cond.static ({ cls := "SearchKeeper", name := "possible", desc := "(Z)V" } : Jvm.MethodName)) ∈ lw_all := lw_g (lw_at lw_m5 109 rfl) rfl
theorem q1164 : (Jvm.Cond.code ({ cls := "SearchKeeper", name := "possible", desc := "(Z)V" } : Jvm.MethodName) prog_1_method_2_code (1 : Nat) (Option.none : Option Jvm.ClassFile.FieldType)) ∈ lw_all := lw_g (lw_at lw_m5 110 rfl) rfl
theorem q1165 : (Jvm.Cond.classLink "SearchKeeper" (7 : Nat) "java/lang/IllegalStateException") ∈ lw_all := lw_g (lw_at lw_m5 111 rfl) rfl
theorem q1174 : (Jvm.Cond.methodLink "SearchKeeper" (9 : Nat) ({ cls := "java/lang/IllegalStateException", name := "<init>", desc := "()V" } : Jvm.MethodName)) ∈ lw_all := lw_g (lw_at lw_m5 120 rfl) rfl
theorem q1180 : (Jvm.Cond.fieldLink "SearchKeeper" (154 : Nat) "SearchKeeper$Notice" "CAME" "LSearchKeeper$Notice;") ∈ lw_all := lw_g (lw_at lw_m5 126 rfl) rfl
theorem q1182 : (Jvm.Cond.methodLink "SearchKeeper" (160 : Nat) ({ cls := "SearchKeeper", name := "tell", desc := "(LSearchKeeper$Root;LSearchKeeper$Notice;LSearchKeeper$Node;)V" } : Jvm.MethodName)) ∈ lw_all := lw_g (lw_at lw_m5 128 rfl) rfl
theorem q1183 : (Jvm.Cond.privateMethod ({ cls := "SearchKeeper", name := "tell", desc := "(LSearchKeeper$Root;LSearchKeeper$Notice;LSearchKeeper$Node;)V" } : Jvm.MethodName)) ∈ lw_tbl := lw_at lw_m5 129 rfl
theorem q1184 : (Jvm.Cond.instanceMethod ({ cls := "SearchKeeper", name := "tell", desc := "(LSearchKeeper$Root;LSearchKeeper$Notice;LSearchKeeper$Node;)V" } : Jvm.MethodName)) ∈ lw_all := lw_g (lw_at lw_m5 130 rfl) rfl
theorem q1185 : (Jvm.Cond.code ({ cls := "SearchKeeper", name := "tell", desc := "(LSearchKeeper$Root;LSearchKeeper$Notice;LSearchKeeper$Node;)V" } : Jvm.MethodName) prog_1_method_12_code (4 : Nat) (Option.none : Option Jvm.ClassFile.FieldType)) ∈ lw_all := lw_g (lw_at lw_m5 131 rfl) rfl
theorem q1186 : (Jvm.Cond.methodLink "SearchKeeper" (129 : Nat) ({ cls := "SearchKeeper$Root", name := "tell", desc := "(LSearchKeeper$Notice;LSearchKeeper$Node;)V" } : Jvm.MethodName)) ∈ lw_all := lw_g (lw_at lw_m5 132 rfl) rfl
theorem q1202 : (Jvm.Cond.fieldLinkNest "SearchKeeper" (247 : Nat) "SearchKeeper$Told" "notice" "LSearchKeeper$Notice;" "SearchKeeper") ∈ lw_tbl := lw_at lw_m5 148 rfl
theorem q1204 : (Jvm.Cond.fieldLinkNest "SearchKeeper" (250 : Nat) "SearchKeeper$Told" "node" "LSearchKeeper$Node;" "SearchKeeper") ∈ lw_tbl := lw_at lw_m5 150 rfl
theorem q1218 : (Jvm.Cond.instanceMethod ({ cls := "SearchKeeper", name := "write", desc := "(II)I" } : Jvm.MethodName)) ∈ lw_all := lw_g (lw_at lw_m5 164 rfl) rfl
theorem q1219 : (Jvm.Cond.selects "SearchKeeper" ({ cls := "SearchKeeper", name := "write", desc := "(II)I" } : Jvm.MethodName) ({ cls := "SearchKeeper", name := "write", desc := "(II)I" } : Jvm.MethodName)) ∈ lw_all := lw_g (lw_at lw_m5 165 rfl) rfl
theorem q1220 : (Jvm.Cond.code ({ cls := "SearchKeeper", name := "write", desc := "(II)I" } : Jvm.MethodName) prog_1_method_16_code (4 : Nat) (Option.some Jvm.ClassFile.FieldType.int)) ∈ lw_all := lw_g (lw_at lw_m5 166 rfl) rfl
theorem q1221 : (Jvm.Cond.methodLink "SearchKeeper" (172 : Nat) ({ cls := "SearchKeeper", name := "fileAt", desc := "(I)LSearchKeeper$Node;" } : Jvm.MethodName)) ∈ lw_all := lw_g (lw_at lw_m5 167 rfl) rfl
theorem q1222 : (Jvm.Cond.privateMethod ({ cls := "SearchKeeper", name := "fileAt", desc := "(I)LSearchKeeper$Node;" } : Jvm.MethodName)) ∈ lw_tbl := lw_at lw_m5 168 rfl
theorem q1223 : (Jvm.Cond.instanceMethod ({ cls := "SearchKeeper", name := "fileAt", desc := "(I)LSearchKeeper$Node;" } : Jvm.MethodName)) ∈ lw_all := lw_g (lw_at lw_m5 169 rfl) rfl
theorem q1224 : (Jvm.Cond.code ({ cls := "SearchKeeper", name := "fileAt", desc := "(I)LSearchKeeper$Node;" } : Jvm.MethodName) prog_1_method_8_code (3 : Nat) (Option.some (Jvm.ClassFile.FieldType.object "SearchKeeper$Node"))) ∈ lw_all := lw_g (lw_at lw_m5 170 rfl) rfl
theorem q1225 : (Jvm.Cond.methodLink "SearchKeeper" (175 : Nat) ({ cls := "SearchKeeper", name := "isWord", desc := "(I)Z" } : Jvm.MethodName)) ∈ lw_all := lw_g (lw_at lw_m5 171 rfl) rfl
theorem q1226 : (Jvm.Cond.static ({ cls := "SearchKeeper", name := "isWord", desc := "(I)Z" } : Jvm.MethodName)) ∈ lw_all := lw_g (lw_at lw_m5 172 rfl) rfl
theorem q1227 : (Jvm.Cond.code ({ cls := "SearchKeeper", name := "isWord", desc := "(I)Z" } : Jvm.MethodName) prog_1_method_15_code (1 : Nat) (Option.some Jvm.ClassFile.FieldType.boolean)) ∈ lw_all := lw_g (lw_at lw_m5 173 rfl) rfl
theorem q1228 : (Jvm.Cond.methodLink "SearchKeeper" (185 : Nat) ({ cls := "java/lang/Integer", name := "valueOf", desc := "(I)Ljava/lang/Integer;" } : Jvm.MethodName)) ∈ lw_all := lw_g (lw_at lw_m5 174 rfl) rfl
theorem q1248 : (Jvm.Cond.methodLink "SearchKeeper" (191 : Nat) ({ cls := "SearchKeeper", name := "written", desc := "(LSearchKeeper$Node;)V" } : Jvm.MethodName)) ∈ lw_all := lw_g (lw_at lw_m5 194 rfl) rfl
theorem q1249 : (Jvm.Cond.privateMethod ({ cls := "SearchKeeper", name := "written", desc := "(LSearchKeeper$Node;)V" } : Jvm.MethodName)) ∈ lw_tbl := lw_at lw_m5 195 rfl
theorem q1250 : (Jvm.Cond.instanceMethod ({ cls := "SearchKeeper", name := "written", desc := "(LSearchKeeper$Node;)V" } : Jvm.MethodName)) ∈ lw_all := lw_g (lw_at lw_m5 196 rfl) rfl
theorem q1251 : (Jvm.Cond.code ({ cls := "SearchKeeper", name := "written", desc := "(LSearchKeeper$Node;)V" } : Jvm.MethodName) prog_1_method_14_code (2 : Nat) (Option.none : Option Jvm.ClassFile.FieldType)) ∈ lw_all := lw_g (lw_at lw_m5 197 rfl) rfl
theorem q1252 : (Jvm.Cond.fieldLink "SearchKeeper" (169 : Nat) "SearchKeeper$Notice" "WRITTEN" "LSearchKeeper$Notice;") ∈ lw_all := lw_g (lw_at lw_m5 198 rfl) rfl
theorem q1258 : (Jvm.Cond.instanceMethod ({ cls := "SearchKeeper", name := "empty", desc := "(I)I" } : Jvm.MethodName)) ∈ lw_all := lw_g (lw_at lw_m5 204 rfl) rfl
theorem q1259 : (Jvm.Cond.selects "SearchKeeper" ({ cls := "SearchKeeper", name := "empty", desc := "(I)I" } : Jvm.MethodName) ({ cls := "SearchKeeper", name := "empty", desc := "(I)I" } : Jvm.MethodName)) ∈ lw_all := lw_g (lw_at lw_m5 205 rfl) rfl
theorem q1260 : (Jvm.Cond.code ({ cls := "SearchKeeper", name := "empty", desc := "(I)I" } : Jvm.MethodName) prog_1_method_17_code (4 : Nat) (Option.some Jvm.ClassFile.FieldType.int)) ∈ lw_all := lw_g (lw_at lw_m5 206 rfl) rfl
theorem q1261 : (Jvm.Cond.interfaceEntry "SearchKeeper" (195 : Nat)) ∈ lw_tbl := lw_at lw_m5 207 rfl
theorem q1262 : (Jvm.Cond.methodLink "SearchKeeper" (195 : Nat) ({ cls := "java/util/List", name := "clear", desc := "()V" } : Jvm.MethodName)) ∈ lw_all := lw_g (lw_at lw_m5 208 rfl) rfl
theorem q1277 : (Jvm.Cond.instanceMethod ({ cls := "SearchKeeper", name := "move", desc := "(IIC)I" } : Jvm.MethodName)) ∈ lw_all := lw_g (lw_at lw_m5 223 rfl) rfl
theorem q1278 : (Jvm.Cond.selects "SearchKeeper" ({ cls := "SearchKeeper", name := "move", desc := "(IIC)I" } : Jvm.MethodName) ({ cls := "SearchKeeper", name := "move", desc := "(IIC)I" } : Jvm.MethodName)) ∈ lw_all := lw_g (lw_at lw_m5 224 rfl) rfl
theorem q1279 : (Jvm.Cond.code ({ cls := "SearchKeeper", name := "move", desc := "(IIC)I" } : Jvm.MethodName) prog_1_method_19_code (9 : Nat) (Option.some Jvm.ClassFile.FieldType.int)) ∈ lw_all := lw_g (lw_at lw_m5 225 rfl) rfl
theorem q1280 : (Jvm.Cond.methodLink "SearchKeeper" (201 : Nat) ({ cls := "SearchKeeper", name := "wouldNest", desc := "(LSearchKeeper$Node;LSearchKeeper$Node;)Z" } : Jvm.MethodName)) ∈ lw_all := lw_g (lw_at lw_m5 226 rfl) rfl
theorem q1281 : (Jvm.Cond.privateMethod ({ cls := "SearchKeeper", name := "wouldNest", desc := "(LSearchKeeper$Node;LSearchKeeper$Node;)Z" } : Jvm.MethodName)) ∈ lw_tbl := lw_at lw_m5 227 rfl
theorem q1282 : (Jvm.Cond.instanceMethod ({ cls := "SearchKeeper", name := "wouldNest", desc := "(LSearchKeeper$Node;LSearchKeeper$Node;)Z" } : Jvm.MethodName)) ∈ lw_all := lw_g (lw_at lw_m5 228 rfl) rfl
theorem q1283 : (Jvm.Cond.code ({ cls := "SearchKeeper", name := "wouldNest", desc := "(LSearchKeeper$Node;LSearchKeeper$Node;)Z" } : Jvm.MethodName) prog_1_method_18_code (7 : Nat) (Option.some Jvm.ClassFile.FieldType.boolean)) ∈ lw_all := lw_g (lw_at lw_m5 229 rfl) rfl
theorem q1284 : (Jvm.Cond.methodLink "SearchKeeper" (198 : Nat) ({ cls := "SearchKeeper$Root", name := "hasAll", desc := "(LSearchKeeper$Node;)Z" } : Jvm.MethodName)) ∈ lw_all := lw_g (lw_at lw_m5 230 rfl) rfl
theorem q1289 : (Jvm.Cond.fieldLink "SearchKeeper" (205 : Nat) "SearchKeeper$Notice" "GONE" "LSearchKeeper$Notice;") ∈ lw_all := lw_g (lw_at lw_m5 235 rfl) rfl
theorem q1295 : (Jvm.Cond.instanceMethod ({ cls := "SearchKeeper", name := "remove", desc := "(I)I" } : Jvm.MethodName)) ∈ lw_all := lw_g (lw_at lw_m6 1 rfl) rfl
theorem q1296 : (Jvm.Cond.selects "SearchKeeper" ({ cls := "SearchKeeper", name := "remove", desc := "(I)I" } : Jvm.MethodName) ({ cls := "SearchKeeper", name := "remove", desc := "(I)I" } : Jvm.MethodName)) ∈ lw_all := lw_g (lw_at lw_m6 2 rfl) rfl
theorem q1297 : (Jvm.Cond.code ({ cls := "SearchKeeper", name := "remove", desc := "(I)I" } : Jvm.MethodName) prog_1_method_20_code (6 : Nat) (Option.some Jvm.ClassFile.FieldType.int)) ∈ lw_all := lw_g (lw_at lw_m6 3 rfl) rfl
theorem q1298 : (Jvm.Cond.interfaceEntry "SearchKeeper" (208 : Nat)) ∈ lw_tbl := lw_at lw_m6 4 rfl
theorem q1299 : (Jvm.Cond.methodLink "SearchKeeper" (208 : Nat) ({ cls := "java/util/Iterator", name := "remove", desc := "()V" } : Jvm.MethodName)) ∈ lw_all := lw_g (lw_at lw_m6 5 rfl) rfl
theorem q1361 : (Jvm.Cond.methodLink "SearchKeeper" (211 : Nat) ({ cls := "SearchKeeper", name := "lookAtAll", desc := "()V" } : Jvm.MethodName)) ∈ lw_all := lw_g (lw_at lw_m6 67 rfl) rfl
theorem q1362 : (Jvm.Cond.privateMethod ({ cls := "SearchKeeper", name := "lookAtAll", desc := "()V" } : Jvm.MethodName)) ∈ lw_tbl := lw_at lw_m6 68 rfl
theorem q1363 : (Jvm.Cond.instanceMethod ({ cls := "SearchKeeper", name := "lookAtAll", desc := "()V" } : Jvm.MethodName)) ∈ lw_all := lw_g (lw_at lw_m6 69 rfl) rfl
theorem q1364 : (Jvm.Cond.code ({ cls := "SearchKeeper", name := "lookAtAll", desc := "()V" } : Jvm.MethodName) prog_1_method_34_code (2 : Nat) (Option.none : Option Jvm.ClassFile.FieldType)) ∈ lw_all := lw_g (lw_at lw_m6 70 rfl) rfl
theorem q1365 : (Jvm.Cond.methodLink "SearchKeeper" (279 : Nat) ({ cls := "SearchKeeper", name := "add", desc := "(LSearchKeeper$Node;Z)V" } : Jvm.MethodName)) ∈ lw_all := lw_g (lw_at lw_m6 71 rfl) rfl
theorem q1366 : (Jvm.Cond.privateMethod ({ cls := "SearchKeeper", name := "add", desc := "(LSearchKeeper$Node;Z)V" } : Jvm.MethodName)) ∈ lw_tbl := lw_at lw_m6 72 rfl
theorem q1367 : (Jvm.Cond.instanceMethod ({ cls := "SearchKeeper", name := "add", desc := "(LSearchKeeper$Node;Z)V" } : Jvm.MethodName)) ∈ lw_all := lw_g (lw_at lw_m6 73 rfl) rfl
theorem q1368 : (Jvm.Cond.code ({ cls := "SearchKeeper", name := "add", desc := "(LSearchKeeper$Node;Z)V" } : Jvm.MethodName) prog_1_method_31_code (5 : Nat) (Option.none : Option Jvm.ClassFile.FieldType)) ∈ lw_all := lw_g (lw_at lw_m6 74 rfl) rfl
theorem q1369 : (Jvm.Cond.methodLink "SearchKeeper" (260 : Nat) ({ cls := "java/util/LinkedList", name := "iterator", desc := "()Ljava/util/Iterator;" } : Jvm.MethodName)) ∈ lw_all := lw_g (lw_at lw_m6 75 rfl) rfl
theorem q1373 : (Jvm.Cond.classLink "SearchKeeper" (261 : Nat) "SearchKeeper$Act") ∈ lw_all := lw_g (lw_at lw_m6 79 rfl) rfl
theorem q1375 : (Jvm.Cond.methodLink "SearchKeeper" (267 : Nat) ({ cls := "SearchKeeper$Act", name := "<init>", desc := "(LSearchKeeper$Node;Z)V" } : Jvm.MethodName)) ∈ lw_all := lw_g (lw_at lw_m6 81 rfl) rfl
theorem q1380 : (Jvm.Cond.fieldLinkNest "SearchKeeper" (263 : Nat) "SearchKeeper$Act" "node" "LSearchKeeper$Node;" "SearchKeeper") ∈ lw_tbl := lw_at lw_m6 86 rfl
theorem q1382 : (Jvm.Cond.fieldLinkNest "SearchKeeper" (264 : Nat) "SearchKeeper$Act" "isDrop" "Z" "SearchKeeper") ∈ lw_tbl := lw_at lw_m6 88 rfl
theorem q1383 : (Jvm.Cond.fieldLinkNest "SearchKeeper" (309 : Nat) "SearchKeeper$Act" "isPutOff" "Z" "SearchKeeper") ∈ lw_tbl := lw_at lw_m6 89 rfl
theorem q1391 : (Jvm.Cond.methodLink "SearchKeeper" (270 : Nat) ({ cls := "java/util/LinkedList", name := "addLast", desc := "(Ljava/lang/Object;)V" } : Jvm.MethodName)) ∈ lw_all := lw_g (lw_at lw_m6 97 rfl) rfl
theorem q1396 : (Jvm.Cond.instanceMethod ({ cls := "SearchKeeper", name := "lock", desc := "(IZ)Z" } : Jvm.MethodName)) ∈ lw_all := lw_g (lw_at lw_m6 102 rfl) rfl
theorem q1397 : (Jvm.Cond.selects "SearchKeeper" ({ cls := "SearchKeeper", name := "lock", desc := "(IZ)Z" } : Jvm.MethodName) ({ cls := "SearchKeeper", name := "lock", desc := "(IZ)Z" } : Jvm.MethodName)) ∈ lw_all := lw_g (lw_at lw_m6 103 rfl) rfl
theorem q1398 : (Jvm.Cond.code ({ cls := "SearchKeeper", name := "lock", desc := "(IZ)Z" } : Jvm.MethodName) prog_1_method_21_code (5 : Nat) (Option.some Jvm.ClassFile.FieldType.boolean)) ∈ lw_all := lw_g (lw_at lw_m6 104 rfl) rfl
theorem q1403 : (Jvm.Cond.instanceMethod ({ cls := "SearchKeeper", name := "people", desc := "(II)I" } : Jvm.MethodName)) ∈ lw_all := lw_g (lw_at lw_m6 109 rfl) rfl
theorem q1404 : (Jvm.Cond.selects "SearchKeeper" ({ cls := "SearchKeeper", name := "people", desc := "(II)I" } : Jvm.MethodName) ({ cls := "SearchKeeper", name := "people", desc := "(II)I" } : Jvm.MethodName)) ∈ lw_all := lw_g (lw_at lw_m6 110 rfl) rfl
theorem q1405 : (Jvm.Cond.code ({ cls := "SearchKeeper", name := "people", desc := "(II)I" } : Jvm.MethodName) prog_1_method_22_code (5 : Nat) (Option.some Jvm.ClassFile.FieldType.int)) ∈ lw_all := lw_g (lw_at lw_m6 111 rfl) rfl
theorem q1410 : (Jvm.Cond.instanceMethod ({ cls := "SearchKeeper", name := "mayRead", desc := "(II)Z" } : Jvm.MethodName)) ∈ lw_all := lw_g (lw_at lw_m6 116 rfl) rfl
theorem q1411 : (Jvm.Cond.selects "SearchKeeper" ({ cls := "SearchKeeper", name := "mayRead", desc := "(II)Z" } : Jvm.MethodName) ({ cls := "SearchKeeper", name := "mayRead", desc := "(II)Z" } : Jvm.MethodName)) ∈ lw_all := lw_g (lw_at lw_m6 117 rfl) rfl
theorem q1412 : (Jvm.Cond.code ({ cls := "SearchKeeper", name := "mayRead", desc := "(II)Z" } : Jvm.MethodName) prog_1_method_24_code (4 : Nat) (Option.some Jvm.ClassFile.FieldType.boolean)) ∈ lw_all := lw_g (lw_at lw_m6 118 rfl) rfl
theorem q1413 : (Jvm.Cond.methodLink "SearchKeeper" (217 : Nat) ({ cls := "SearchKeeper", name := "checkPerson", desc := "(I)V" } : Jvm.MethodName)) ∈ lw_all := lw_g (lw_at lw_m6 119 rfl) rfl
theorem q1414 : (Jvm.Cond.static ({ cls := "SearchKeeper", name := "checkPerson", desc := "(I)V" } : Jvm.MethodName)) ∈ lw_all := lw_g (lw_at lw_m6 120 rfl) rfl
theorem q1415 : (Jvm.Cond.code ({ cls := "SearchKeeper", name := "checkPerson", desc := "(I)V" } : Jvm.MethodName) prog_1_method_23_code (1 : Nat) (Option.none : Option Jvm.ClassFile.FieldType)) ∈ lw_all := lw_g (lw_at lw_m6 121 rfl) rfl
theorem q1416 : (Jvm.Cond.methodLink "SearchKeeper" (220 : Nat) ({ cls := "SearchKeeper$Node", name := "mayBeRead", desc := "(I)Z" } : Jvm.MethodName)) ∈ lw_all := lw_g (lw_at lw_m6 122 rfl) rfl
theorem q1424 : (Jvm.Cond.instanceMethod ({ cls := "SearchKeeper", name := "watch", desc := "(I)I" } : Jvm.MethodName)) ∈ lw_all := lw_g (lw_at lw_m6 130 rfl) rfl
theorem q1425 : (Jvm.Cond.selects "SearchKeeper" ({ cls := "SearchKeeper", name := "watch", desc := "(I)I" } : Jvm.MethodName) ({ cls := "SearchKeeper", name := "watch", desc := "(I)I" } : Jvm.MethodName)) ∈ lw_all := lw_g (lw_at lw_m6 131 rfl) rfl
theorem q1426 : (Jvm.Cond.code ({ cls := "SearchKeeper", name := "watch", desc := "(I)I" } : Jvm.MethodName) prog_1_method_26_code (7 : Nat) (Option.some Jvm.ClassFile.FieldType.int)) ∈ lw_all := lw_g (lw_at lw_m6 132 rfl) rfl
theorem q1428 : (Jvm.Cond.methodLink "SearchKeeper" (223 : Nat) ({ cls := "SearchKeeper$Root", name := "<init>", desc := "(LSearchKeeper$Node;)V" } : Jvm.MethodName)) ∈ lw_all := lw_g (lw_at lw_m6 134 rfl) rfl
theorem q1437 : (Jvm.Cond.fieldLinkNest "SearchKeeper" (122 : Nat) "SearchKeeper$Root" "folder" "LSearchKeeper$Node;" "SearchKeeper") ∈ lw_tbl := lw_at lw_m6 143 rfl
theorem q1439 : (Jvm.Cond.fieldLinkNest "SearchKeeper" (235 : Nat) "SearchKeeper$Root" "queue" "Ljava/util/LinkedList;" "SearchKeeper") ∈ lw_tbl := lw_at lw_m6 145 rfl
theorem q1441 : (Jvm.Cond.fieldLinkNest "SearchKeeper" (232 : Nat) "SearchKeeper$Root" "isFlooded" "Z" "SearchKeeper") ∈ lw_tbl := lw_at lw_m6 147 rfl
theorem q1443 : (Jvm.Cond.fieldLinkNest "SearchKeeper" (329 : Nat) "SearchKeeper$Root" "crawl" "Ljava/util/ArrayDeque;" "SearchKeeper") ∈ lw_tbl := lw_at lw_m6 149 rfl
theorem q1445 : (Jvm.Cond.fieldLinkNest "SearchKeeper" (338 : Nat) "SearchKeeper$Root" "met" "Ljava/util/BitSet;" "SearchKeeper") ∈ lw_tbl := lw_at lw_m6 151 rfl
theorem q1457 : (Jvm.Cond.methodLink "SearchKeeper" (225 : Nat) ({ cls := "SearchKeeper$Root", name := "begin", desc := "()V" } : Jvm.MethodName)) ∈ lw_all := lw_g (lw_at lw_m6 163 rfl) rfl
theorem q1515 : (Jvm.Cond.instanceMethod ({ cls := "SearchKeeper", name := "notices", desc := "(I)I" } : Jvm.MethodName)) ∈ lw_all := lw_g (lw_at lw_m6 221 rfl) rfl
theorem q1516 : (Jvm.Cond.selects "SearchKeeper" ({ cls := "SearchKeeper", name := "notices", desc := "(I)I" } : Jvm.MethodName) ({ cls := "SearchKeeper", name := "notices", desc := "(I)I" } : Jvm.MethodName)) ∈ lw_all := lw_g (lw_at lw_m6 222 rfl) rfl
theorem q1517 : (Jvm.Cond.code ({ cls := "SearchKeeper", name := "notices", desc := "(I)I" } : Jvm.MethodName) prog_1_method_28_code (3 : Nat) (Option.some Jvm.ClassFile.FieldType.int)) ∈ lw_all := lw_g (lw_at lw_m6 223 rfl) rfl
theorem q1518 : (Jvm.Cond.methodLink "SearchKeeper" (228 : Nat) ({ cls := "SearchKeeper", name := "rootAt", desc := "(I)LSearchKeeper$Root;" } : Jvm.MethodName)) ∈ lw_all := lw_g (lw_at lw_m6 224 rfl) rfl
theorem q1519 : (Jvm.Cond.privateMethod ({ cls := "SearchKeeper", name := "rootAt", desc := "(I)LSearchKeeper$Root;" } : Jvm.MethodName)) ∈ lw_tbl := lw_at lw_m6 225 rfl
theorem q1520 : (Jvm.Cond.instanceMethod ({ cls := "SearchKeeper", name := "rootAt", desc := "(I)LSearchKeeper$Root;" } : Jvm.MethodName)) ∈ lw_all := lw_g (lw_at lw_m6 226 rfl) rfl
theorem q1521 : (Jvm.Cond.code ({ cls := "SearchKeeper", name := "rootAt", desc := "(I)LSearchKeeper$Root;" } : Jvm.MethodName) prog_1_method_27_code (4 : Nat) (Option.some (Jvm.ClassFile.FieldType.object "SearchKeeper$Root"))) ∈ lw_all := lw_g (lw_at lw_m6 227 rfl) rfl
theorem q1526 : (Jvm.Cond.instanceMethod ({ cls := "SearchKeeper", name := "twice", desc := "(I)I" } : Jvm.MethodName)) ∈ lw_all := lw_g (lw_at lw_m6 232 rfl) rfl
theorem q1527 : (Jvm.Cond.selects "SearchKeeper" ({ cls := "SearchKeeper", name := "twice", desc := "(I)I" } : Jvm.MethodName) ({ cls := "SearchKeeper", name := "twice", desc := "(I)I" } : Jvm.MethodName)) ∈ lw_all := lw_g (lw_at lw_m6 233 rfl) rfl
theorem q1528 : (Jvm.Cond.code ({ cls := "SearchKeeper", name := "twice", desc := "(I)I" } : Jvm.MethodName) prog_1_method_29_code (3 : Nat) (Option.some Jvm.ClassFile.FieldType.int)) ∈ lw_all := lw_g (lw_at lw_m6 234 rfl) rfl
theorem q1529 : (Jvm.Cond.methodLink "SearchKeeper" (242 : Nat) ({ cls := "java/util/LinkedList", name := "getLast", desc := "()Ljava/lang/Object;" } : Jvm.MethodName)) ∈ lw_all := lw_g (lw_at lw_m6 235 rfl) rfl
theorem q1533 : (Jvm.Cond.classLink "SearchKeeper" (245 : Nat) "SearchKeeper$Told") ∈ lw_all := lw_g (lw_at lw_m6 239 rfl) rfl
theorem q1534 : (Jvm.Cond.methodLink "SearchKeeper" (253 : Nat) ({ cls := "SearchKeeper", name := "notices", desc := "(I)I" } : Jvm.MethodName)) ∈ lw_all := lw_g (lw_at lw_m7 0 rfl) rfl
theorem q1539 : (Jvm.Cond.instanceMethod ({ cls := "SearchKeeper", name := "lose", desc := "(II)I" } : Jvm.MethodName)) ∈ lw_all := lw_g (lw_at lw_m7 5 rfl) rfl
theorem q1540 : (Jvm.Cond.selects "SearchKeeper" ({ cls := "SearchKeeper", name := "lose", desc := "(II)I" } : Jvm.MethodName) ({ cls := "SearchKeeper", name := "lose", desc := "(II)I" } : Jvm.MethodName)) ∈ lw_all := lw_g (lw_at lw_m7 6 rfl) rfl
theorem q1541 : (Jvm.Cond.code ({ cls := "SearchKeeper", name := "lose", desc := "(II)I" } : Jvm.MethodName) prog_1_method_30_code (5 : Nat) (Option.some Jvm.ClassFile.FieldType.int)) ∈ lw_all := lw_g (lw_at lw_m7 7 rfl) rfl
theorem q1542 : (Jvm.Cond.methodLink "SearchKeeper" (257 : Nat) ({ cls := "java/util/LinkedList", name := "removeLast", desc := "()Ljava/lang/Object;" } : Jvm.MethodName)) ∈ lw_all := lw_g (lw_at lw_m7 8 rfl) rfl
theorem q1554 : (Jvm.Cond.instanceMethod ({ cls := "SearchKeeper", name := "pass", desc := "(I)I" } : Jvm.MethodName)) ∈ lw_all := lw_g (lw_at lw_m7 20 rfl) rfl
theorem q1555 : (Jvm.Cond.selects "SearchKeeper" ({ cls := "SearchKeeper", name := "pass", desc := "(I)I" } : Jvm.MethodName) ({ cls := "SearchKeeper", name := "pass", desc := "(I)I" } : Jvm.MethodName)) ∈ lw_all := lw_g (lw_at lw_m7 21 rfl) rfl
theorem q1556 : (Jvm.Cond.code ({ cls := "SearchKeeper", name := "pass", desc := "(I)I" } : Jvm.MethodName) prog_1_method_50_code (2 : Nat) (Option.some Jvm.ClassFile.FieldType.int)) ∈ lw_all := lw_g (lw_at lw_m7 22 rfl) rfl
theorem q1557 : (Jvm.Cond.constant "SearchKeeper" (410 : Nat) (100000 : Int32)) ∈ lw_all := lw_g (lw_at lw_m7 23 rfl) rfl
theorem q1562 : (Jvm.Cond.instanceMethod ({ cls := "SearchKeeper", name := "limits", desc := "(II)I" } : Jvm.MethodName)) ∈ lw_all := lw_g (lw_at lw_m7 28 rfl) rfl
theorem q1563 : (Jvm.Cond.selects "SearchKeeper" ({ cls := "SearchKeeper", name := "limits", desc := "(II)I" } : Jvm.MethodName) ({ cls := "SearchKeeper", name := "limits", desc := "(II)I" } : Jvm.MethodName)) ∈ lw_all := lw_g (lw_at lw_m7 29 rfl) rfl
theorem q1564 : (Jvm.Cond.code ({ cls := "SearchKeeper", name := "limits", desc := "(II)I" } : Jvm.MethodName) prog_1_method_52_code (4 : Nat) (Option.some Jvm.ClassFile.FieldType.int)) ∈ lw_all := lw_g (lw_at lw_m7 30 rfl) rfl
theorem q1569 : (Jvm.Cond.instanceMethod ({ cls := "SearchKeeper", name := "work", desc := "(I)I" } : Jvm.MethodName)) ∈ lw_all := lw_g (lw_at lw_m7 35 rfl) rfl
theorem q1570 : (Jvm.Cond.selects "SearchKeeper" ({ cls := "SearchKeeper", name := "work", desc := "(I)I" } : Jvm.MethodName) ({ cls := "SearchKeeper", name := "work", desc := "(I)I" } : Jvm.MethodName)) ∈ lw_all := lw_g (lw_at lw_m7 36 rfl) rfl
theorem q1571 : (Jvm.Cond.code ({ cls := "SearchKeeper", name := "work", desc := "(I)I" } : Jvm.MethodName) prog_1_method_47_code (7 : Nat) (Option.some Jvm.ClassFile.FieldType.int)) ∈ lw_all := lw_g (lw_at lw_m7 37 rfl) rfl
theorem q1572 : (Jvm.Cond.methodLink "SearchKeeper" (386 : Nat) ({ cls := "java/lang/Math", name := "min", desc := "(II)I" } : Jvm.MethodName)) ∈ lw_all := lw_g (lw_at lw_m7 38 rfl) rfl
theorem q1573 : (Jvm.Cond.methodLink "SearchKeeper" (392 : Nat) ({ cls := "SearchKeeper", name := "doNext", desc := "(I)I" } : Jvm.MethodName)) ∈ lw_all := lw_g (lw_at lw_m7 39 rfl) rfl
theorem q1574 : (Jvm.Cond.privateMethod ({ cls := "SearchKeeper", name := "doNext", desc := "(I)I" } : Jvm.MethodName)) ∈ lw_tbl := lw_at lw_m7 40 rfl
theorem q1575 : (Jvm.Cond.instanceMethod ({ cls := "SearchKeeper", name := "doNext", desc := "(I)I" } : Jvm.MethodName)) ∈ lw_all := lw_g (lw_at lw_m7 41 rfl) rfl
theorem q1576 : (Jvm.Cond.code ({ cls := "SearchKeeper", name := "doNext", desc := "(I)I" } : Jvm.MethodName) prog_1_method_46_code (6 : Nat) (Option.some Jvm.ClassFile.FieldType.int)) ∈ lw_all := lw_g (lw_at lw_m7 42 rfl) rfl
theorem q1577 : (Jvm.Cond.methodLink "SearchKeeper" (353 : Nat) ({ cls := "SearchKeeper", name := "next", desc := "()LSearchKeeper$Act;" } : Jvm.MethodName)) ∈ lw_all := lw_g (lw_at lw_m7 43 rfl) rfl
theorem q1578 : (Jvm.Cond.privateMethod ({ cls := "SearchKeeper", name := "next", desc := "()LSearchKeeper$Act;" } : Jvm.MethodName)) ∈ lw_tbl := lw_at lw_m7 44 rfl
theorem q1579 : (Jvm.Cond.instanceMethod ({ cls := "SearchKeeper", name := "next", desc := "()LSearchKeeper$Act;" } : Jvm.MethodName)) ∈ lw_all := lw_g (lw_at lw_m7 45 rfl) rfl
theorem q1580 : (Jvm.Cond.code ({ cls := "SearchKeeper", name := "next", desc := "()LSearchKeeper$Act;" } : Jvm.MethodName) prog_1_method_44_code (3 : Nat) (Option.some (Jvm.ClassFile.FieldType.object "SearchKeeper$Act"))) ∈ lw_all := lw_g (lw_at lw_m7 46 rfl) rfl
theorem q1581 : (Jvm.Cond.methodLink "SearchKeeper" (359 : Nat) ({ cls := "SearchKeeper", name := "costOf", desc := "(LSearchKeeper$Act;)I" } : Jvm.MethodName)) ∈ lw_all := lw_g (lw_at lw_m7 47 rfl) rfl
theorem q1582 : (Jvm.Cond.privateMethod ({ cls := "SearchKeeper", name := "costOf", desc := "(LSearchKeeper$Act;)I" } : Jvm.MethodName)) ∈ lw_tbl := lw_at lw_m7 48 rfl
theorem q1583 : (Jvm.Cond.instanceMethod ({ cls := "SearchKeeper", name := "costOf", desc := "(LSearchKeeper$Act;)I" } : Jvm.MethodName)) ∈ lw_all := lw_g (lw_at lw_m7 49 rfl) rfl
theorem q1584 : (Jvm.Cond.code ({ cls := "SearchKeeper", name := "costOf", desc := "(LSearchKeeper$Act;)I" } : Jvm.MethodName) prog_1_method_38_code (4 : Nat) (Option.some Jvm.ClassFile.FieldType.int)) ∈ lw_all := lw_g (lw_at lw_m7 50 rfl) rfl
theorem q1585 : (Jvm.Cond.methodLink "SearchKeeper" (363 : Nat) ({ cls := "SearchKeeper", name := "hear", desc := "(LSearchKeeper$Root;)V" } : Jvm.MethodName)) ∈ lw_all := lw_g (lw_at lw_m7 51 rfl) rfl
theorem q1586 : (Jvm.Cond.privateMethod ({ cls := "SearchKeeper", name := "hear", desc := "(LSearchKeeper$Root;)V" } : Jvm.MethodName)) ∈ lw_tbl := lw_at lw_m7 52 rfl
theorem q1587 : (Jvm.Cond.instanceMethod ({ cls := "SearchKeeper", name := "hear", desc := "(LSearchKeeper$Root;)V" } : Jvm.MethodName)) ∈ lw_all := lw_g (lw_at lw_m7 53 rfl) rfl
theorem q1588 : (Jvm.Cond.code ({ cls := "SearchKeeper", name := "hear", desc := "(LSearchKeeper$Root;)V" } : Jvm.MethodName) prog_1_method_45_code (3 : Nat) (Option.none : Option Jvm.ClassFile.FieldType)) ∈ lw_all := lw_g (lw_at lw_m7 54 rfl) rfl
theorem q1589 : (Jvm.Cond.methodLink "SearchKeeper" (348 : Nat) ({ cls := "java/util/LinkedList", name := "removeFirst", desc := "()Ljava/lang/Object;" } : Jvm.MethodName)) ∈ lw_all := lw_g (lw_at lw_m7 55 rfl) rfl
theorem q1597 : (Jvm.Cond.methodLink "SearchKeeper" (367 : Nat) ({ cls := "java/util/LinkedList", name := "remove", desc := "(Ljava/lang/Object;)Z" } : Jvm.MethodName)) ∈ lw_all := lw_g (lw_at lw_m7 63 rfl) rfl
theorem q1605 : (Jvm.Cond.selects "SearchKeeper" ({ cls := "java/lang/Object", name := "equals", desc := "(Ljava/lang/Object;)Z" } : Jvm.MethodName) ({ cls := "java/lang/Object", name := "equals", desc := "(Ljava/lang/Object;)Z" } : Jvm.MethodName)) ∈ lw_all := lw_g (lw_at lw_m7 71 rfl) rfl
theorem q1637 : (Jvm.Cond.methodLink "SearchKeeper" (368 : Nat) ({ cls := "SearchKeeper", name := "perform", desc := "(LSearchKeeper$Act;)V" } : Jvm.MethodName)) ∈ lw_all := lw_g (lw_at lw_m7 103 rfl) rfl
theorem q1638 : (Jvm.Cond.privateMethod ({ cls := "SearchKeeper", name := "perform", desc := "(LSearchKeeper$Act;)V" } : Jvm.MethodName)) ∈ lw_tbl := lw_at lw_m7 104 rfl
theorem q1639 : (Jvm.Cond.instanceMethod ({ cls := "SearchKeeper", name := "perform", desc := "(LSearchKeeper$Act;)V" } : Jvm.MethodName)) ∈ lw_all := lw_g (lw_at lw_m7 105 rfl) rfl
theorem q1640 : (Jvm.Cond.code ({ cls := "SearchKeeper", name := "perform", desc := "(LSearchKeeper$Act;)V" } : Jvm.MethodName) prog_1_method_39_code (4 : Nat) (Option.none : Option Jvm.ClassFile.FieldType)) ∈ lw_all := lw_g (lw_at lw_m7 106 rfl) rfl
theorem q1641 : (Jvm.Cond.methodLink "SearchKeeper" (306 : Nat) ({ cls := "SearchKeeper", name := "drop", desc := "(LSearchKeeper$Node;)V" } : Jvm.MethodName)) ∈ lw_all := lw_g (lw_at lw_m7 107 rfl) rfl
theorem q1642 : (Jvm.Cond.privateMethod ({ cls := "SearchKeeper", name := "drop", desc := "(LSearchKeeper$Node;)V" } : Jvm.MethodName)) ∈ lw_tbl := lw_at lw_m7 108 rfl
theorem q1643 : (Jvm.Cond.instanceMethod ({ cls := "SearchKeeper", name := "drop", desc := "(LSearchKeeper$Node;)V" } : Jvm.MethodName)) ∈ lw_all := lw_g (lw_at lw_m7 109 rfl) rfl
theorem q1644 : (Jvm.Cond.code ({ cls := "SearchKeeper", name := "drop", desc := "(LSearchKeeper$Node;)V" } : Jvm.MethodName) prog_1_method_37_code (5 : Nat) (Option.none : Option Jvm.ClassFile.FieldType)) ∈ lw_all := lw_g (lw_at lw_m7 110 rfl) rfl
theorem q1645 : (Jvm.Cond.methodLink "SearchKeeper" (275 : Nat) ({ cls := "SearchKeeper", name := "isRoot", desc := "(LSearchKeeper$Node;)Z" } : Jvm.MethodName)) ∈ lw_all := lw_g (lw_at lw_m7 111 rfl) rfl
theorem q1646 : (Jvm.Cond.privateMethod ({ cls := "SearchKeeper", name := "isRoot", desc := "(LSearchKeeper$Node;)Z" } : Jvm.MethodName)) ∈ lw_tbl := lw_at lw_m7 112 rfl
theorem q1647 : (Jvm.Cond.instanceMethod ({ cls := "SearchKeeper", name := "isRoot", desc := "(LSearchKeeper$Node;)Z" } : Jvm.MethodName)) ∈ lw_all := lw_g (lw_at lw_m7 113 rfl) rfl
theorem q1648 : (Jvm.Cond.code ({ cls := "SearchKeeper", name := "isRoot", desc := "(LSearchKeeper$Node;)Z" } : Jvm.MethodName) prog_1_method_33_code (5 : Nat) (Option.some Jvm.ClassFile.FieldType.boolean)) ∈ lw_all := lw_g (lw_at lw_m7 114 rfl) rfl
theorem q1649 : (Jvm.Cond.methodLink "SearchKeeper" (299 : Nat) ({ cls := "SearchKeeper", name := "isKnownBelow", desc := "(LSearchKeeper$Node;LSearchKeeper$Node;)Z" } : Jvm.MethodName)) ∈ lw_all := lw_g (lw_at lw_m7 115 rfl) rfl
theorem q1650 : (Jvm.Cond.privateMethod ({ cls := "SearchKeeper", name := "isKnownBelow", desc := "(LSearchKeeper$Node;LSearchKeeper$Node;)Z" } : Jvm.MethodName)) ∈ lw_tbl := lw_at lw_m7 116 rfl
theorem q1651 : (Jvm.Cond.instanceMethod ({ cls := "SearchKeeper", name := "isKnownBelow", desc := "(LSearchKeeper$Node;LSearchKeeper$Node;)Z" } : Jvm.MethodName)) ∈ lw_all := lw_g (lw_at lw_m7 117 rfl) rfl
theorem q1652 : (Jvm.Cond.code ({ cls := "SearchKeeper", name := "isKnownBelow", desc := "(LSearchKeeper$Node;LSearchKeeper$Node;)Z" } : Jvm.MethodName) prog_1_method_32_code (5 : Nat) (Option.some Jvm.ClassFile.FieldType.boolean)) ∈ lw_all := lw_g (lw_at lw_m7 118 rfl) rfl
theorem q1653 : (Jvm.Cond.methodLink "SearchKeeper" (302 : Nat) ({ cls := "SearchKeeper", name := "forget", desc := "(LSearchKeeper$Entry;)V" } : Jvm.MethodName)) ∈ lw_all := lw_g (lw_at lw_m7 119 rfl) rfl
theorem q1654 : (Jvm.Cond.privateMethod ({ cls := "SearchKeeper", name := "forget", desc := "(LSearchKeeper$Entry;)V" } : Jvm.MethodName)) ∈ lw_tbl := lw_at lw_m7 120 rfl
theorem q1655 : (Jvm.Cond.instanceMethod ({ cls := "SearchKeeper", name := "forget", desc := "(LSearchKeeper$Entry;)V" } : Jvm.MethodName)) ∈ lw_all := lw_g (lw_at lw_m7 121 rfl) rfl
theorem q1656 : (Jvm.Cond.code ({ cls := "SearchKeeper", name := "forget", desc := "(LSearchKeeper$Entry;)V" } : Jvm.MethodName) prog_1_method_35_code (2 : Nat) (Option.none : Option Jvm.ClassFile.FieldType)) ∈ lw_all := lw_g (lw_at lw_m7 122 rfl) rfl
theorem q1657 : (Jvm.Cond.methodLink "SearchKeeper" (281 : Nat) ({ cls := "SearchKeeper", name := "bury", desc := "(LSearchKeeper$Entry;)V" } : Jvm.MethodName)) ∈ lw_all := lw_g (lw_at lw_m7 123 rfl) rfl
theorem q1658 : (Jvm.Cond.static ({ cls := "SearchKeeper", name := "bury", desc := "(LSearchKeeper$Entry;)V" } : Jvm.MethodName)) ∈ lw_all := lw_g (lw_at lw_m7 124 rfl) rfl
theorem q1659 : (Jvm.Cond.code ({ cls := "SearchKeeper", name := "bury", desc := "(LSearchKeeper$Entry;)V" } : Jvm.MethodName) prog_1_method_36_code (1 : Nat) (Option.none : Option Jvm.ClassFile.FieldType)) ∈ lw_all := lw_g (lw_at lw_m7 125 rfl) rfl
theorem q1660 : (Jvm.Cond.interfaceEntry "SearchKeeper" (294 : Nat)) ∈ lw_tbl := lw_at lw_m7 126 rfl
theorem q1661 : (Jvm.Cond.methodLink "SearchKeeper" (294 : Nat) ({ cls := "java/util/List", name := "remove", desc := "(Ljava/lang/Object;)Z" } : Jvm.MethodName)) ∈ lw_all := lw_g (lw_at lw_m7 127 rfl) rfl
theorem q1673 : (Jvm.Cond.methodLink "SearchKeeper" (312 : Nat) ({ cls := "SearchKeeper", name := "look", desc := "(LSearchKeeper$Node;)V" } : Jvm.MethodName)) ∈ lw_all := lw_g (lw_at lw_m7 139 rfl) rfl
theorem q1674 : (Jvm.Cond.privateMethod ({ cls := "SearchKeeper", name := "look", desc := "(LSearchKeeper$Node;)V" } : Jvm.MethodName)) ∈ lw_tbl := lw_at lw_m7 140 rfl
theorem q1675 : (Jvm.Cond.instanceMethod ({ cls := "SearchKeeper", name := "look", desc := "(LSearchKeeper$Node;)V" } : Jvm.MethodName)) ∈ lw_all := lw_g (lw_at lw_m7 141 rfl) rfl
theorem q1676 : (Jvm.Cond.code ({ cls := "SearchKeeper", name := "look", desc := "(LSearchKeeper$Node;)V" } : Jvm.MethodName) prog_1_method_40_code (4 : Nat) (Option.none : Option Jvm.ClassFile.FieldType)) ∈ lw_all := lw_g (lw_at lw_m7 142 rfl) rfl
theorem q1678 : (Jvm.Cond.methodLink "SearchKeeper" (315 : Nat) ({ cls := "SearchKeeper$Entry", name := "<init>", desc := "(LSearchKeeper$Node;)V" } : Jvm.MethodName)) ∈ lw_all := lw_g (lw_at lw_m7 144 rfl) rfl
theorem q1685 : (Jvm.Cond.fieldLinkNest "SearchKeeper" (278 : Nat) "SearchKeeper$Entry" "node" "LSearchKeeper$Node;" "SearchKeeper") ∈ lw_tbl := lw_at lw_m7 151 rfl
theorem q1686 : (Jvm.Cond.fieldLinkNest "SearchKeeper" (274 : Nat) "SearchKeeper$Entry" "parent" "LSearchKeeper$Node;" "SearchKeeper") ∈ lw_tbl := lw_at lw_m7 152 rfl
theorem q1687 : (Jvm.Cond.fieldLinkNest "SearchKeeper" (316 : Nat) "SearchKeeper$Entry" "name" "C" "SearchKeeper") ∈ lw_tbl := lw_at lw_m7 153 rfl
theorem q1688 : (Jvm.Cond.fieldLinkNest "SearchKeeper" (305 : Nat) "SearchKeeper$Entry" "edition" "I" "SearchKeeper") ∈ lw_tbl := lw_at lw_m7 154 rfl
theorem q1690 : (Jvm.Cond.fieldLinkNest "SearchKeeper" (325 : Nat) "SearchKeeper$Entry" "words" "Ljava/util/List;" "SearchKeeper") ∈ lw_tbl := lw_at lw_m7 156 rfl
theorem q1691 : (Jvm.Cond.fieldLinkNest "SearchKeeper" (285 : Nat) "SearchKeeper$Entry" "segment" "LSearchKeeper$Segment;" "SearchKeeper") ∈ lw_tbl := lw_at lw_m7 157 rfl
theorem q1705 : (Jvm.Cond.classLink "SearchKeeper" (317 : Nat) "SearchKeeper$Taking") ∈ lw_all := lw_g (lw_at lw_m7 171 rfl) rfl
theorem q1707 : (Jvm.Cond.methodLink "SearchKeeper" (319 : Nat) ({ cls := "SearchKeeper$Taking", name := "<init>", desc := "(Ljava/util/List;II)V" } : Jvm.MethodName)) ∈ lw_all := lw_g (lw_at lw_m7 173 rfl) rfl
theorem q1734 : (Jvm.Cond.fieldLinkNest "SearchKeeper" (322 : Nat) "SearchKeeper$Taking" "words" "Ljava/util/List;" "SearchKeeper") ∈ lw_tbl := lw_at lw_m7 200 rfl
theorem q1747 : (Jvm.Cond.methodLink "SearchKeeper" (326 : Nat) ({ cls := "java/util/BitSet", name := "set", desc := "(I)V" } : Jvm.MethodName)) ∈ lw_all := lw_g (lw_at lw_m7 213 rfl) rfl
theorem q1782 : (Jvm.Cond.methodLink "SearchKeeper" (372 : Nat) ({ cls := "SearchKeeper", name := "crawl", desc := "(LSearchKeeper$Root;)V" } : Jvm.MethodName)) ∈ lw_all := lw_g (lw_at lw_m8 8 rfl) rfl
theorem q1783 : (Jvm.Cond.privateMethod ({ cls := "SearchKeeper", name := "crawl", desc := "(LSearchKeeper$Root;)V" } : Jvm.MethodName)) ∈ lw_tbl := lw_at lw_m8 9 rfl
theorem q1784 : (Jvm.Cond.instanceMethod ({ cls := "SearchKeeper", name := "crawl", desc := "(LSearchKeeper$Root;)V" } : Jvm.MethodName)) ∈ lw_all := lw_g (lw_at lw_m8 10 rfl) rfl
theorem q1785 : (Jvm.Cond.code ({ cls := "SearchKeeper", name := "crawl", desc := "(LSearchKeeper$Root;)V" } : Jvm.MethodName) prog_1_method_41_code (6 : Nat) (Option.none : Option Jvm.ClassFile.FieldType)) ∈ lw_all := lw_g (lw_at lw_m8 11 rfl) rfl
theorem q1786 : (Jvm.Cond.methodLink "SearchKeeper" (333 : Nat) ({ cls := "java/util/ArrayDeque", name := "removeFirst", desc := "()Ljava/lang/Object;" } : Jvm.MethodName)) ∈ lw_all := lw_g (lw_at lw_m8 12 rfl) rfl
theorem q1797 : (Jvm.Cond.methodLink "SearchKeeper" (341 : Nat) ({ cls := "java/util/ArrayDeque", name := "contains", desc := "(Ljava/lang/Object;)Z" } : Jvm.MethodName)) ∈ lw_all := lw_g (lw_at lw_m8 23 rfl) rfl
theorem q1802 : (Jvm.Cond.methodLink "SearchKeeper" (344 : Nat) ({ cls := "java/util/ArrayDeque", name := "addLast", desc := "(Ljava/lang/Object;)V" } : Jvm.MethodName)) ∈ lw_all := lw_g (lw_at lw_m8 28 rfl) rfl
theorem q1803 : (Jvm.Cond.methodLink "SearchKeeper" (345 : Nat) ({ cls := "java/util/ArrayDeque", name := "isEmpty", desc := "()Z" } : Jvm.MethodName)) ∈ lw_all := lw_g (lw_at lw_m8 29 rfl) rfl
theorem q1807 : (Jvm.Cond.methodLink "SearchKeeper" (346 : Nat) ({ cls := "java/util/BitSet", name := "get", desc := "(I)Z" } : Jvm.MethodName)) ∈ lw_all := lw_g (lw_at lw_m8 33 rfl) rfl
theorem q1811 : (Jvm.Cond.methodLink "SearchKeeper" (395 : Nat) ({ cls := "SearchKeeper", name := "store", desc := "()V" } : Jvm.MethodName)) ∈ lw_all := lw_g (lw_at lw_m8 37 rfl) rfl
theorem q1812 : (Jvm.Cond.privateMethod ({ cls := "SearchKeeper", name := "store", desc := "()V" } : Jvm.MethodName)) ∈ lw_tbl := lw_at lw_m8 38 rfl
theorem q1813 : (Jvm.Cond.instanceMethod ({ cls := "SearchKeeper", name := "store", desc := "()V" } : Jvm.MethodName)) ∈ lw_all := lw_g (lw_at lw_m8 39 rfl) rfl
theorem q1814 : (Jvm.Cond.code ({ cls := "SearchKeeper", name := "store", desc := "()V" } : Jvm.MethodName) prog_1_method_48_code (3 : Nat) (Option.none : Option Jvm.ClassFile.FieldType)) ∈ lw_all := lw_g (lw_at lw_m8 40 rfl) rfl
theorem q1816 : (Jvm.Cond.methodLinkNest "SearchKeeper" (398 : Nat) ({ cls := "SearchKeeper$Segment", name := "<init>", desc := "()V" } : Jvm.MethodName) "SearchKeeper") ∈ lw_tbl := lw_at lw_m8 42 rfl
theorem q1823 : (Jvm.Cond.fieldLinkNest "SearchKeeper" (289 : Nat) "SearchKeeper$Segment" "places" "Ljava/util/List;" "SearchKeeper") ∈ lw_tbl := lw_at lw_m8 49 rfl
theorem q1825 : (Jvm.Cond.fieldLinkNest "SearchKeeper" (296 : Nat) "SearchKeeper$Segment" "dead" "I" "SearchKeeper") ∈ lw_tbl := lw_at lw_m8 51 rfl
theorem q1831 : (Jvm.Cond.methodLink "SearchKeeper" (399 : Nat) ({ cls := "java/util/BitSet", name := "nextSetBit", desc := "(I)I" } : Jvm.MethodName)) ∈ lw_all := lw_g (lw_at lw_m8 57 rfl) rfl
theorem q1844 : (Jvm.Cond.methodLink "SearchKeeper" (402 : Nat) ({ cls := "java/util/BitSet", name := "clear", desc := "()V" } : Jvm.MethodName)) ∈ lw_all := lw_g (lw_at lw_m8 70 rfl) rfl
theorem q1845 : (Jvm.Cond.interfaceEntry "SearchKeeper" (403 : Nat)) ∈ lw_tbl := lw_at lw_m8 71 rfl
theorem q1846 : (Jvm.Cond.methodLink "SearchKeeper" (403 : Nat) ({ cls := "java/util/List", name := "isEmpty", desc := "()Z" } : Jvm.MethodName)) ∈ lw_all := lw_g (lw_at lw_m8 72 rfl) rfl
theorem q1857 : (Jvm.Cond.methodLink "SearchKeeper" (404 : Nat) ({ cls := "SearchKeeper", name := "join", desc := "()V" } : Jvm.MethodName)) ∈ lw_all := lw_g (lw_at lw_m8 83 rfl) rfl
theorem q1858 : (Jvm.Cond.privateMethod ({ cls := "SearchKeeper", name := "join", desc := "()V" } : Jvm.MethodName)) ∈ lw_tbl := lw_at lw_m8 84 rfl
theorem q1859 : (Jvm.Cond.instanceMethod ({ cls := "SearchKeeper", name := "join", desc := "()V" } : Jvm.MethodName)) ∈ lw_all := lw_g (lw_at lw_m8 85 rfl) rfl
theorem q1860 : (Jvm.Cond.code ({ cls := "SearchKeeper", name := "join", desc := "()V" } : Jvm.MethodName) prog_1_method_49_code (6 : Nat) (Option.none : Option Jvm.ClassFile.FieldType)) ∈ lw_all := lw_g (lw_at lw_m8 86 rfl) rfl
theorem q1861 : (Jvm.Cond.methodLink "SearchKeeper" (407 : Nat) ({ cls := "SearchKeeper$Segment", name := "size", desc := "()I" } : Jvm.MethodName)) ∈ lw_all := lw_g (lw_at lw_m8 87 rfl) rfl
theorem q1867 : (Jvm.Cond.interfaceEntry "SearchKeeper" (408 : Nat)) ∈ lw_tbl := lw_at lw_m8 93 rfl
theorem q1868 : (Jvm.Cond.methodLink "SearchKeeper" (408 : Nat) ({ cls := "java/util/List", name := "remove", desc := "(I)Ljava/lang/Object;" } : Jvm.MethodName)) ∈ lw_all := lw_g (lw_at lw_m8 94 rfl) rfl
theorem q1881 : (Jvm.Cond.instanceMethod ({ cls := "SearchKeeper", name := "crawl", desc := "(I)I" } : Jvm.MethodName)) ∈ lw_all := lw_g (lw_at lw_m8 107 rfl) rfl
theorem q1882 : (Jvm.Cond.selects "SearchKeeper" ({ cls := "SearchKeeper", name := "crawl", desc := "(I)I" } : Jvm.MethodName) ({ cls := "SearchKeeper", name := "crawl", desc := "(I)I" } : Jvm.MethodName)) ∈ lw_all := lw_g (lw_at lw_m8 108 rfl) rfl
theorem q1883 : (Jvm.Cond.code ({ cls := "SearchKeeper", name := "crawl", desc := "(I)I" } : Jvm.MethodName) prog_1_method_53_code (5 : Nat) (Option.some Jvm.ClassFile.FieldType.int)) ∈ lw_all := lw_g (lw_at lw_m8 109 rfl) rfl
theorem q1888 : (Jvm.Cond.instanceMethod ({ cls := "SearchKeeper", name := "edition", desc := "(I)I" } : Jvm.MethodName)) ∈ lw_all := lw_g (lw_at lw_m8 114 rfl) rfl
theorem q1889 : (Jvm.Cond.selects "SearchKeeper" ({ cls := "SearchKeeper", name := "edition", desc := "(I)I" } : Jvm.MethodName) ({ cls := "SearchKeeper", name := "edition", desc := "(I)I" } : Jvm.MethodName)) ∈ lw_all := lw_g (lw_at lw_m8 115 rfl) rfl
theorem q1890 : (Jvm.Cond.code ({ cls := "SearchKeeper", name := "edition", desc := "(I)I" } : Jvm.MethodName) prog_1_method_58_code (2 : Nat) (Option.some Jvm.ClassFile.FieldType.int)) ∈ lw_all := lw_g (lw_at lw_m8 116 rfl) rfl
theorem q1891 : (Jvm.Cond.methodLink "SearchKeeper" (411 : Nat) ({ cls := "SearchKeeper", name := "checkMade", desc := "(I)V" } : Jvm.MethodName)) ∈ lw_all := lw_g (lw_at lw_m8 117 rfl) rfl
theorem q1892 : (Jvm.Cond.privateMethod ({ cls := "SearchKeeper", name := "checkMade", desc := "(I)V" } : Jvm.MethodName)) ∈ lw_tbl := lw_at lw_m8 118 rfl
theorem q1893 : (Jvm.Cond.instanceMethod ({ cls := "SearchKeeper", name := "checkMade", desc := "(I)V" } : Jvm.MethodName)) ∈ lw_all := lw_g (lw_at lw_m8 119 rfl) rfl
theorem q1894 : (Jvm.Cond.code ({ cls := "SearchKeeper", name := "checkMade", desc := "(I)V" } : Jvm.MethodName) prog_1_method_57_code (2 : Nat) (Option.none : Option Jvm.ClassFile.FieldType)) ∈ lw_all := lw_g (lw_at lw_m8 120 rfl) rfl
theorem q1899 : (Jvm.Cond.instanceMethod ({ cls := "SearchKeeper", name := "answers", desc := "(IIII)I" } : Jvm.MethodName)) ∈ lw_all := lw_g (lw_at lw_m8 125 rfl) rfl
theorem q1900 : (Jvm.Cond.selects "SearchKeeper" ({ cls := "SearchKeeper", name := "answers", desc := "(IIII)I" } : Jvm.MethodName) ({ cls := "SearchKeeper", name := "answers", desc := "(IIII)I" } : Jvm.MethodName)) ∈ lw_all := lw_g (lw_at lw_m8 126 rfl) rfl
theorem q1901 : (Jvm.Cond.code ({ cls := "SearchKeeper", name := "answers", desc := "(IIII)I" } : Jvm.MethodName) prog_1_method_67_code (6 : Nat) (Option.some Jvm.ClassFile.FieldType.int)) ∈ lw_all := lw_g (lw_at lw_m8 127 rfl) rfl
theorem q1902 : (Jvm.Cond.methodLink "SearchKeeper" (428 : Nat) ({ cls := "SearchKeeper", name := "folderOr", desc := "(I)LSearchKeeper$Node;" } : Jvm.MethodName)) ∈ lw_all := lw_g (lw_at lw_m8 128 rfl) rfl
theorem q1903 : (Jvm.Cond.privateMethod ({ cls := "SearchKeeper", name := "folderOr", desc := "(I)LSearchKeeper$Node;" } : Jvm.MethodName)) ∈ lw_tbl := lw_at lw_m8 129 rfl
theorem q1904 : (Jvm.Cond.instanceMethod ({ cls := "SearchKeeper", name := "folderOr", desc := "(I)LSearchKeeper$Node;" } : Jvm.MethodName)) ∈ lw_all := lw_g (lw_at lw_m8 130 rfl) rfl
theorem q1905 : (Jvm.Cond.code ({ cls := "SearchKeeper", name := "folderOr", desc := "(I)LSearchKeeper$Node;" } : Jvm.MethodName) prog_1_method_66_code (2 : Nat) (Option.some (Jvm.ClassFile.FieldType.object "SearchKeeper$Node"))) ∈ lw_all := lw_g (lw_at lw_m8 131 rfl) rfl
theorem q1906 : (Jvm.Cond.methodLink "SearchKeeper" (431 : Nat) ({ cls := "SearchKeeper", name := "checkWords", desc := "(II)V" } : Jvm.MethodName)) ∈ lw_all := lw_g (lw_at lw_m8 132 rfl) rfl
theorem q1907 : (Jvm.Cond.static ({ cls := "SearchKeeper", name := "checkWords", desc := "(II)V" } : Jvm.MethodName)) ∈ lw_all := lw_g (lw_at lw_m8 133 rfl) rfl
theorem q1908 : (Jvm.Cond.code ({ cls := "SearchKeeper", name := "checkWords", desc := "(II)V" } : Jvm.MethodName) prog_1_method_64_code (2 : Nat) (Option.none : Option Jvm.ClassFile.FieldType)) ∈ lw_all := lw_g (lw_at lw_m8 134 rfl) rfl
theorem q1909 : (Jvm.Cond.methodLink "SearchKeeper" (435 : Nat) ({ cls := "SearchKeeper", name := "answer", desc := "(IIILSearchKeeper$Node;)Ljava/util/List;" } : Jvm.MethodName)) ∈ lw_all := lw_g (lw_at lw_m8 135 rfl) rfl
theorem q1910 : (Jvm.Cond.privateMethod ({ cls := "SearchKeeper", name := "answer", desc := "(IIILSearchKeeper$Node;)Ljava/util/List;" } : Jvm.MethodName)) ∈ lw_tbl := lw_at lw_m8 136 rfl
theorem q1911 : (Jvm.Cond.instanceMethod ({ cls := "SearchKeeper", name := "answer", desc := "(IIILSearchKeeper$Node;)Ljava/util/List;" } : Jvm.MethodName)) ∈ lw_all := lw_g (lw_at lw_m8 137 rfl) rfl
theorem q1912 : (Jvm.Cond.code ({ cls := "SearchKeeper", name := "answer", desc := "(IIILSearchKeeper$Node;)Ljava/util/List;" } : Jvm.MethodName) prog_1_method_65_code (12 : Nat) (Option.some (Jvm.ClassFile.FieldType.object "java/util/List"))) ∈ lw_all := lw_g (lw_at lw_m8 138 rfl) rfl
theorem q1913 : (Jvm.Cond.methodLink "SearchKeeper" (421 : Nat) ({ cls := "SearchKeeper", name := "score", desc := "(Ljava/util/List;II)I" } : Jvm.MethodName)) ∈ lw_all := lw_g (lw_at lw_m8 139 rfl) rfl
theorem q1914 : (Jvm.Cond.static ({ cls := "SearchKeeper", name := "score", desc := "(Ljava/util/List;II)I" } : Jvm.MethodName)) ∈ lw_all := lw_g (lw_at lw_m8 140 rfl) rfl
theorem q1915 : (Jvm.Cond.code ({ cls := "SearchKeeper", name := "score", desc := "(Ljava/util/List;II)I" } : Jvm.MethodName) prog_1_method_63_code (7 : Nat) (Option.some Jvm.ClassFile.FieldType.int)) ∈ lw_all := lw_g (lw_at lw_m8 141 rfl) rfl
theorem q1916 : (Jvm.Cond.methodLink "SearchKeeper" (417 : Nat) ({ cls := "SearchKeeper", name := "count", desc := "(Ljava/util/List;I)I" } : Jvm.MethodName)) ∈ lw_all := lw_g (lw_at lw_m8 142 rfl) rfl
theorem q1917 : (Jvm.Cond.static ({ cls := "SearchKeeper", name := "count", desc := "(Ljava/util/List;I)I" } : Jvm.MethodName)) ∈ lw_all := lw_g (lw_at lw_m8 143 rfl) rfl
theorem q1918 : (Jvm.Cond.code ({ cls := "SearchKeeper", name := "count", desc := "(Ljava/util/List;I)I" } : Jvm.MethodName) prog_1_method_62_code (4 : Nat) (Option.some Jvm.ClassFile.FieldType.int)) ∈ lw_all := lw_g (lw_at lw_m8 144 rfl) rfl
theorem q1919 : (Jvm.Cond.classLink "SearchKeeper" (186 : Nat) "java/lang/Integer") ∈ lw_all := lw_g (lw_at lw_m8 145 rfl) rfl
theorem q1920 : (Jvm.Cond.methodLink "SearchKeeper" (414 : Nat) ({ cls := "java/lang/Integer", name := "intValue", desc := "()I" } : Jvm.MethodName)) ∈ lw_all := lw_g (lw_at lw_m8 146 rfl) rfl
theorem q1921 : (Jvm.Cond.interfaceEntry "SearchKeeper" (425 : Nat)) ∈ lw_tbl := lw_at lw_m8 147 rfl
theorem q1922 : (Jvm.Cond.methodLink "SearchKeeper" (425 : Nat) ({ cls := "java/util/List", name := "add", desc := "(ILjava/lang/Object;)V" } : Jvm.MethodName)) ∈ lw_all := lw_g (lw_at lw_m8 148 rfl) rfl
theorem q1943 : (Jvm.Cond.instanceMethod ({ cls := "SearchKeeper", name := "answersAnew", desc := "(IIII)I" } : Jvm.MethodName)) ∈ lw_all := lw_g (lw_at lw_m8 169 rfl) rfl
theorem q1944 : (Jvm.Cond.selects "SearchKeeper" ({ cls := "SearchKeeper", name := "answersAnew", desc := "(IIII)I" } : Jvm.MethodName) ({ cls := "SearchKeeper", name := "answersAnew", desc := "(IIII)I" } : Jvm.MethodName)) ∈ lw_all := lw_g (lw_at lw_m8 170 rfl) rfl
theorem q1945 : (Jvm.Cond.code ({ cls := "SearchKeeper", name := "answersAnew", desc := "(IIII)I" } : Jvm.MethodName) prog_1_method_68_code (11 : Nat) (Option.some Jvm.ClassFile.FieldType.int)) ∈ lw_all := lw_g (lw_at lw_m8 171 rfl) rfl
theorem q1950 : (Jvm.Cond.instanceMethod ({ cls := "SearchKeeper", name := "answer", desc := "(IIII)I" } : Jvm.MethodName)) ∈ lw_all := lw_g (lw_at lw_m8 176 rfl) rfl
theorem q1951 : (Jvm.Cond.selects "SearchKeeper" ({ cls := "SearchKeeper", name := "answer", desc := "(IIII)I" } : Jvm.MethodName) ({ cls := "SearchKeeper", name := "answer", desc := "(IIII)I" } : Jvm.MethodName)) ∈ lw_all := lw_g (lw_at lw_m8 177 rfl) rfl
theorem q1952 : (Jvm.Cond.code ({ cls := "SearchKeeper", name := "answer", desc := "(IIII)I" } : Jvm.MethodName) prog_1_method_69_code (6 : Nat) (Option.some Jvm.ClassFile.FieldType.int)) ∈ lw_all := lw_g (lw_at lw_m8 178 rfl) rfl
theorem q1957 : (Jvm.Cond.instanceMethod ({ cls := "SearchKeeper", name := "closest", desc := "(IIII)I" } : Jvm.MethodName)) ∈ lw_all := lw_g (lw_at lw_m8 183 rfl) rfl
theorem q1958 : (Jvm.Cond.selects "SearchKeeper" ({ cls := "SearchKeeper", name := "closest", desc := "(IIII)I" } : Jvm.MethodName) ({ cls := "SearchKeeper", name := "closest", desc := "(IIII)I" } : Jvm.MethodName)) ∈ lw_all := lw_g (lw_at lw_m8 184 rfl) rfl
theorem q1959 : (Jvm.Cond.code ({ cls := "SearchKeeper", name := "closest", desc := "(IIII)I" } : Jvm.MethodName) prog_1_method_70_code (13 : Nat) (Option.some Jvm.ClassFile.FieldType.int)) ∈ lw_all := lw_g (lw_at lw_m8 185 rfl) rfl
theorem q2426 : (Jvm.Cond.castable "SearchKeeper" "java/lang/Object") ∈ lw_tbl := lw_at lw_m10 172 rfl
theorem in_X1 : ∀ w ∈ wsX10, w ∈ lw_all := lw_in wsX10 [397, 399, 401, 403, 405, 407, 409, 411, 413, 415, 417, 419] (by decide +kernel) (by decide +kernel)

/-! SearchKeeper$Node -/
set_option maxRecDepth 100000
def RX2 : String := "SearchKeeper$Node"
def TX2 : u_T := fun k => match k with
  | 0 => ("SearchKeeper$Node", "number", "I", true)
  | 1 => ("SearchKeeper$Node", "isFolder", "Z", true)
  | 2 => ("SearchKeeper$Node", "parent", "LSearchKeeper$Node;", false)
  | 3 => ("SearchKeeper$Node", "name", "C", false)
  | 4 => ("SearchKeeper$Node", "edition", "I", false)
  | 5 => ("SearchKeeper$Node", "marks", "Ljava/util/List;", true)
  | 6 => ("SearchKeeper$Node", "isLocked", "Z", false)
  | 7 => ("SearchKeeper$Node", "people", "I", false)
  | _ => ("SearchKeeper$Node", "isGone", "Z", false)
def tyX2 : Nat → FieldType := fun k => match k with
  | 0 => .int
  | 1 => .boolean
  | 2 => .object "SearchKeeper$Node"
  | 3 => .char
  | 4 => .int
  | 5 => .object "java/util/List"
  | 6 => .boolean
  | 7 => .int
  | _ => .boolean
abbrev wsX20 : List Cond := u_ws RX2 TX2 9
theorem nmX2 : ∀ a, a < 9 → ∀ b, b < 9 → a ≠ b → (TX2 a).2.1 ≠ (TX2 b).2.1 := by decide +kernel
theorem tyX2_ok : ∀ k, k < 9 → parseFieldDescriptor (TX2 k).2.2.1 = some (tyX2 k) := by decide +kernel
abbrev cX2_init : ByteArray := prog_4_method_1_code
def yX2_init : MethodName := ⟨RX2, "<init>", "(IZ)V"⟩
def dkwX2_init_1 : List UInt8 := [181, 0, 22, 42, 27, 181, 0, 25, 42, 28, 181, 0, 28, 177]
abbrev dktX2_init_1 : List UInt8 := dkwX2_init_1 ++ []
def dkwX2_init_0 : List UInt8 := [42, 183, 0, 3, 42, 4, 181, 0, 9, 42, 187, 0, 15, 89, 183, 0, 17, 181, 0, 18, 42, 16, 15]
abbrev dktX2_init_0 : List UInt8 := dkwX2_init_0 ++ dktX2_init_1
theorem dksX2_init_0 : cX2_init.data.toList.drop 0 = dktX2_init_0 := by decide +kernel
theorem dksX2_init_1 : cX2_init.data.toList.drop 23 = dktX2_init_1 := dk_seg dksX2_init_0 23 rfl rfl
theorem dX2_init_0 : decode cX2_init 0 = .ok (.aload_n 0, 1) := dk_42 (dk_at dksX2_init_0 0 rfl rfl)
theorem dX2_init_1 : decode cX2_init 1 = .ok (.invokespecial 3, 3) := dk_183 0 3 (dk_at dksX2_init_0 1 rfl rfl)
theorem dX2_init_4 : decode cX2_init 4 = .ok (.aload_n 0, 1) := dk_42 (dk_at dksX2_init_0 4 rfl rfl)
theorem dX2_init_5 : decode cX2_init 5 = .ok (.iconst 1, 1) := dk_4 (dk_at dksX2_init_0 5 rfl rfl)
theorem dX2_init_6 : decode cX2_init 6 = .ok (.putfield 9, 3) := dk_181 0 9 (dk_at dksX2_init_0 6 rfl rfl)
theorem dX2_init_9 : decode cX2_init 9 = .ok (.aload_n 0, 1) := dk_42 (dk_at dksX2_init_0 9 rfl rfl)
theorem dX2_init_10 : decode cX2_init 10 = .ok (.new 15, 3) := dk_187 0 15 (dk_at dksX2_init_0 10 rfl rfl)
theorem dX2_init_13 : decode cX2_init 13 = .ok (.dup, 1) := dk_89 (dk_at dksX2_init_0 13 rfl rfl)
theorem dX2_init_14 : decode cX2_init 14 = .ok (.invokespecial 17, 3) := dk_183 0 17 (dk_at dksX2_init_0 14 rfl rfl)
theorem dX2_init_17 : decode cX2_init 17 = .ok (.putfield 18, 3) := dk_181 0 18 (dk_at dksX2_init_0 17 rfl rfl)
theorem dX2_init_20 : decode cX2_init 20 = .ok (.aload_n 0, 1) := dk_42 (dk_at dksX2_init_0 20 rfl rfl)
theorem dX2_init_21 : decode cX2_init 21 = .ok (.bipush 15, 2) := dk_16 15 (dk_at dksX2_init_0 21 rfl rfl)
theorem dX2_init_23 : decode cX2_init 23 = .ok (.putfield 22, 3) := dk_181 0 22 (dk_at dksX2_init_1 0 rfl rfl)
theorem dX2_init_26 : decode cX2_init 26 = .ok (.aload_n 0, 1) := dk_42 (dk_at dksX2_init_1 3 rfl rfl)
theorem dX2_init_27 : decode cX2_init 27 = .ok (.iload_n 1, 1) := dk_27 (dk_at dksX2_init_1 4 rfl rfl)
theorem dX2_init_28 : decode cX2_init 28 = .ok (.putfield 25, 3) := dk_181 0 25 (dk_at dksX2_init_1 5 rfl rfl)
theorem dX2_init_31 : decode cX2_init 31 = .ok (.aload_n 0, 1) := dk_42 (dk_at dksX2_init_1 8 rfl rfl)
theorem dX2_init_32 : decode cX2_init 32 = .ok (.iload_n 2, 1) := dk_28 (dk_at dksX2_init_1 9 rfl rfl)
theorem dX2_init_33 : decode cX2_init 33 = .ok (.putfield 28, 3) := dk_181 0 28 (dk_at dksX2_init_1 10 rfl rfl)
theorem dX2_init_36 : decode cX2_init 36 = .ok (.return_, 1) := dk_177 (dk_at dksX2_init_1 13 rfl rfl)
abbrev cX2_isBelow : ByteArray := prog_4_method_2_code
def yX2_isBelow : MethodName := ⟨RX2, "isBelow", "(LSearchKeeper$Node;)Z"⟩
def dkwX2_isBelow_1 : List UInt8 := [3, 61, 45, 180, 0, 32, 78, 167, 255, 232, 28, 172]
abbrev dktX2_isBelow_1 : List UInt8 := dkwX2_isBelow_1 ++ []
def dkwX2_isBelow_0 : List UInt8 := [3, 61, 42, 180, 0, 32, 78, 45, 198, 0, 26, 28, 154, 0, 22, 45, 43, 166, 0, 7, 4, 167, 0, 4]
abbrev dktX2_isBelow_0 : List UInt8 := dkwX2_isBelow_0 ++ dktX2_isBelow_1
theorem dksX2_isBelow_0 : cX2_isBelow.data.toList.drop 0 = dktX2_isBelow_0 := by decide +kernel
theorem dksX2_isBelow_1 : cX2_isBelow.data.toList.drop 24 = dktX2_isBelow_1 := dk_seg dksX2_isBelow_0 24 rfl rfl
theorem dX2_isBelow_0 : decode cX2_isBelow 0 = .ok (.iconst 0, 1) := dk_3 (dk_at dksX2_isBelow_0 0 rfl rfl)
theorem dX2_isBelow_1 : decode cX2_isBelow 1 = .ok (.istore_n 2, 1) := dk_61 (dk_at dksX2_isBelow_0 1 rfl rfl)
theorem dX2_isBelow_2 : decode cX2_isBelow 2 = .ok (.aload_n 0, 1) := dk_42 (dk_at dksX2_isBelow_0 2 rfl rfl)
theorem dX2_isBelow_3 : decode cX2_isBelow 3 = .ok (.getfield 32, 3) := dk_180 0 32 (dk_at dksX2_isBelow_0 3 rfl rfl)
theorem dX2_isBelow_6 : decode cX2_isBelow 6 = .ok (.astore_n 3, 1) := dk_78 (dk_at dksX2_isBelow_0 6 rfl rfl)
theorem dX2_isBelow_7 : decode cX2_isBelow 7 = .ok (.aload_n 3, 1) := dk_45 (dk_at dksX2_isBelow_0 7 rfl rfl)
theorem dX2_isBelow_8 : decode cX2_isBelow 8 = .ok (.ifnull 26, 3) := dk_198 0 26 (dk_at dksX2_isBelow_0 8 rfl rfl)
theorem dX2_isBelow_11 : decode cX2_isBelow 11 = .ok (.iload_n 2, 1) := dk_28 (dk_at dksX2_isBelow_0 11 rfl rfl)
theorem dX2_isBelow_12 : decode cX2_isBelow 12 = .ok (.ifCond .ne 22, 3) := dk_154 0 22 (dk_at dksX2_isBelow_0 12 rfl rfl)
theorem dX2_isBelow_15 : decode cX2_isBelow 15 = .ok (.aload_n 3, 1) := dk_45 (dk_at dksX2_isBelow_0 15 rfl rfl)
theorem dX2_isBelow_16 : decode cX2_isBelow 16 = .ok (.aload_n 1, 1) := dk_43 (dk_at dksX2_isBelow_0 16 rfl rfl)
theorem dX2_isBelow_17 : decode cX2_isBelow 17 = .ok (.if_acmp .ne 7, 3) := dk_166 0 7 (dk_at dksX2_isBelow_0 17 rfl rfl)
theorem dX2_isBelow_20 : decode cX2_isBelow 20 = .ok (.iconst 1, 1) := dk_4 (dk_at dksX2_isBelow_0 20 rfl rfl)
theorem dX2_isBelow_21 : decode cX2_isBelow 21 = .ok (.goto 4, 3) := dk_167 0 4 (dk_at dksX2_isBelow_0 21 rfl rfl)
theorem dX2_isBelow_24 : decode cX2_isBelow 24 = .ok (.iconst 0, 1) := dk_3 (dk_at dksX2_isBelow_1 0 rfl rfl)
theorem dX2_isBelow_25 : decode cX2_isBelow 25 = .ok (.istore_n 2, 1) := dk_61 (dk_at dksX2_isBelow_1 1 rfl rfl)
theorem dX2_isBelow_26 : decode cX2_isBelow 26 = .ok (.aload_n 3, 1) := dk_45 (dk_at dksX2_isBelow_1 2 rfl rfl)
theorem dX2_isBelow_27 : decode cX2_isBelow 27 = .ok (.getfield 32, 3) := dk_180 0 32 (dk_at dksX2_isBelow_1 3 rfl rfl)
theorem dX2_isBelow_30 : decode cX2_isBelow 30 = .ok (.astore_n 3, 1) := dk_78 (dk_at dksX2_isBelow_1 6 rfl rfl)
theorem dX2_isBelow_31 : decode cX2_isBelow 31 = .ok (.goto (-24), 3) := dk_167 255 232 (dk_at dksX2_isBelow_1 7 rfl rfl)
theorem dX2_isBelow_34 : decode cX2_isBelow 34 = .ok (.iload_n 2, 1) := dk_28 (dk_at dksX2_isBelow_1 10 rfl rfl)
theorem dX2_isBelow_35 : decode cX2_isBelow 35 = .ok (.ireturn, 1) := dk_172 (dk_at dksX2_isBelow_1 11 rfl rfl)
abbrev cX2_mayBeRead : ByteArray := prog_4_method_3_code
def yX2_mayBeRead : MethodName := ⟨RX2, "mayBeRead", "(I)Z"⟩
def dkwX2_mayBeRead_1 : List UInt8 := [4, 167, 0, 4, 3, 61, 45, 180, 0, 32, 78, 167, 255, 225, 28, 172]
abbrev dktX2_mayBeRead_1 : List UInt8 := dkwX2_mayBeRead_1 ++ []
def dkwX2_mayBeRead_0 : List UInt8 := [4, 61, 42, 78, 45, 198, 0, 33, 28, 153, 0, 19, 45, 180, 0, 22, 27, 122, 4, 126, 4, 160, 0, 7]
abbrev dktX2_mayBeRead_0 : List UInt8 := dkwX2_mayBeRead_0 ++ dktX2_mayBeRead_1
theorem dksX2_mayBeRead_0 : cX2_mayBeRead.data.toList.drop 0 = dktX2_mayBeRead_0 := by decide +kernel
theorem dksX2_mayBeRead_1 : cX2_mayBeRead.data.toList.drop 24 = dktX2_mayBeRead_1 := dk_seg dksX2_mayBeRead_0 24 rfl rfl
theorem dX2_mayBeRead_0 : decode cX2_mayBeRead 0 = .ok (.iconst 1, 1) := dk_4 (dk_at dksX2_mayBeRead_0 0 rfl rfl)
theorem dX2_mayBeRead_1 : decode cX2_mayBeRead 1 = .ok (.istore_n 2, 1) := dk_61 (dk_at dksX2_mayBeRead_0 1 rfl rfl)
theorem dX2_mayBeRead_2 : decode cX2_mayBeRead 2 = .ok (.aload_n 0, 1) := dk_42 (dk_at dksX2_mayBeRead_0 2 rfl rfl)
theorem dX2_mayBeRead_3 : decode cX2_mayBeRead 3 = .ok (.astore_n 3, 1) := dk_78 (dk_at dksX2_mayBeRead_0 3 rfl rfl)
theorem dX2_mayBeRead_4 : decode cX2_mayBeRead 4 = .ok (.aload_n 3, 1) := dk_45 (dk_at dksX2_mayBeRead_0 4 rfl rfl)
theorem dX2_mayBeRead_5 : decode cX2_mayBeRead 5 = .ok (.ifnull 33, 3) := dk_198 0 33 (dk_at dksX2_mayBeRead_0 5 rfl rfl)
theorem dX2_mayBeRead_8 : decode cX2_mayBeRead 8 = .ok (.iload_n 2, 1) := dk_28 (dk_at dksX2_mayBeRead_0 8 rfl rfl)
theorem dX2_mayBeRead_9 : decode cX2_mayBeRead 9 = .ok (.ifCond .eq 19, 3) := dk_153 0 19 (dk_at dksX2_mayBeRead_0 9 rfl rfl)
theorem dX2_mayBeRead_12 : decode cX2_mayBeRead 12 = .ok (.aload_n 3, 1) := dk_45 (dk_at dksX2_mayBeRead_0 12 rfl rfl)
theorem dX2_mayBeRead_13 : decode cX2_mayBeRead 13 = .ok (.getfield 22, 3) := dk_180 0 22 (dk_at dksX2_mayBeRead_0 13 rfl rfl)
theorem dX2_mayBeRead_16 : decode cX2_mayBeRead 16 = .ok (.iload_n 1, 1) := dk_27 (dk_at dksX2_mayBeRead_0 16 rfl rfl)
theorem dX2_mayBeRead_17 : decode cX2_mayBeRead 17 = .ok (.ishr, 1) := dk_122 (dk_at dksX2_mayBeRead_0 17 rfl rfl)
theorem dX2_mayBeRead_18 : decode cX2_mayBeRead 18 = .ok (.iconst 1, 1) := dk_4 (dk_at dksX2_mayBeRead_0 18 rfl rfl)
theorem dX2_mayBeRead_19 : decode cX2_mayBeRead 19 = .ok (.iand, 1) := dk_126 (dk_at dksX2_mayBeRead_0 19 rfl rfl)
theorem dX2_mayBeRead_20 : decode cX2_mayBeRead 20 = .ok (.iconst 1, 1) := dk_4 (dk_at dksX2_mayBeRead_0 20 rfl rfl)
theorem dX2_mayBeRead_21 : decode cX2_mayBeRead 21 = .ok (.if_icmp .ne 7, 3) := dk_160 0 7 (dk_at dksX2_mayBeRead_0 21 rfl rfl)
theorem dX2_mayBeRead_24 : decode cX2_mayBeRead 24 = .ok (.iconst 1, 1) := dk_4 (dk_at dksX2_mayBeRead_1 0 rfl rfl)
theorem dX2_mayBeRead_25 : decode cX2_mayBeRead 25 = .ok (.goto 4, 3) := dk_167 0 4 (dk_at dksX2_mayBeRead_1 1 rfl rfl)
theorem dX2_mayBeRead_28 : decode cX2_mayBeRead 28 = .ok (.iconst 0, 1) := dk_3 (dk_at dksX2_mayBeRead_1 4 rfl rfl)
theorem dX2_mayBeRead_29 : decode cX2_mayBeRead 29 = .ok (.istore_n 2, 1) := dk_61 (dk_at dksX2_mayBeRead_1 5 rfl rfl)
theorem dX2_mayBeRead_30 : decode cX2_mayBeRead 30 = .ok (.aload_n 3, 1) := dk_45 (dk_at dksX2_mayBeRead_1 6 rfl rfl)
theorem dX2_mayBeRead_31 : decode cX2_mayBeRead 31 = .ok (.getfield 32, 3) := dk_180 0 32 (dk_at dksX2_mayBeRead_1 7 rfl rfl)
theorem dX2_mayBeRead_34 : decode cX2_mayBeRead 34 = .ok (.astore_n 3, 1) := dk_78 (dk_at dksX2_mayBeRead_1 10 rfl rfl)
theorem dX2_mayBeRead_35 : decode cX2_mayBeRead 35 = .ok (.goto (-31), 3) := dk_167 255 225 (dk_at dksX2_mayBeRead_1 11 rfl rfl)
theorem dX2_mayBeRead_38 : decode cX2_mayBeRead 38 = .ok (.iload_n 2, 1) := dk_28 (dk_at dksX2_mayBeRead_1 14 rfl rfl)
theorem dX2_mayBeRead_39 : decode cX2_mayBeRead 39 = .ok (.ireturn, 1) := dk_172 (dk_at dksX2_mayBeRead_1 15 rfl rfl)
theorem q102 : (Jvm.Cond.initialized "SearchKeeper$Node") ∈ lw_all := lw_g (lw_at lw_m1 8 rfl) rfl
theorem q232 : (Jvm.Cond.instantiable "SearchKeeper$Node" (9 : Nat)) ∈ lw_all := lw_g (lw_at lw_m1 138 rfl) rfl
theorem q234 : (Jvm.Cond.instanceMethod ({ cls := "SearchKeeper$Node", name := "<init>", desc := "(IZ)V" } : Jvm.MethodName)) ∈ lw_all := lw_g (lw_at lw_m1 140 rfl) rfl
theorem q235 : (Jvm.Cond.code ({ cls := "SearchKeeper$Node", name := "<init>", desc := "(IZ)V" } : Jvm.MethodName) prog_4_method_1_code (3 : Nat) (Option.none : Option Jvm.ClassFile.FieldType)) ∈ lw_all := lw_g (lw_at lw_m1 141 rfl) rfl
theorem q236 : (Jvm.Cond.methodLink "SearchKeeper$Node" (3 : Nat) ({ cls := "java/lang/Object", name := "<init>", desc := "()V" } : Jvm.MethodName)) ∈ lw_all := lw_g (lw_at lw_m1 142 rfl) rfl
theorem q237 : (Jvm.Cond.classLink "SearchKeeper$Node" (15 : Nat) "java/util/ArrayList") ∈ lw_all := lw_g (lw_at lw_m1 143 rfl) rfl
theorem q238 : (Jvm.Cond.methodLink "SearchKeeper$Node" (17 : Nat) ({ cls := "java/util/ArrayList", name := "<init>", desc := "()V" } : Jvm.MethodName)) ∈ lw_all := lw_g (lw_at lw_m1 144 rfl) rfl
theorem q239 : (Jvm.Cond.fieldLink "SearchKeeper$Node" (25 : Nat) "SearchKeeper$Node" "number" "I") ∈ lw_all := lw_g (lw_at lw_m1 145 rfl) rfl
theorem q241 : (Jvm.Cond.fieldLink "SearchKeeper$Node" (28 : Nat) "SearchKeeper$Node" "isFolder" "Z") ∈ lw_all := lw_g (lw_at lw_m1 147 rfl) rfl
theorem q243 : (Jvm.Cond.fieldLink "SearchKeeper$Node" (32 : Nat) "SearchKeeper$Node" "parent" "LSearchKeeper$Node;") ∈ lw_all := lw_g (lw_at lw_m1 149 rfl) rfl
theorem q246 : (Jvm.Cond.fieldLink "SearchKeeper$Node" (9 : Nat) "SearchKeeper$Node" "edition" "I") ∈ lw_all := lw_g (lw_at lw_m1 152 rfl) rfl
theorem q248 : (Jvm.Cond.fieldLink "SearchKeeper$Node" (18 : Nat) "SearchKeeper$Node" "marks" "Ljava/util/List;") ∈ lw_all := lw_g (lw_at lw_m1 154 rfl) rfl
theorem q251 : (Jvm.Cond.fieldLink "SearchKeeper$Node" (22 : Nat) "SearchKeeper$Node" "people" "I") ∈ lw_all := lw_g (lw_at lw_m1 157 rfl) rfl
theorem q254 : (Jvm.Cond.laysFinal "SearchKeeper$Node" "SearchKeeper$Node" "number" "I") ∈ lw_all := lw_g (lw_at lw_m1 160 rfl) rfl
theorem q255 : (Jvm.Cond.soleField "SearchKeeper$Node" "number") ∈ lw_all := lw_g (lw_at lw_m1 161 rfl) rfl
theorem q256 : (Jvm.Cond.laysFinal "SearchKeeper$Node" "SearchKeeper$Node" "isFolder" "Z") ∈ lw_all := lw_g (lw_at lw_m1 162 rfl) rfl
theorem q257 : (Jvm.Cond.soleField "SearchKeeper$Node" "isFolder") ∈ lw_all := lw_g (lw_at lw_m1 163 rfl) rfl
theorem q258 : (Jvm.Cond.lays "SearchKeeper$Node" "SearchKeeper$Node" "parent" "LSearchKeeper$Node;") ∈ lw_all := lw_g (lw_at lw_m1 164 rfl) rfl
theorem q259 : (Jvm.Cond.soleField "SearchKeeper$Node" "parent") ∈ lw_all := lw_g (lw_at lw_m1 165 rfl) rfl
theorem q260 : (Jvm.Cond.lays "SearchKeeper$Node" "SearchKeeper$Node" "name" "C") ∈ lw_all := lw_g (lw_at lw_m1 166 rfl) rfl
theorem q261 : (Jvm.Cond.soleField "SearchKeeper$Node" "name") ∈ lw_all := lw_g (lw_at lw_m1 167 rfl) rfl
theorem q262 : (Jvm.Cond.lays "SearchKeeper$Node" "SearchKeeper$Node" "edition" "I") ∈ lw_all := lw_g (lw_at lw_m1 168 rfl) rfl
theorem q263 : (Jvm.Cond.soleField "SearchKeeper$Node" "edition") ∈ lw_all := lw_g (lw_at lw_m1 169 rfl) rfl
theorem q264 : (Jvm.Cond.laysFinal "SearchKeeper$Node" "SearchKeeper$Node" "marks" "Ljava/util/List;") ∈ lw_all := lw_g (lw_at lw_m1 170 rfl) rfl
theorem q265 : (Jvm.Cond.soleField "SearchKeeper$Node" "marks") ∈ lw_all := lw_g (lw_at lw_m1 171 rfl) rfl
theorem q266 : (Jvm.Cond.lays "SearchKeeper$Node" "SearchKeeper$Node" "isLocked" "Z") ∈ lw_all := lw_g (lw_at lw_m1 172 rfl) rfl
theorem q267 : (Jvm.Cond.soleField "SearchKeeper$Node" "isLocked") ∈ lw_all := lw_g (lw_at lw_m1 173 rfl) rfl
theorem q268 : (Jvm.Cond.lays "SearchKeeper$Node" "SearchKeeper$Node" "people" "I") ∈ lw_all := lw_g (lw_at lw_m1 174 rfl) rfl
theorem q269 : (Jvm.Cond.soleField "SearchKeeper$Node" "people") ∈ lw_all := lw_g (lw_at lw_m1 175 rfl) rfl
theorem q270 : (Jvm.Cond.lays "SearchKeeper$Node" "SearchKeeper$Node" "isGone" "Z") ∈ lw_all := lw_g (lw_at lw_m1 176 rfl) rfl
theorem q271 : (Jvm.Cond.soleField "SearchKeeper$Node" "isGone") ∈ lw_all := lw_g (lw_at lw_m1 177 rfl) rfl
theorem q272 : (Jvm.Cond.superclass "SearchKeeper$Node" "java/lang/Object") ∈ lw_all := lw_g (lw_at lw_m1 178 rfl) rfl
theorem q314 : (Jvm.Cond.selects "SearchKeeper$Node" ({ cls := "java/lang/Object", name := "getClass", desc := "()Ljava/lang/Class;" } : Jvm.MethodName) ({ cls := "java/lang/Object", name := "getClass", desc := "()Ljava/lang/Class;" } : Jvm.MethodName)) ∈ lw_all := lw_g (lw_at lw_m1 220 rfl) rfl
theorem q1085 : (Jvm.Cond.instanceMethod ({ cls := "SearchKeeper$Node", name := "isBelow", desc := "(LSearchKeeper$Node;)Z" } : Jvm.MethodName)) ∈ lw_all := lw_g (lw_at lw_m5 31 rfl) rfl
theorem q1086 : (Jvm.Cond.selects "SearchKeeper$Node" ({ cls := "SearchKeeper$Node", name := "isBelow", desc := "(LSearchKeeper$Node;)Z" } : Jvm.MethodName) ({ cls := "SearchKeeper$Node", name := "isBelow", desc := "(LSearchKeeper$Node;)Z" } : Jvm.MethodName)) ∈ lw_all := lw_g (lw_at lw_m5 32 rfl) rfl
theorem q1087 : (Jvm.Cond.code ({ cls := "SearchKeeper$Node", name := "isBelow", desc := "(LSearchKeeper$Node;)Z" } : Jvm.MethodName) prog_4_method_2_code (4 : Nat) (Option.some Jvm.ClassFile.FieldType.boolean)) ∈ lw_all := lw_g (lw_at lw_m5 33 rfl) rfl
theorem q1417 : (Jvm.Cond.instanceMethod ({ cls := "SearchKeeper$Node", name := "mayBeRead", desc := "(I)Z" } : Jvm.MethodName)) ∈ lw_all := lw_g (lw_at lw_m6 123 rfl) rfl
theorem q1418 : (Jvm.Cond.selects "SearchKeeper$Node" ({ cls := "SearchKeeper$Node", name := "mayBeRead", desc := "(I)Z" } : Jvm.MethodName) ({ cls := "SearchKeeper$Node", name := "mayBeRead", desc := "(I)Z" } : Jvm.MethodName)) ∈ lw_all := lw_g (lw_at lw_m6 124 rfl) rfl
theorem q1419 : (Jvm.Cond.code ({ cls := "SearchKeeper$Node", name := "mayBeRead", desc := "(I)Z" } : Jvm.MethodName) prog_4_method_3_code (4 : Nat) (Option.some Jvm.ClassFile.FieldType.boolean)) ∈ lw_all := lw_g (lw_at lw_m6 125 rfl) rfl
theorem q1608 : (Jvm.Cond.selects "SearchKeeper$Node" ({ cls := "java/lang/Object", name := "equals", desc := "(Ljava/lang/Object;)Z" } : Jvm.MethodName) ({ cls := "java/lang/Object", name := "equals", desc := "(Ljava/lang/Object;)Z" } : Jvm.MethodName)) ∈ lw_all := lw_g (lw_at lw_m7 74 rfl) rfl
theorem q2430 : (Jvm.Cond.castable "SearchKeeper$Node" "java/lang/Object") ∈ lw_tbl := lw_at lw_m10 176 rfl
theorem in_X2 : ∀ w ∈ wsX20, w ∈ lw_all := lw_in wsX20 [254, 256, 258, 260, 262, 264, 266, 268, 270] (by decide +kernel) (by decide +kernel)

/-! SearchKeeper$Told -/
set_option maxRecDepth 100000
def RX4 : String := "SearchKeeper$Told"
def TX4 : u_T := fun k => match k with
  | 0 => ("SearchKeeper$Told", "notice", "LSearchKeeper$Notice;", true)
  | _ => ("SearchKeeper$Told", "node", "LSearchKeeper$Node;", true)
def tyX4 : Nat → FieldType := fun k => match k with
  | 0 => .object "SearchKeeper$Notice"
  | _ => .object "SearchKeeper$Node"
abbrev wsX40 : List Cond := u_ws RX4 TX4 2
theorem nmX4 : ∀ a, a < 2 → ∀ b, b < 2 → a ≠ b → (TX4 a).2.1 ≠ (TX4 b).2.1 := by decide +kernel
theorem tyX4_ok : ∀ k, k < 2 → parseFieldDescriptor (TX4 k).2.2.1 = some (tyX4 k) := by decide +kernel
abbrev cX4_init : ByteArray := prog_9_method_1_code
def yX4_init : MethodName := ⟨RX4, "<init>", "(LSearchKeeper$Notice;LSearchKeeper$Node;)V"⟩
def dkwX4_init_0 : List UInt8 := [42, 183, 0, 1, 42, 43, 181, 0, 7, 42, 44, 181, 0, 13, 177]
abbrev dktX4_init_0 : List UInt8 := dkwX4_init_0 ++ []
theorem dksX4_init_0 : cX4_init.data.toList.drop 0 = dktX4_init_0 := by decide +kernel
theorem dX4_init_0 : decode cX4_init 0 = .ok (.aload_n 0, 1) := dk_42 (dk_at dksX4_init_0 0 rfl rfl)
theorem dX4_init_1 : decode cX4_init 1 = .ok (.invokespecial 1, 3) := dk_183 0 1 (dk_at dksX4_init_0 1 rfl rfl)
theorem dX4_init_4 : decode cX4_init 4 = .ok (.aload_n 0, 1) := dk_42 (dk_at dksX4_init_0 4 rfl rfl)
theorem dX4_init_5 : decode cX4_init 5 = .ok (.aload_n 1, 1) := dk_43 (dk_at dksX4_init_0 5 rfl rfl)
theorem dX4_init_6 : decode cX4_init 6 = .ok (.putfield 7, 3) := dk_181 0 7 (dk_at dksX4_init_0 6 rfl rfl)
theorem dX4_init_9 : decode cX4_init 9 = .ok (.aload_n 0, 1) := dk_42 (dk_at dksX4_init_0 9 rfl rfl)
theorem dX4_init_10 : decode cX4_init 10 = .ok (.aload_n 2, 1) := dk_44 (dk_at dksX4_init_0 10 rfl rfl)
theorem dX4_init_11 : decode cX4_init 11 = .ok (.putfield 13, 3) := dk_181 0 13 (dk_at dksX4_init_0 11 rfl rfl)
theorem dX4_init_14 : decode cX4_init 14 = .ok (.return_, 1) := dk_177 (dk_at dksX4_init_0 14 rfl rfl)
theorem q133 : (Jvm.Cond.initialized "SearchKeeper$Told") ∈ lw_all := lw_g (lw_at lw_m1 39 rfl) rfl
theorem q319 : (Jvm.Cond.selects "SearchKeeper$Told" ({ cls := "java/lang/Object", name := "getClass", desc := "()Ljava/lang/Class;" } : Jvm.MethodName) ({ cls := "java/lang/Object", name := "getClass", desc := "()Ljava/lang/Class;" } : Jvm.MethodName)) ∈ lw_all := lw_g (lw_at lw_m1 225 rfl) rfl
theorem q1196 : (Jvm.Cond.instantiable "SearchKeeper$Told" (2 : Nat)) ∈ lw_all := lw_g (lw_at lw_m5 142 rfl) rfl
theorem q1198 : (Jvm.Cond.instanceMethod ({ cls := "SearchKeeper$Told", name := "<init>", desc := "(LSearchKeeper$Notice;LSearchKeeper$Node;)V" } : Jvm.MethodName)) ∈ lw_all := lw_g (lw_at lw_m5 144 rfl) rfl
theorem q1199 : (Jvm.Cond.code ({ cls := "SearchKeeper$Told", name := "<init>", desc := "(LSearchKeeper$Notice;LSearchKeeper$Node;)V" } : Jvm.MethodName) prog_9_method_1_code (3 : Nat) (Option.none : Option Jvm.ClassFile.FieldType)) ∈ lw_all := lw_g (lw_at lw_m5 145 rfl) rfl
theorem q1200 : (Jvm.Cond.methodLink "SearchKeeper$Told" (1 : Nat) ({ cls := "java/lang/Object", name := "<init>", desc := "()V" } : Jvm.MethodName)) ∈ lw_all := lw_g (lw_at lw_m5 146 rfl) rfl
theorem q1201 : (Jvm.Cond.fieldLink "SearchKeeper$Told" (7 : Nat) "SearchKeeper$Told" "notice" "LSearchKeeper$Notice;") ∈ lw_all := lw_g (lw_at lw_m5 147 rfl) rfl
theorem q1203 : (Jvm.Cond.fieldLink "SearchKeeper$Told" (13 : Nat) "SearchKeeper$Told" "node" "LSearchKeeper$Node;") ∈ lw_all := lw_g (lw_at lw_m5 149 rfl) rfl
theorem q1205 : (Jvm.Cond.laysFinal "SearchKeeper$Told" "SearchKeeper$Told" "notice" "LSearchKeeper$Notice;") ∈ lw_all := lw_g (lw_at lw_m5 151 rfl) rfl
theorem q1206 : (Jvm.Cond.soleField "SearchKeeper$Told" "notice") ∈ lw_all := lw_g (lw_at lw_m5 152 rfl) rfl
theorem q1207 : (Jvm.Cond.laysFinal "SearchKeeper$Told" "SearchKeeper$Told" "node" "LSearchKeeper$Node;") ∈ lw_all := lw_g (lw_at lw_m5 153 rfl) rfl
theorem q1208 : (Jvm.Cond.soleField "SearchKeeper$Told" "node") ∈ lw_all := lw_g (lw_at lw_m5 154 rfl) rfl
theorem q1209 : (Jvm.Cond.superclass "SearchKeeper$Told" "java/lang/Object") ∈ lw_all := lw_g (lw_at lw_m5 155 rfl) rfl
theorem q1615 : (Jvm.Cond.selects "SearchKeeper$Told" ({ cls := "java/lang/Object", name := "equals", desc := "(Ljava/lang/Object;)Z" } : Jvm.MethodName) ({ cls := "java/lang/Object", name := "equals", desc := "(Ljava/lang/Object;)Z" } : Jvm.MethodName)) ∈ lw_all := lw_g (lw_at lw_m7 81 rfl) rfl
theorem q2445 : (Jvm.Cond.castable "SearchKeeper$Told" "java/lang/Object") ∈ lw_tbl := lw_at lw_m10 191 rfl
theorem in_X4 : ∀ w ∈ wsX40, w ∈ lw_all := lw_in wsX40 [1205, 1207] (by decide +kernel) (by decide +kernel)

/-! SearchKeeper$Act -/
set_option maxRecDepth 100000
def RX5 : String := "SearchKeeper$Act"
def TX5 : u_T := fun k => match k with
  | 0 => ("SearchKeeper$Act", "node", "LSearchKeeper$Node;", true)
  | 1 => ("SearchKeeper$Act", "isDrop", "Z", false)
  | _ => ("SearchKeeper$Act", "isPutOff", "Z", false)
def tyX5 : Nat → FieldType := fun k => match k with
  | 0 => .object "SearchKeeper$Node"
  | 1 => .boolean
  | _ => .boolean
abbrev wsX50 : List Cond := u_ws RX5 TX5 3
theorem nmX5 : ∀ a, a < 3 → ∀ b, b < 3 → a ≠ b → (TX5 a).2.1 ≠ (TX5 b).2.1 := by decide +kernel
theorem tyX5_ok : ∀ k, k < 3 → parseFieldDescriptor (TX5 k).2.2.1 = some (tyX5 k) := by decide +kernel
abbrev cX5_init : ByteArray := prog_2_method_1_code
def yX5_init : MethodName := ⟨RX5, "<init>", "(LSearchKeeper$Node;Z)V"⟩
def dkwX5_init_0 : List UInt8 := [42, 183, 0, 1, 42, 43, 181, 0, 7, 42, 28, 181, 0, 13, 177]
abbrev dktX5_init_0 : List UInt8 := dkwX5_init_0 ++ []
theorem dksX5_init_0 : cX5_init.data.toList.drop 0 = dktX5_init_0 := by decide +kernel
theorem dX5_init_0 : decode cX5_init 0 = .ok (.aload_n 0, 1) := dk_42 (dk_at dksX5_init_0 0 rfl rfl)
theorem dX5_init_1 : decode cX5_init 1 = .ok (.invokespecial 1, 3) := dk_183 0 1 (dk_at dksX5_init_0 1 rfl rfl)
theorem dX5_init_4 : decode cX5_init 4 = .ok (.aload_n 0, 1) := dk_42 (dk_at dksX5_init_0 4 rfl rfl)
theorem dX5_init_5 : decode cX5_init 5 = .ok (.aload_n 1, 1) := dk_43 (dk_at dksX5_init_0 5 rfl rfl)
theorem dX5_init_6 : decode cX5_init 6 = .ok (.putfield 7, 3) := dk_181 0 7 (dk_at dksX5_init_0 6 rfl rfl)
theorem dX5_init_9 : decode cX5_init 9 = .ok (.aload_n 0, 1) := dk_42 (dk_at dksX5_init_0 9 rfl rfl)
theorem dX5_init_10 : decode cX5_init 10 = .ok (.iload_n 2, 1) := dk_28 (dk_at dksX5_init_0 10 rfl rfl)
theorem dX5_init_11 : decode cX5_init 11 = .ok (.putfield 13, 3) := dk_181 0 13 (dk_at dksX5_init_0 11 rfl rfl)
theorem dX5_init_14 : decode cX5_init 14 = .ok (.return_, 1) := dk_177 (dk_at dksX5_init_0 14 rfl rfl)
theorem q136 : (Jvm.Cond.initialized "SearchKeeper$Act") ∈ lw_all := lw_g (lw_at lw_m1 42 rfl) rfl
theorem q312 : (Jvm.Cond.selects "SearchKeeper$Act" ({ cls := "java/lang/Object", name := "getClass", desc := "()Ljava/lang/Class;" } : Jvm.MethodName) ({ cls := "java/lang/Object", name := "getClass", desc := "()Ljava/lang/Class;" } : Jvm.MethodName)) ∈ lw_all := lw_g (lw_at lw_m1 218 rfl) rfl
theorem q1374 : (Jvm.Cond.instantiable "SearchKeeper$Act" (3 : Nat)) ∈ lw_all := lw_g (lw_at lw_m6 80 rfl) rfl
theorem q1376 : (Jvm.Cond.instanceMethod ({ cls := "SearchKeeper$Act", name := "<init>", desc := "(LSearchKeeper$Node;Z)V" } : Jvm.MethodName)) ∈ lw_all := lw_g (lw_at lw_m6 82 rfl) rfl
theorem q1377 : (Jvm.Cond.code ({ cls := "SearchKeeper$Act", name := "<init>", desc := "(LSearchKeeper$Node;Z)V" } : Jvm.MethodName) prog_2_method_1_code (3 : Nat) (Option.none : Option Jvm.ClassFile.FieldType)) ∈ lw_all := lw_g (lw_at lw_m6 83 rfl) rfl
theorem q1378 : (Jvm.Cond.methodLink "SearchKeeper$Act" (1 : Nat) ({ cls := "java/lang/Object", name := "<init>", desc := "()V" } : Jvm.MethodName)) ∈ lw_all := lw_g (lw_at lw_m6 84 rfl) rfl
theorem q1379 : (Jvm.Cond.fieldLink "SearchKeeper$Act" (7 : Nat) "SearchKeeper$Act" "node" "LSearchKeeper$Node;") ∈ lw_all := lw_g (lw_at lw_m6 85 rfl) rfl
theorem q1381 : (Jvm.Cond.fieldLink "SearchKeeper$Act" (13 : Nat) "SearchKeeper$Act" "isDrop" "Z") ∈ lw_all := lw_g (lw_at lw_m6 87 rfl) rfl
theorem q1384 : (Jvm.Cond.laysFinal "SearchKeeper$Act" "SearchKeeper$Act" "node" "LSearchKeeper$Node;") ∈ lw_all := lw_g (lw_at lw_m6 90 rfl) rfl
theorem q1385 : (Jvm.Cond.soleField "SearchKeeper$Act" "node") ∈ lw_all := lw_g (lw_at lw_m6 91 rfl) rfl
theorem q1386 : (Jvm.Cond.lays "SearchKeeper$Act" "SearchKeeper$Act" "isDrop" "Z") ∈ lw_all := lw_g (lw_at lw_m6 92 rfl) rfl
theorem q1387 : (Jvm.Cond.soleField "SearchKeeper$Act" "isDrop") ∈ lw_all := lw_g (lw_at lw_m6 93 rfl) rfl
theorem q1388 : (Jvm.Cond.lays "SearchKeeper$Act" "SearchKeeper$Act" "isPutOff" "Z") ∈ lw_all := lw_g (lw_at lw_m6 94 rfl) rfl
theorem q1389 : (Jvm.Cond.soleField "SearchKeeper$Act" "isPutOff") ∈ lw_all := lw_g (lw_at lw_m6 95 rfl) rfl
theorem q1390 : (Jvm.Cond.superclass "SearchKeeper$Act" "java/lang/Object") ∈ lw_all := lw_g (lw_at lw_m6 96 rfl) rfl
theorem q1606 : (Jvm.Cond.selects "SearchKeeper$Act" ({ cls := "java/lang/Object", name := "equals", desc := "(Ljava/lang/Object;)Z" } : Jvm.MethodName) ({ cls := "java/lang/Object", name := "equals", desc := "(Ljava/lang/Object;)Z" } : Jvm.MethodName)) ∈ lw_all := lw_g (lw_at lw_m7 72 rfl) rfl
theorem q2448 : (Jvm.Cond.castable "SearchKeeper$Act" "java/lang/Object") ∈ lw_tbl := lw_at lw_m10 194 rfl
theorem in_X5 : ∀ w ∈ wsX50, w ∈ lw_all := lw_in wsX50 [1384, 1386, 1388] (by decide +kernel) (by decide +kernel)

/-! SearchKeeper$Root -/
set_option maxRecDepth 100000
def RX6 : String := "SearchKeeper$Root"
def TX6 : u_T := fun k => match k with
  | 0 => ("SearchKeeper$Root", "folder", "LSearchKeeper$Node;", true)
  | 1 => ("SearchKeeper$Root", "queue", "Ljava/util/LinkedList;", true)
  | 2 => ("SearchKeeper$Root", "isFlooded", "Z", false)
  | 3 => ("SearchKeeper$Root", "crawl", "Ljava/util/ArrayDeque;", false)
  | _ => ("SearchKeeper$Root", "met", "Ljava/util/BitSet;", true)
def tyX6 : Nat → FieldType := fun k => match k with
  | 0 => .object "SearchKeeper$Node"
  | 1 => .object "java/util/LinkedList"
  | 2 => .boolean
  | 3 => .object "java/util/ArrayDeque"
  | _ => .object "java/util/BitSet"
abbrev wsX60 : List Cond := u_ws RX6 TX6 5
theorem nmX6 : ∀ a, a < 5 → ∀ b, b < 5 → a ≠ b → (TX6 a).2.1 ≠ (TX6 b).2.1 := by decide +kernel
theorem tyX6_ok : ∀ k, k < 5 → parseFieldDescriptor (TX6 k).2.2.1 = some (tyX6 k) := by decide +kernel
abbrev cX6_tell : ByteArray := prog_6_method_2_code
def yX6_tell : MethodName := ⟨RX6, "tell", "(LSearchKeeper$Notice;LSearchKeeper$Node;)V"⟩
def dkwX6_tell_2 : List UInt8 := [182, 0, 47, 177]
abbrev dktX6_tell_2 : List UInt8 := dkwX6_tell_2 ++ []
def dkwX6_tell_1 : List UInt8 := [42, 180, 0, 12, 182, 0, 39, 167, 0, 19, 42, 180, 0, 12, 187, 0, 42, 89, 43, 44, 183, 0, 44]
abbrev dktX6_tell_1 : List UInt8 := dkwX6_tell_1 ++ dktX6_tell_2
def dkwX6_tell_0 : List UInt8 := [42, 180, 0, 31, 154, 0, 15, 42, 180, 0, 12, 182, 0, 35, 16, 8, 160, 0, 18, 42, 4, 181, 0, 31]
abbrev dktX6_tell_0 : List UInt8 := dkwX6_tell_0 ++ dktX6_tell_1
theorem dksX6_tell_0 : cX6_tell.data.toList.drop 0 = dktX6_tell_0 := by decide +kernel
theorem dksX6_tell_1 : cX6_tell.data.toList.drop 24 = dktX6_tell_1 := dk_seg dksX6_tell_0 24 rfl rfl
theorem dksX6_tell_2 : cX6_tell.data.toList.drop 47 = dktX6_tell_2 := dk_seg dksX6_tell_1 23 rfl rfl
theorem dX6_tell_0 : decode cX6_tell 0 = .ok (.aload_n 0, 1) := dk_42 (dk_at dksX6_tell_0 0 rfl rfl)
theorem dX6_tell_1 : decode cX6_tell 1 = .ok (.getfield 31, 3) := dk_180 0 31 (dk_at dksX6_tell_0 1 rfl rfl)
theorem dX6_tell_4 : decode cX6_tell 4 = .ok (.ifCond .ne 15, 3) := dk_154 0 15 (dk_at dksX6_tell_0 4 rfl rfl)
theorem dX6_tell_7 : decode cX6_tell 7 = .ok (.aload_n 0, 1) := dk_42 (dk_at dksX6_tell_0 7 rfl rfl)
theorem dX6_tell_8 : decode cX6_tell 8 = .ok (.getfield 12, 3) := dk_180 0 12 (dk_at dksX6_tell_0 8 rfl rfl)
theorem dX6_tell_11 : decode cX6_tell 11 = .ok (.invokevirtual 35, 3) := dk_182 0 35 (dk_at dksX6_tell_0 11 rfl rfl)
theorem dX6_tell_14 : decode cX6_tell 14 = .ok (.bipush 8, 2) := dk_16 8 (dk_at dksX6_tell_0 14 rfl rfl)
theorem dX6_tell_16 : decode cX6_tell 16 = .ok (.if_icmp .ne 18, 3) := dk_160 0 18 (dk_at dksX6_tell_0 16 rfl rfl)
theorem dX6_tell_19 : decode cX6_tell 19 = .ok (.aload_n 0, 1) := dk_42 (dk_at dksX6_tell_0 19 rfl rfl)
theorem dX6_tell_20 : decode cX6_tell 20 = .ok (.iconst 1, 1) := dk_4 (dk_at dksX6_tell_0 20 rfl rfl)
theorem dX6_tell_21 : decode cX6_tell 21 = .ok (.putfield 31, 3) := dk_181 0 31 (dk_at dksX6_tell_0 21 rfl rfl)
theorem dX6_tell_24 : decode cX6_tell 24 = .ok (.aload_n 0, 1) := dk_42 (dk_at dksX6_tell_1 0 rfl rfl)
theorem dX6_tell_25 : decode cX6_tell 25 = .ok (.getfield 12, 3) := dk_180 0 12 (dk_at dksX6_tell_1 1 rfl rfl)
theorem dX6_tell_28 : decode cX6_tell 28 = .ok (.invokevirtual 39, 3) := dk_182 0 39 (dk_at dksX6_tell_1 4 rfl rfl)
theorem dX6_tell_31 : decode cX6_tell 31 = .ok (.goto 19, 3) := dk_167 0 19 (dk_at dksX6_tell_1 7 rfl rfl)
theorem dX6_tell_34 : decode cX6_tell 34 = .ok (.aload_n 0, 1) := dk_42 (dk_at dksX6_tell_1 10 rfl rfl)
theorem dX6_tell_35 : decode cX6_tell 35 = .ok (.getfield 12, 3) := dk_180 0 12 (dk_at dksX6_tell_1 11 rfl rfl)
theorem dX6_tell_38 : decode cX6_tell 38 = .ok (.new 42, 3) := dk_187 0 42 (dk_at dksX6_tell_1 14 rfl rfl)
theorem dX6_tell_41 : decode cX6_tell 41 = .ok (.dup, 1) := dk_89 (dk_at dksX6_tell_1 17 rfl rfl)
theorem dX6_tell_42 : decode cX6_tell 42 = .ok (.aload_n 1, 1) := dk_43 (dk_at dksX6_tell_1 18 rfl rfl)
theorem dX6_tell_43 : decode cX6_tell 43 = .ok (.aload_n 2, 1) := dk_44 (dk_at dksX6_tell_1 19 rfl rfl)
theorem dX6_tell_44 : decode cX6_tell 44 = .ok (.invokespecial 44, 3) := dk_183 0 44 (dk_at dksX6_tell_1 20 rfl rfl)
theorem dX6_tell_47 : decode cX6_tell 47 = .ok (.invokevirtual 47, 3) := dk_182 0 47 (dk_at dksX6_tell_2 0 rfl rfl)
theorem dX6_tell_50 : decode cX6_tell 50 = .ok (.return_, 1) := dk_177 (dk_at dksX6_tell_2 3 rfl rfl)
abbrev cX6_hasAll : ByteArray := prog_6_method_4_code
def yX6_hasAll : MethodName := ⟨RX6, "hasAll", "(LSearchKeeper$Node;)Z"⟩
def dkwX6_hasAll_1 : List UInt8 := [172]
abbrev dktX6_hasAll_1 : List UInt8 := dkwX6_hasAll_1 ++ []
def dkwX6_hasAll_0 : List UInt8 := [43, 42, 180, 0, 27, 165, 0, 14, 43, 42, 180, 0, 27, 182, 0, 63, 153, 0, 7, 4, 167, 0, 4, 3]
abbrev dktX6_hasAll_0 : List UInt8 := dkwX6_hasAll_0 ++ dktX6_hasAll_1
theorem dksX6_hasAll_0 : cX6_hasAll.data.toList.drop 0 = dktX6_hasAll_0 := by decide +kernel
theorem dksX6_hasAll_1 : cX6_hasAll.data.toList.drop 24 = dktX6_hasAll_1 := dk_seg dksX6_hasAll_0 24 rfl rfl
theorem dX6_hasAll_0 : decode cX6_hasAll 0 = .ok (.aload_n 1, 1) := dk_43 (dk_at dksX6_hasAll_0 0 rfl rfl)
theorem dX6_hasAll_1 : decode cX6_hasAll 1 = .ok (.aload_n 0, 1) := dk_42 (dk_at dksX6_hasAll_0 1 rfl rfl)
theorem dX6_hasAll_2 : decode cX6_hasAll 2 = .ok (.getfield 27, 3) := dk_180 0 27 (dk_at dksX6_hasAll_0 2 rfl rfl)
theorem dX6_hasAll_5 : decode cX6_hasAll 5 = .ok (.if_acmp .eq 14, 3) := dk_165 0 14 (dk_at dksX6_hasAll_0 5 rfl rfl)
theorem dX6_hasAll_8 : decode cX6_hasAll 8 = .ok (.aload_n 1, 1) := dk_43 (dk_at dksX6_hasAll_0 8 rfl rfl)
theorem dX6_hasAll_9 : decode cX6_hasAll 9 = .ok (.aload_n 0, 1) := dk_42 (dk_at dksX6_hasAll_0 9 rfl rfl)
theorem dX6_hasAll_10 : decode cX6_hasAll 10 = .ok (.getfield 27, 3) := dk_180 0 27 (dk_at dksX6_hasAll_0 10 rfl rfl)
theorem dX6_hasAll_13 : decode cX6_hasAll 13 = .ok (.invokevirtual 63, 3) := dk_182 0 63 (dk_at dksX6_hasAll_0 13 rfl rfl)
theorem dX6_hasAll_16 : decode cX6_hasAll 16 = .ok (.ifCond .eq 7, 3) := dk_153 0 7 (dk_at dksX6_hasAll_0 16 rfl rfl)
theorem dX6_hasAll_19 : decode cX6_hasAll 19 = .ok (.iconst 1, 1) := dk_4 (dk_at dksX6_hasAll_0 19 rfl rfl)
theorem dX6_hasAll_20 : decode cX6_hasAll 20 = .ok (.goto 4, 3) := dk_167 0 4 (dk_at dksX6_hasAll_0 20 rfl rfl)
theorem dX6_hasAll_23 : decode cX6_hasAll 23 = .ok (.iconst 0, 1) := dk_3 (dk_at dksX6_hasAll_0 23 rfl rfl)
theorem dX6_hasAll_24 : decode cX6_hasAll 24 = .ok (.ireturn, 1) := dk_172 (dk_at dksX6_hasAll_1 0 rfl rfl)
abbrev cX6_init : ByteArray := prog_6_method_1_code
def yX6_init : MethodName := ⟨RX6, "<init>", "(LSearchKeeper$Node;)V"⟩
def dkwX6_init_1 : List UInt8 := [183, 0, 20, 181, 0, 23, 42, 43, 181, 0, 27, 177]
abbrev dktX6_init_1 : List UInt8 := dkwX6_init_1 ++ []
def dkwX6_init_0 : List UInt8 := [42, 183, 0, 3, 42, 187, 0, 9, 89, 183, 0, 11, 181, 0, 12, 42, 187, 0, 18, 89, 16, 60]
abbrev dktX6_init_0 : List UInt8 := dkwX6_init_0 ++ dktX6_init_1
theorem dksX6_init_0 : cX6_init.data.toList.drop 0 = dktX6_init_0 := by decide +kernel
theorem dksX6_init_1 : cX6_init.data.toList.drop 22 = dktX6_init_1 := dk_seg dksX6_init_0 22 rfl rfl
theorem dX6_init_0 : decode cX6_init 0 = .ok (.aload_n 0, 1) := dk_42 (dk_at dksX6_init_0 0 rfl rfl)
theorem dX6_init_1 : decode cX6_init 1 = .ok (.invokespecial 3, 3) := dk_183 0 3 (dk_at dksX6_init_0 1 rfl rfl)
theorem dX6_init_4 : decode cX6_init 4 = .ok (.aload_n 0, 1) := dk_42 (dk_at dksX6_init_0 4 rfl rfl)
theorem dX6_init_5 : decode cX6_init 5 = .ok (.new 9, 3) := dk_187 0 9 (dk_at dksX6_init_0 5 rfl rfl)
theorem dX6_init_8 : decode cX6_init 8 = .ok (.dup, 1) := dk_89 (dk_at dksX6_init_0 8 rfl rfl)
theorem dX6_init_9 : decode cX6_init 9 = .ok (.invokespecial 11, 3) := dk_183 0 11 (dk_at dksX6_init_0 9 rfl rfl)
theorem dX6_init_12 : decode cX6_init 12 = .ok (.putfield 12, 3) := dk_181 0 12 (dk_at dksX6_init_0 12 rfl rfl)
theorem dX6_init_15 : decode cX6_init 15 = .ok (.aload_n 0, 1) := dk_42 (dk_at dksX6_init_0 15 rfl rfl)
theorem dX6_init_16 : decode cX6_init 16 = .ok (.new 18, 3) := dk_187 0 18 (dk_at dksX6_init_0 16 rfl rfl)
theorem dX6_init_19 : decode cX6_init 19 = .ok (.dup, 1) := dk_89 (dk_at dksX6_init_0 19 rfl rfl)
theorem dX6_init_20 : decode cX6_init 20 = .ok (.bipush 60, 2) := dk_16 60 (dk_at dksX6_init_0 20 rfl rfl)
theorem dX6_init_22 : decode cX6_init 22 = .ok (.invokespecial 20, 3) := dk_183 0 20 (dk_at dksX6_init_1 0 rfl rfl)
theorem dX6_init_25 : decode cX6_init 25 = .ok (.putfield 23, 3) := dk_181 0 23 (dk_at dksX6_init_1 3 rfl rfl)
theorem dX6_init_28 : decode cX6_init 28 = .ok (.aload_n 0, 1) := dk_42 (dk_at dksX6_init_1 6 rfl rfl)
theorem dX6_init_29 : decode cX6_init 29 = .ok (.aload_n 1, 1) := dk_43 (dk_at dksX6_init_1 7 rfl rfl)
theorem dX6_init_30 : decode cX6_init 30 = .ok (.putfield 27, 3) := dk_181 0 27 (dk_at dksX6_init_1 8 rfl rfl)
theorem dX6_init_33 : decode cX6_init 33 = .ok (.return_, 1) := dk_177 (dk_at dksX6_init_1 11 rfl rfl)
abbrev cX6_begin : ByteArray := prog_6_method_3_code
def yX6_begin : MethodName := ⟨RX6, "begin", "()V"⟩
def dkwX6_begin_1 : List UInt8 := [180, 0, 23, 182, 0, 62, 177]
abbrev dktX6_begin_1 : List UInt8 := dkwX6_begin_1 ++ []
def dkwX6_begin_0 : List UInt8 := [42, 187, 0, 51, 89, 183, 0, 53, 181, 0, 54, 42, 180, 0, 54, 42, 180, 0, 27, 182, 0, 58, 87, 42]
abbrev dktX6_begin_0 : List UInt8 := dkwX6_begin_0 ++ dktX6_begin_1
theorem dksX6_begin_0 : cX6_begin.data.toList.drop 0 = dktX6_begin_0 := by decide +kernel
theorem dksX6_begin_1 : cX6_begin.data.toList.drop 24 = dktX6_begin_1 := dk_seg dksX6_begin_0 24 rfl rfl
theorem dX6_begin_0 : decode cX6_begin 0 = .ok (.aload_n 0, 1) := dk_42 (dk_at dksX6_begin_0 0 rfl rfl)
theorem dX6_begin_1 : decode cX6_begin 1 = .ok (.new 51, 3) := dk_187 0 51 (dk_at dksX6_begin_0 1 rfl rfl)
theorem dX6_begin_4 : decode cX6_begin 4 = .ok (.dup, 1) := dk_89 (dk_at dksX6_begin_0 4 rfl rfl)
theorem dX6_begin_5 : decode cX6_begin 5 = .ok (.invokespecial 53, 3) := dk_183 0 53 (dk_at dksX6_begin_0 5 rfl rfl)
theorem dX6_begin_8 : decode cX6_begin 8 = .ok (.putfield 54, 3) := dk_181 0 54 (dk_at dksX6_begin_0 8 rfl rfl)
theorem dX6_begin_11 : decode cX6_begin 11 = .ok (.aload_n 0, 1) := dk_42 (dk_at dksX6_begin_0 11 rfl rfl)
theorem dX6_begin_12 : decode cX6_begin 12 = .ok (.getfield 54, 3) := dk_180 0 54 (dk_at dksX6_begin_0 12 rfl rfl)
theorem dX6_begin_15 : decode cX6_begin 15 = .ok (.aload_n 0, 1) := dk_42 (dk_at dksX6_begin_0 15 rfl rfl)
theorem dX6_begin_16 : decode cX6_begin 16 = .ok (.getfield 27, 3) := dk_180 0 27 (dk_at dksX6_begin_0 16 rfl rfl)
theorem dX6_begin_19 : decode cX6_begin 19 = .ok (.invokevirtual 58, 3) := dk_182 0 58 (dk_at dksX6_begin_0 19 rfl rfl)
theorem dX6_begin_22 : decode cX6_begin 22 = .ok (.pop, 1) := dk_87 (dk_at dksX6_begin_0 22 rfl rfl)
theorem dX6_begin_23 : decode cX6_begin 23 = .ok (.aload_n 0, 1) := dk_42 (dk_at dksX6_begin_0 23 rfl rfl)
theorem dX6_begin_24 : decode cX6_begin 24 = .ok (.getfield 23, 3) := dk_180 0 23 (dk_at dksX6_begin_1 0 rfl rfl)
theorem dX6_begin_27 : decode cX6_begin 27 = .ok (.invokevirtual 62, 3) := dk_182 0 62 (dk_at dksX6_begin_1 3 rfl rfl)
theorem dX6_begin_30 : decode cX6_begin 30 = .ok (.return_, 1) := dk_177 (dk_at dksX6_begin_1 6 rfl rfl)
theorem q137 : (Jvm.Cond.initialized "SearchKeeper$Root") ∈ lw_all := lw_g (lw_at lw_m1 43 rfl) rfl
theorem q316 : (Jvm.Cond.selects "SearchKeeper$Root" ({ cls := "java/lang/Object", name := "getClass", desc := "()Ljava/lang/Class;" } : Jvm.MethodName) ({ cls := "java/lang/Object", name := "getClass", desc := "()Ljava/lang/Class;" } : Jvm.MethodName)) ∈ lw_all := lw_g (lw_at lw_m1 222 rfl) rfl
theorem q1187 : (Jvm.Cond.instanceMethod ({ cls := "SearchKeeper$Root", name := "tell", desc := "(LSearchKeeper$Notice;LSearchKeeper$Node;)V" } : Jvm.MethodName)) ∈ lw_all := lw_g (lw_at lw_m5 133 rfl) rfl
theorem q1188 : (Jvm.Cond.selects "SearchKeeper$Root" ({ cls := "SearchKeeper$Root", name := "tell", desc := "(LSearchKeeper$Notice;LSearchKeeper$Node;)V" } : Jvm.MethodName) ({ cls := "SearchKeeper$Root", name := "tell", desc := "(LSearchKeeper$Notice;LSearchKeeper$Node;)V" } : Jvm.MethodName)) ∈ lw_all := lw_g (lw_at lw_m5 134 rfl) rfl
theorem q1189 : (Jvm.Cond.code ({ cls := "SearchKeeper$Root", name := "tell", desc := "(LSearchKeeper$Notice;LSearchKeeper$Node;)V" } : Jvm.MethodName) prog_6_method_2_code (3 : Nat) (Option.none : Option Jvm.ClassFile.FieldType)) ∈ lw_all := lw_g (lw_at lw_m5 135 rfl) rfl
theorem q1190 : (Jvm.Cond.methodLink "SearchKeeper$Root" (35 : Nat) ({ cls := "java/util/LinkedList", name := "size", desc := "()I" } : Jvm.MethodName)) ∈ lw_all := lw_g (lw_at lw_m5 136 rfl) rfl
theorem q1191 : (Jvm.Cond.methodLink "SearchKeeper$Root" (39 : Nat) ({ cls := "java/util/LinkedList", name := "clear", desc := "()V" } : Jvm.MethodName)) ∈ lw_all := lw_g (lw_at lw_m5 137 rfl) rfl
theorem q1195 : (Jvm.Cond.classLink "SearchKeeper$Root" (42 : Nat) "SearchKeeper$Told") ∈ lw_all := lw_g (lw_at lw_m5 141 rfl) rfl
theorem q1197 : (Jvm.Cond.methodLink "SearchKeeper$Root" (44 : Nat) ({ cls := "SearchKeeper$Told", name := "<init>", desc := "(LSearchKeeper$Notice;LSearchKeeper$Node;)V" } : Jvm.MethodName)) ∈ lw_all := lw_g (lw_at lw_m5 143 rfl) rfl
theorem q1210 : (Jvm.Cond.methodLink "SearchKeeper$Root" (47 : Nat) ({ cls := "java/util/LinkedList", name := "addLast", desc := "(Ljava/lang/Object;)V" } : Jvm.MethodName)) ∈ lw_all := lw_g (lw_at lw_m5 156 rfl) rfl
theorem q1285 : (Jvm.Cond.instanceMethod ({ cls := "SearchKeeper$Root", name := "hasAll", desc := "(LSearchKeeper$Node;)Z" } : Jvm.MethodName)) ∈ lw_all := lw_g (lw_at lw_m5 231 rfl) rfl
theorem q1286 : (Jvm.Cond.selects "SearchKeeper$Root" ({ cls := "SearchKeeper$Root", name := "hasAll", desc := "(LSearchKeeper$Node;)Z" } : Jvm.MethodName) ({ cls := "SearchKeeper$Root", name := "hasAll", desc := "(LSearchKeeper$Node;)Z" } : Jvm.MethodName)) ∈ lw_all := lw_g (lw_at lw_m5 232 rfl) rfl
theorem q1287 : (Jvm.Cond.code ({ cls := "SearchKeeper$Root", name := "hasAll", desc := "(LSearchKeeper$Node;)Z" } : Jvm.MethodName) prog_6_method_4_code (2 : Nat) (Option.some Jvm.ClassFile.FieldType.boolean)) ∈ lw_all := lw_g (lw_at lw_m5 233 rfl) rfl
theorem q1288 : (Jvm.Cond.methodLink "SearchKeeper$Root" (63 : Nat) ({ cls := "SearchKeeper$Node", name := "isBelow", desc := "(LSearchKeeper$Node;)Z" } : Jvm.MethodName)) ∈ lw_all := lw_g (lw_at lw_m5 234 rfl) rfl
theorem q1427 : (Jvm.Cond.instantiable "SearchKeeper$Root" (5 : Nat)) ∈ lw_all := lw_g (lw_at lw_m6 133 rfl) rfl
theorem q1429 : (Jvm.Cond.instanceMethod ({ cls := "SearchKeeper$Root", name := "<init>", desc := "(LSearchKeeper$Node;)V" } : Jvm.MethodName)) ∈ lw_all := lw_g (lw_at lw_m6 135 rfl) rfl
theorem q1430 : (Jvm.Cond.code ({ cls := "SearchKeeper$Root", name := "<init>", desc := "(LSearchKeeper$Node;)V" } : Jvm.MethodName) prog_6_method_1_code (2 : Nat) (Option.none : Option Jvm.ClassFile.FieldType)) ∈ lw_all := lw_g (lw_at lw_m6 136 rfl) rfl
theorem q1431 : (Jvm.Cond.methodLink "SearchKeeper$Root" (3 : Nat) ({ cls := "java/lang/Object", name := "<init>", desc := "()V" } : Jvm.MethodName)) ∈ lw_all := lw_g (lw_at lw_m6 137 rfl) rfl
theorem q1432 : (Jvm.Cond.classLink "SearchKeeper$Root" (9 : Nat) "java/util/LinkedList") ∈ lw_all := lw_g (lw_at lw_m6 138 rfl) rfl
theorem q1433 : (Jvm.Cond.methodLink "SearchKeeper$Root" (11 : Nat) ({ cls := "java/util/LinkedList", name := "<init>", desc := "()V" } : Jvm.MethodName)) ∈ lw_all := lw_g (lw_at lw_m6 139 rfl) rfl
theorem q1434 : (Jvm.Cond.classLink "SearchKeeper$Root" (18 : Nat) "java/util/BitSet") ∈ lw_all := lw_g (lw_at lw_m6 140 rfl) rfl
theorem q1435 : (Jvm.Cond.methodLink "SearchKeeper$Root" (20 : Nat) ({ cls := "java/util/BitSet", name := "<init>", desc := "(I)V" } : Jvm.MethodName)) ∈ lw_all := lw_g (lw_at lw_m6 141 rfl) rfl
theorem q1436 : (Jvm.Cond.fieldLink "SearchKeeper$Root" (27 : Nat) "SearchKeeper$Root" "folder" "LSearchKeeper$Node;") ∈ lw_all := lw_g (lw_at lw_m6 142 rfl) rfl
theorem q1438 : (Jvm.Cond.fieldLink "SearchKeeper$Root" (12 : Nat) "SearchKeeper$Root" "queue" "Ljava/util/LinkedList;") ∈ lw_all := lw_g (lw_at lw_m6 144 rfl) rfl
theorem q1440 : (Jvm.Cond.fieldLink "SearchKeeper$Root" (31 : Nat) "SearchKeeper$Root" "isFlooded" "Z") ∈ lw_all := lw_g (lw_at lw_m6 146 rfl) rfl
theorem q1442 : (Jvm.Cond.fieldLink "SearchKeeper$Root" (54 : Nat) "SearchKeeper$Root" "crawl" "Ljava/util/ArrayDeque;") ∈ lw_all := lw_g (lw_at lw_m6 148 rfl) rfl
theorem q1444 : (Jvm.Cond.fieldLink "SearchKeeper$Root" (23 : Nat) "SearchKeeper$Root" "met" "Ljava/util/BitSet;") ∈ lw_all := lw_g (lw_at lw_m6 150 rfl) rfl
theorem q1446 : (Jvm.Cond.laysFinal "SearchKeeper$Root" "SearchKeeper$Root" "folder" "LSearchKeeper$Node;") ∈ lw_all := lw_g (lw_at lw_m6 152 rfl) rfl
theorem q1447 : (Jvm.Cond.soleField "SearchKeeper$Root" "folder") ∈ lw_all := lw_g (lw_at lw_m6 153 rfl) rfl
theorem q1448 : (Jvm.Cond.laysFinal "SearchKeeper$Root" "SearchKeeper$Root" "queue" "Ljava/util/LinkedList;") ∈ lw_all := lw_g (lw_at lw_m6 154 rfl) rfl
theorem q1449 : (Jvm.Cond.soleField "SearchKeeper$Root" "queue") ∈ lw_all := lw_g (lw_at lw_m6 155 rfl) rfl
theorem q1450 : (Jvm.Cond.lays "SearchKeeper$Root" "SearchKeeper$Root" "isFlooded" "Z") ∈ lw_all := lw_g (lw_at lw_m6 156 rfl) rfl
theorem q1451 : (Jvm.Cond.soleField "SearchKeeper$Root" "isFlooded") ∈ lw_all := lw_g (lw_at lw_m6 157 rfl) rfl
theorem q1452 : (Jvm.Cond.lays "SearchKeeper$Root" "SearchKeeper$Root" "crawl" "Ljava/util/ArrayDeque;") ∈ lw_all := lw_g (lw_at lw_m6 158 rfl) rfl
theorem q1453 : (Jvm.Cond.soleField "SearchKeeper$Root" "crawl") ∈ lw_all := lw_g (lw_at lw_m6 159 rfl) rfl
theorem q1454 : (Jvm.Cond.laysFinal "SearchKeeper$Root" "SearchKeeper$Root" "met" "Ljava/util/BitSet;") ∈ lw_all := lw_g (lw_at lw_m6 160 rfl) rfl
theorem q1455 : (Jvm.Cond.soleField "SearchKeeper$Root" "met") ∈ lw_all := lw_g (lw_at lw_m6 161 rfl) rfl
theorem q1456 : (Jvm.Cond.superclass "SearchKeeper$Root" "java/lang/Object") ∈ lw_all := lw_g (lw_at lw_m6 162 rfl) rfl
theorem q1458 : (Jvm.Cond.instanceMethod ({ cls := "SearchKeeper$Root", name := "begin", desc := "()V" } : Jvm.MethodName)) ∈ lw_all := lw_g (lw_at lw_m6 164 rfl) rfl
theorem q1459 : (Jvm.Cond.selects "SearchKeeper$Root" ({ cls := "SearchKeeper$Root", name := "begin", desc := "()V" } : Jvm.MethodName) ({ cls := "SearchKeeper$Root", name := "begin", desc := "()V" } : Jvm.MethodName)) ∈ lw_all := lw_g (lw_at lw_m6 165 rfl) rfl
theorem q1460 : (Jvm.Cond.code ({ cls := "SearchKeeper$Root", name := "begin", desc := "()V" } : Jvm.MethodName) prog_6_method_3_code (1 : Nat) (Option.none : Option Jvm.ClassFile.FieldType)) ∈ lw_all := lw_g (lw_at lw_m6 166 rfl) rfl
theorem q1461 : (Jvm.Cond.classLink "SearchKeeper$Root" (51 : Nat) "java/util/ArrayDeque") ∈ lw_all := lw_g (lw_at lw_m6 167 rfl) rfl
theorem q1463 : (Jvm.Cond.methodLink "SearchKeeper$Root" (53 : Nat) ({ cls := "java/util/ArrayDeque", name := "<init>", desc := "()V" } : Jvm.MethodName)) ∈ lw_all := lw_g (lw_at lw_m6 169 rfl) rfl
theorem q1478 : (Jvm.Cond.methodLink "SearchKeeper$Root" (58 : Nat) ({ cls := "java/util/ArrayDeque", name := "add", desc := "(Ljava/lang/Object;)Z" } : Jvm.MethodName)) ∈ lw_all := lw_g (lw_at lw_m6 184 rfl) rfl
theorem q1507 : (Jvm.Cond.methodLink "SearchKeeper$Root" (62 : Nat) ({ cls := "java/util/BitSet", name := "clear", desc := "()V" } : Jvm.MethodName)) ∈ lw_all := lw_g (lw_at lw_m6 213 rfl) rfl
theorem q1612 : (Jvm.Cond.selects "SearchKeeper$Root" ({ cls := "java/lang/Object", name := "equals", desc := "(Ljava/lang/Object;)Z" } : Jvm.MethodName) ({ cls := "java/lang/Object", name := "equals", desc := "(Ljava/lang/Object;)Z" } : Jvm.MethodName)) ∈ lw_all := lw_g (lw_at lw_m7 78 rfl) rfl
theorem q2449 : (Jvm.Cond.castable "SearchKeeper$Root" "java/lang/Object") ∈ lw_tbl := lw_at lw_m10 195 rfl
theorem in_X6 : ∀ w ∈ wsX60, w ∈ lw_all := lw_in wsX60 [1446, 1448, 1450, 1452, 1454] (by decide +kernel) (by decide +kernel)

/-! SearchKeeper$Entry -/
set_option maxRecDepth 100000
def RX7 : String := "SearchKeeper$Entry"
def TX7 : u_T := fun k => match k with
  | 0 => ("SearchKeeper$Entry", "node", "LSearchKeeper$Node;", true)
  | 1 => ("SearchKeeper$Entry", "parent", "LSearchKeeper$Node;", false)
  | 2 => ("SearchKeeper$Entry", "name", "C", false)
  | 3 => ("SearchKeeper$Entry", "edition", "I", false)
  | 4 => ("SearchKeeper$Entry", "words", "Ljava/util/List;", false)
  | _ => ("SearchKeeper$Entry", "segment", "LSearchKeeper$Segment;", false)
def tyX7 : Nat → FieldType := fun k => match k with
  | 0 => .object "SearchKeeper$Node"
  | 1 => .object "SearchKeeper$Node"
  | 2 => .char
  | 3 => .int
  | 4 => .object "java/util/List"
  | _ => .object "SearchKeeper$Segment"
abbrev wsX70 : List Cond := u_ws RX7 TX7 6
theorem nmX7 : ∀ a, a < 6 → ∀ b, b < 6 → a ≠ b → (TX7 a).2.1 ≠ (TX7 b).2.1 := by decide +kernel
theorem tyX7_ok : ∀ k, k < 6 → parseFieldDescriptor (TX7 k).2.2.1 = some (tyX7 k) := by decide +kernel
abbrev cX7_init : ByteArray := prog_3_method_1_code
def yX7_init : MethodName := ⟨RX7, "<init>", "(LSearchKeeper$Node;)V"⟩
def dkwX7_init_0 : List UInt8 := [42, 183, 0, 1, 42, 187, 0, 7, 89, 183, 0, 9, 181, 0, 10, 42, 43, 181, 0, 16, 177]
abbrev dktX7_init_0 : List UInt8 := dkwX7_init_0 ++ []
theorem dksX7_init_0 : cX7_init.data.toList.drop 0 = dktX7_init_0 := by decide +kernel
theorem dX7_init_0 : decode cX7_init 0 = .ok (.aload_n 0, 1) := dk_42 (dk_at dksX7_init_0 0 rfl rfl)
theorem dX7_init_1 : decode cX7_init 1 = .ok (.invokespecial 1, 3) := dk_183 0 1 (dk_at dksX7_init_0 1 rfl rfl)
theorem dX7_init_4 : decode cX7_init 4 = .ok (.aload_n 0, 1) := dk_42 (dk_at dksX7_init_0 4 rfl rfl)
theorem dX7_init_5 : decode cX7_init 5 = .ok (.new 7, 3) := dk_187 0 7 (dk_at dksX7_init_0 5 rfl rfl)
theorem dX7_init_8 : decode cX7_init 8 = .ok (.dup, 1) := dk_89 (dk_at dksX7_init_0 8 rfl rfl)
theorem dX7_init_9 : decode cX7_init 9 = .ok (.invokespecial 9, 3) := dk_183 0 9 (dk_at dksX7_init_0 9 rfl rfl)
theorem dX7_init_12 : decode cX7_init 12 = .ok (.putfield 10, 3) := dk_181 0 10 (dk_at dksX7_init_0 12 rfl rfl)
theorem dX7_init_15 : decode cX7_init 15 = .ok (.aload_n 0, 1) := dk_42 (dk_at dksX7_init_0 15 rfl rfl)
theorem dX7_init_16 : decode cX7_init 16 = .ok (.aload_n 1, 1) := dk_43 (dk_at dksX7_init_0 16 rfl rfl)
theorem dX7_init_17 : decode cX7_init 17 = .ok (.putfield 16, 3) := dk_181 0 16 (dk_at dksX7_init_0 17 rfl rfl)
theorem dX7_init_20 : decode cX7_init 20 = .ok (.return_, 1) := dk_177 (dk_at dksX7_init_0 20 rfl rfl)
theorem q139 : (Jvm.Cond.initialized "SearchKeeper$Entry") ∈ lw_all := lw_g (lw_at lw_m1 45 rfl) rfl
theorem q313 : (Jvm.Cond.selects "SearchKeeper$Entry" ({ cls := "java/lang/Object", name := "getClass", desc := "()Ljava/lang/Class;" } : Jvm.MethodName) ({ cls := "java/lang/Object", name := "getClass", desc := "()Ljava/lang/Class;" } : Jvm.MethodName)) ∈ lw_all := lw_g (lw_at lw_m1 219 rfl) rfl
theorem q1607 : (Jvm.Cond.selects "SearchKeeper$Entry" ({ cls := "java/lang/Object", name := "equals", desc := "(Ljava/lang/Object;)Z" } : Jvm.MethodName) ({ cls := "java/lang/Object", name := "equals", desc := "(Ljava/lang/Object;)Z" } : Jvm.MethodName)) ∈ lw_all := lw_g (lw_at lw_m7 73 rfl) rfl
theorem q1677 : (Jvm.Cond.instantiable "SearchKeeper$Entry" (6 : Nat)) ∈ lw_all := lw_g (lw_at lw_m7 143 rfl) rfl
theorem q1679 : (Jvm.Cond.instanceMethod ({ cls := "SearchKeeper$Entry", name := "<init>", desc := "(LSearchKeeper$Node;)V" } : Jvm.MethodName)) ∈ lw_all := lw_g (lw_at lw_m7 145 rfl) rfl
theorem q1680 : (Jvm.Cond.code ({ cls := "SearchKeeper$Entry", name := "<init>", desc := "(LSearchKeeper$Node;)V" } : Jvm.MethodName) prog_3_method_1_code (2 : Nat) (Option.none : Option Jvm.ClassFile.FieldType)) ∈ lw_all := lw_g (lw_at lw_m7 146 rfl) rfl
theorem q1681 : (Jvm.Cond.methodLink "SearchKeeper$Entry" (1 : Nat) ({ cls := "java/lang/Object", name := "<init>", desc := "()V" } : Jvm.MethodName)) ∈ lw_all := lw_g (lw_at lw_m7 147 rfl) rfl
theorem q1682 : (Jvm.Cond.classLink "SearchKeeper$Entry" (7 : Nat) "java/util/ArrayList") ∈ lw_all := lw_g (lw_at lw_m7 148 rfl) rfl
theorem q1683 : (Jvm.Cond.methodLink "SearchKeeper$Entry" (9 : Nat) ({ cls := "java/util/ArrayList", name := "<init>", desc := "()V" } : Jvm.MethodName)) ∈ lw_all := lw_g (lw_at lw_m7 149 rfl) rfl
theorem q1684 : (Jvm.Cond.fieldLink "SearchKeeper$Entry" (16 : Nat) "SearchKeeper$Entry" "node" "LSearchKeeper$Node;") ∈ lw_all := lw_g (lw_at lw_m7 150 rfl) rfl
theorem q1689 : (Jvm.Cond.fieldLink "SearchKeeper$Entry" (10 : Nat) "SearchKeeper$Entry" "words" "Ljava/util/List;") ∈ lw_all := lw_g (lw_at lw_m7 155 rfl) rfl
theorem q1692 : (Jvm.Cond.laysFinal "SearchKeeper$Entry" "SearchKeeper$Entry" "node" "LSearchKeeper$Node;") ∈ lw_all := lw_g (lw_at lw_m7 158 rfl) rfl
theorem q1693 : (Jvm.Cond.soleField "SearchKeeper$Entry" "node") ∈ lw_all := lw_g (lw_at lw_m7 159 rfl) rfl
theorem q1694 : (Jvm.Cond.lays "SearchKeeper$Entry" "SearchKeeper$Entry" "parent" "LSearchKeeper$Node;") ∈ lw_all := lw_g (lw_at lw_m7 160 rfl) rfl
theorem q1695 : (Jvm.Cond.soleField "SearchKeeper$Entry" "parent") ∈ lw_all := lw_g (lw_at lw_m7 161 rfl) rfl
theorem q1696 : (Jvm.Cond.lays "SearchKeeper$Entry" "SearchKeeper$Entry" "name" "C") ∈ lw_all := lw_g (lw_at lw_m7 162 rfl) rfl
theorem q1697 : (Jvm.Cond.soleField "SearchKeeper$Entry" "name") ∈ lw_all := lw_g (lw_at lw_m7 163 rfl) rfl
theorem q1698 : (Jvm.Cond.lays "SearchKeeper$Entry" "SearchKeeper$Entry" "edition" "I") ∈ lw_all := lw_g (lw_at lw_m7 164 rfl) rfl
theorem q1699 : (Jvm.Cond.soleField "SearchKeeper$Entry" "edition") ∈ lw_all := lw_g (lw_at lw_m7 165 rfl) rfl
theorem q1700 : (Jvm.Cond.lays "SearchKeeper$Entry" "SearchKeeper$Entry" "words" "Ljava/util/List;") ∈ lw_all := lw_g (lw_at lw_m7 166 rfl) rfl
theorem q1701 : (Jvm.Cond.soleField "SearchKeeper$Entry" "words") ∈ lw_all := lw_g (lw_at lw_m7 167 rfl) rfl
theorem q1702 : (Jvm.Cond.lays "SearchKeeper$Entry" "SearchKeeper$Entry" "segment" "LSearchKeeper$Segment;") ∈ lw_all := lw_g (lw_at lw_m7 168 rfl) rfl
theorem q1703 : (Jvm.Cond.soleField "SearchKeeper$Entry" "segment") ∈ lw_all := lw_g (lw_at lw_m7 169 rfl) rfl
theorem q1704 : (Jvm.Cond.superclass "SearchKeeper$Entry" "java/lang/Object") ∈ lw_all := lw_g (lw_at lw_m7 170 rfl) rfl
theorem q2425 : (Jvm.Cond.castable "SearchKeeper$Entry" "java/lang/Object") ∈ lw_tbl := lw_at lw_m10 171 rfl
theorem in_X7 : ∀ w ∈ wsX70, w ∈ lw_all := lw_in wsX70 [1692, 1694, 1696, 1698, 1700, 1702] (by decide +kernel) (by decide +kernel)

/-! SearchKeeper$Taking -/
set_option maxRecDepth 100000
def RX8 : String := "SearchKeeper$Taking"
def TX8 : u_T := fun k => match k with
  | 0 => ("SearchKeeper$Taking", "marks", "Ljava/util/List;", true)
  | 1 => ("SearchKeeper$Taking", "depth", "I", true)
  | 2 => ("SearchKeeper$Taking", "most", "I", true)
  | 3 => ("SearchKeeper$Taking", "words", "Ljava/util/List;", true)
  | _ => ("SearchKeeper$Taking", "at", "I", false)
def tyX8 : Nat → FieldType := fun k => match k with
  | 0 => .object "java/util/List"
  | 1 => .int
  | 2 => .int
  | 3 => .object "java/util/List"
  | _ => .int
abbrev wsX80 : List Cond := u_ws RX8 TX8 5
theorem nmX8 : ∀ a, a < 5 → ∀ b, b < 5 → a ≠ b → (TX8 a).2.1 ≠ (TX8 b).2.1 := by decide +kernel
theorem tyX8_ok : ∀ k, k < 5 → parseFieldDescriptor (TX8 k).2.2.1 = some (tyX8 k) := by decide +kernel
abbrev cX8_init : ByteArray := prog_8_method_1_code
def yX8_init : MethodName := ⟨RX8, "<init>", "(Ljava/util/List;II)V"⟩
def dkwX8_init_1 : List UInt8 := [181, 0, 21, 42, 29, 181, 0, 25, 42, 3, 182, 0, 28, 87, 177]
abbrev dktX8_init_1 : List UInt8 := dkwX8_init_1 ++ []
def dkwX8_init_0 : List UInt8 := [42, 183, 0, 3, 42, 187, 0, 9, 89, 183, 0, 11, 181, 0, 12, 42, 43, 181, 0, 18, 42, 28]
abbrev dktX8_init_0 : List UInt8 := dkwX8_init_0 ++ dktX8_init_1
theorem dksX8_init_0 : cX8_init.data.toList.drop 0 = dktX8_init_0 := by decide +kernel
theorem dksX8_init_1 : cX8_init.data.toList.drop 22 = dktX8_init_1 := dk_seg dksX8_init_0 22 rfl rfl
theorem dX8_init_0 : decode cX8_init 0 = .ok (.aload_n 0, 1) := dk_42 (dk_at dksX8_init_0 0 rfl rfl)
theorem dX8_init_1 : decode cX8_init 1 = .ok (.invokespecial 3, 3) := dk_183 0 3 (dk_at dksX8_init_0 1 rfl rfl)
theorem dX8_init_4 : decode cX8_init 4 = .ok (.aload_n 0, 1) := dk_42 (dk_at dksX8_init_0 4 rfl rfl)
theorem dX8_init_5 : decode cX8_init 5 = .ok (.new 9, 3) := dk_187 0 9 (dk_at dksX8_init_0 5 rfl rfl)
theorem dX8_init_8 : decode cX8_init 8 = .ok (.dup, 1) := dk_89 (dk_at dksX8_init_0 8 rfl rfl)
theorem dX8_init_9 : decode cX8_init 9 = .ok (.invokespecial 11, 3) := dk_183 0 11 (dk_at dksX8_init_0 9 rfl rfl)
theorem dX8_init_12 : decode cX8_init 12 = .ok (.putfield 12, 3) := dk_181 0 12 (dk_at dksX8_init_0 12 rfl rfl)
theorem dX8_init_15 : decode cX8_init 15 = .ok (.aload_n 0, 1) := dk_42 (dk_at dksX8_init_0 15 rfl rfl)
theorem dX8_init_16 : decode cX8_init 16 = .ok (.aload_n 1, 1) := dk_43 (dk_at dksX8_init_0 16 rfl rfl)
theorem dX8_init_17 : decode cX8_init 17 = .ok (.putfield 18, 3) := dk_181 0 18 (dk_at dksX8_init_0 17 rfl rfl)
theorem dX8_init_20 : decode cX8_init 20 = .ok (.aload_n 0, 1) := dk_42 (dk_at dksX8_init_0 20 rfl rfl)
theorem dX8_init_21 : decode cX8_init 21 = .ok (.iload_n 2, 1) := dk_28 (dk_at dksX8_init_0 21 rfl rfl)
theorem dX8_init_22 : decode cX8_init 22 = .ok (.putfield 21, 3) := dk_181 0 21 (dk_at dksX8_init_1 0 rfl rfl)
theorem dX8_init_25 : decode cX8_init 25 = .ok (.aload_n 0, 1) := dk_42 (dk_at dksX8_init_1 3 rfl rfl)
theorem dX8_init_26 : decode cX8_init 26 = .ok (.iload_n 3, 1) := dk_29 (dk_at dksX8_init_1 4 rfl rfl)
theorem dX8_init_27 : decode cX8_init 27 = .ok (.putfield 25, 3) := dk_181 0 25 (dk_at dksX8_init_1 5 rfl rfl)
theorem dX8_init_30 : decode cX8_init 30 = .ok (.aload_n 0, 1) := dk_42 (dk_at dksX8_init_1 8 rfl rfl)
theorem dX8_init_31 : decode cX8_init 31 = .ok (.iconst 0, 1) := dk_3 (dk_at dksX8_init_1 9 rfl rfl)
theorem dX8_init_32 : decode cX8_init 32 = .ok (.invokevirtual 28, 3) := dk_182 0 28 (dk_at dksX8_init_1 10 rfl rfl)
theorem dX8_init_35 : decode cX8_init 35 = .ok (.pop, 1) := dk_87 (dk_at dksX8_init_1 13 rfl rfl)
theorem dX8_init_36 : decode cX8_init 36 = .ok (.return_, 1) := dk_177 (dk_at dksX8_init_1 14 rfl rfl)
abbrev cX8_take : ByteArray := prog_8_method_3_code
def yX8_take : MethodName := ⟨RX8, "take", "(I)Z"⟩
def dkwX8_take_6 : List UInt8 := [185, 0, 58, 2, 0, 87, 167, 255, 110, 3, 172]
abbrev dktX8_take_6 : List UInt8 := dkwX8_take_6 ++ []
def dkwX8_take_5 : List UInt8 := [180, 0, 12, 185, 0, 44, 1, 0, 42, 180, 0, 25, 162, 0, 17, 42, 180, 0, 12, 28, 184, 0, 54]
abbrev dktX8_take_5 : List UInt8 := dkwX8_take_5 ++ dktX8_take_6
def dkwX8_take_4 : List UInt8 := [96, 182, 0, 28, 153, 0, 5, 4, 172, 28, 155, 0, 41, 27, 42, 180, 0, 21, 163, 0, 33, 42]
abbrev dktX8_take_4 : List UInt8 := dkwX8_take_4 ++ dktX8_take_5
def dkwX8_take_3 : List UInt8 := [181, 0, 47, 28, 16, 253, 160, 0, 9, 27, 158, 0, 5, 3, 172, 28, 16, 254, 160, 0, 15, 42, 27, 4]
abbrev dktX8_take_3 : List UInt8 := dkwX8_take_3 ++ dktX8_take_4
def dkwX8_take_2 : List UInt8 := [182, 0, 50, 42, 180, 0, 18, 185, 0, 44, 1, 0, 164, 0, 5, 4, 172, 42, 89, 180, 0, 47, 4, 96]
abbrev dktX8_take_2 : List UInt8 := dkwX8_take_2 ++ dktX8_take_3
def dkwX8_take_1 : List UInt8 := [185, 0, 32, 2, 0, 192, 0, 38, 182, 0, 40, 61, 28, 16, 254, 160, 0, 25, 42, 42, 180, 0, 47]
abbrev dktX8_take_1 : List UInt8 := dkwX8_take_1 ++ dktX8_take_2
def dkwX8_take_0 : List UInt8 := [42, 180, 0, 47, 42, 180, 0, 18, 185, 0, 44, 1, 0, 162, 0, 136, 42, 180, 0, 18, 42, 180, 0, 47]
abbrev dktX8_take_0 : List UInt8 := dkwX8_take_0 ++ dktX8_take_1
theorem dksX8_take_0 : cX8_take.data.toList.drop 0 = dktX8_take_0 := by decide +kernel
theorem dksX8_take_1 : cX8_take.data.toList.drop 24 = dktX8_take_1 := dk_seg dksX8_take_0 24 rfl rfl
theorem dksX8_take_2 : cX8_take.data.toList.drop 47 = dktX8_take_2 := dk_seg dksX8_take_1 23 rfl rfl
theorem dksX8_take_3 : cX8_take.data.toList.drop 71 = dktX8_take_3 := dk_seg dksX8_take_2 24 rfl rfl
theorem dksX8_take_4 : cX8_take.data.toList.drop 95 = dktX8_take_4 := dk_seg dksX8_take_3 24 rfl rfl
theorem dksX8_take_5 : cX8_take.data.toList.drop 117 = dktX8_take_5 := dk_seg dksX8_take_4 22 rfl rfl
theorem dksX8_take_6 : cX8_take.data.toList.drop 140 = dktX8_take_6 := dk_seg dksX8_take_5 23 rfl rfl
theorem dX8_take_0 : decode cX8_take 0 = .ok (.aload_n 0, 1) := dk_42 (dk_at dksX8_take_0 0 rfl rfl)
theorem dX8_take_1 : decode cX8_take 1 = .ok (.getfield 47, 3) := dk_180 0 47 (dk_at dksX8_take_0 1 rfl rfl)
theorem dX8_take_4 : decode cX8_take 4 = .ok (.aload_n 0, 1) := dk_42 (dk_at dksX8_take_0 4 rfl rfl)
theorem dX8_take_5 : decode cX8_take 5 = .ok (.getfield 18, 3) := dk_180 0 18 (dk_at dksX8_take_0 5 rfl rfl)
theorem dX8_take_8 : decode cX8_take 8 = .ok (.invokeinterface 44 1, 5) := by decide +kernel
theorem dX8_take_13 : decode cX8_take 13 = .ok (.if_icmp .ge 136, 3) := dk_162 0 136 (dk_at dksX8_take_0 13 rfl rfl)
theorem dX8_take_16 : decode cX8_take 16 = .ok (.aload_n 0, 1) := dk_42 (dk_at dksX8_take_0 16 rfl rfl)
theorem dX8_take_17 : decode cX8_take 17 = .ok (.getfield 18, 3) := dk_180 0 18 (dk_at dksX8_take_0 17 rfl rfl)
theorem dX8_take_20 : decode cX8_take 20 = .ok (.aload_n 0, 1) := dk_42 (dk_at dksX8_take_0 20 rfl rfl)
theorem dX8_take_21 : decode cX8_take 21 = .ok (.getfield 47, 3) := dk_180 0 47 (dk_at dksX8_take_0 21 rfl rfl)
theorem dX8_take_24 : decode cX8_take 24 = .ok (.invokeinterface 32 2, 5) := by decide +kernel
theorem dX8_take_29 : decode cX8_take 29 = .ok (.checkcast 38, 3) := dk_192 0 38 (dk_at dksX8_take_1 5 rfl rfl)
theorem dX8_take_32 : decode cX8_take 32 = .ok (.invokevirtual 40, 3) := dk_182 0 40 (dk_at dksX8_take_1 8 rfl rfl)
theorem dX8_take_35 : decode cX8_take 35 = .ok (.istore_n 2, 1) := dk_61 (dk_at dksX8_take_1 11 rfl rfl)
theorem dX8_take_36 : decode cX8_take 36 = .ok (.iload_n 2, 1) := dk_28 (dk_at dksX8_take_1 12 rfl rfl)
theorem dX8_take_37 : decode cX8_take 37 = .ok (.bipush (-2), 2) := dk_16 254 (dk_at dksX8_take_1 13 rfl rfl)
theorem dX8_take_39 : decode cX8_take 39 = .ok (.if_icmp .ne 25, 3) := dk_160 0 25 (dk_at dksX8_take_1 15 rfl rfl)
theorem dX8_take_42 : decode cX8_take 42 = .ok (.aload_n 0, 1) := dk_42 (dk_at dksX8_take_1 18 rfl rfl)
theorem dX8_take_43 : decode cX8_take 43 = .ok (.aload_n 0, 1) := dk_42 (dk_at dksX8_take_1 19 rfl rfl)
theorem dX8_take_44 : decode cX8_take 44 = .ok (.getfield 47, 3) := dk_180 0 47 (dk_at dksX8_take_1 20 rfl rfl)
theorem dX8_take_47 : decode cX8_take 47 = .ok (.invokevirtual 50, 3) := dk_182 0 50 (dk_at dksX8_take_2 0 rfl rfl)
theorem dX8_take_50 : decode cX8_take 50 = .ok (.aload_n 0, 1) := dk_42 (dk_at dksX8_take_2 3 rfl rfl)
theorem dX8_take_51 : decode cX8_take 51 = .ok (.getfield 18, 3) := dk_180 0 18 (dk_at dksX8_take_2 4 rfl rfl)
theorem dX8_take_54 : decode cX8_take 54 = .ok (.invokeinterface 44 1, 5) := by decide +kernel
theorem dX8_take_59 : decode cX8_take 59 = .ok (.if_icmp .le 5, 3) := dk_164 0 5 (dk_at dksX8_take_2 12 rfl rfl)
theorem dX8_take_62 : decode cX8_take 62 = .ok (.iconst 1, 1) := dk_4 (dk_at dksX8_take_2 15 rfl rfl)
theorem dX8_take_63 : decode cX8_take 63 = .ok (.ireturn, 1) := dk_172 (dk_at dksX8_take_2 16 rfl rfl)
theorem dX8_take_64 : decode cX8_take 64 = .ok (.aload_n 0, 1) := dk_42 (dk_at dksX8_take_2 17 rfl rfl)
theorem dX8_take_65 : decode cX8_take 65 = .ok (.dup, 1) := dk_89 (dk_at dksX8_take_2 18 rfl rfl)
theorem dX8_take_66 : decode cX8_take 66 = .ok (.getfield 47, 3) := dk_180 0 47 (dk_at dksX8_take_2 19 rfl rfl)
theorem dX8_take_69 : decode cX8_take 69 = .ok (.iconst 1, 1) := dk_4 (dk_at dksX8_take_2 22 rfl rfl)
theorem dX8_take_70 : decode cX8_take 70 = .ok (.iadd, 1) := dk_96 (dk_at dksX8_take_2 23 rfl rfl)
theorem dX8_take_71 : decode cX8_take 71 = .ok (.putfield 47, 3) := dk_181 0 47 (dk_at dksX8_take_3 0 rfl rfl)
theorem dX8_take_74 : decode cX8_take 74 = .ok (.iload_n 2, 1) := dk_28 (dk_at dksX8_take_3 3 rfl rfl)
theorem dX8_take_75 : decode cX8_take 75 = .ok (.bipush (-3), 2) := dk_16 253 (dk_at dksX8_take_3 4 rfl rfl)
theorem dX8_take_77 : decode cX8_take 77 = .ok (.if_icmp .ne 9, 3) := dk_160 0 9 (dk_at dksX8_take_3 6 rfl rfl)
theorem dX8_take_80 : decode cX8_take 80 = .ok (.iload_n 1, 1) := dk_27 (dk_at dksX8_take_3 9 rfl rfl)
theorem dX8_take_81 : decode cX8_take 81 = .ok (.ifCond .le 5, 3) := dk_158 0 5 (dk_at dksX8_take_3 10 rfl rfl)
theorem dX8_take_84 : decode cX8_take 84 = .ok (.iconst 0, 1) := dk_3 (dk_at dksX8_take_3 13 rfl rfl)
theorem dX8_take_85 : decode cX8_take 85 = .ok (.ireturn, 1) := dk_172 (dk_at dksX8_take_3 14 rfl rfl)
theorem dX8_take_86 : decode cX8_take 86 = .ok (.iload_n 2, 1) := dk_28 (dk_at dksX8_take_3 15 rfl rfl)
theorem dX8_take_87 : decode cX8_take 87 = .ok (.bipush (-2), 2) := dk_16 254 (dk_at dksX8_take_3 16 rfl rfl)
theorem dX8_take_89 : decode cX8_take 89 = .ok (.if_icmp .ne 15, 3) := dk_160 0 15 (dk_at dksX8_take_3 18 rfl rfl)
theorem dX8_take_92 : decode cX8_take 92 = .ok (.aload_n 0, 1) := dk_42 (dk_at dksX8_take_3 21 rfl rfl)
theorem dX8_take_93 : decode cX8_take 93 = .ok (.iload_n 1, 1) := dk_27 (dk_at dksX8_take_3 22 rfl rfl)
theorem dX8_take_94 : decode cX8_take 94 = .ok (.iconst 1, 1) := dk_4 (dk_at dksX8_take_3 23 rfl rfl)
theorem dX8_take_95 : decode cX8_take 95 = .ok (.iadd, 1) := dk_96 (dk_at dksX8_take_4 0 rfl rfl)
theorem dX8_take_96 : decode cX8_take 96 = .ok (.invokevirtual 28, 3) := dk_182 0 28 (dk_at dksX8_take_4 1 rfl rfl)
theorem dX8_take_99 : decode cX8_take 99 = .ok (.ifCond .eq 5, 3) := dk_153 0 5 (dk_at dksX8_take_4 4 rfl rfl)
theorem dX8_take_102 : decode cX8_take 102 = .ok (.iconst 1, 1) := dk_4 (dk_at dksX8_take_4 7 rfl rfl)
theorem dX8_take_103 : decode cX8_take 103 = .ok (.ireturn, 1) := dk_172 (dk_at dksX8_take_4 8 rfl rfl)
theorem dX8_take_104 : decode cX8_take 104 = .ok (.iload_n 2, 1) := dk_28 (dk_at dksX8_take_4 9 rfl rfl)
theorem dX8_take_105 : decode cX8_take 105 = .ok (.ifCond .lt 41, 3) := dk_155 0 41 (dk_at dksX8_take_4 10 rfl rfl)
theorem dX8_take_108 : decode cX8_take 108 = .ok (.iload_n 1, 1) := dk_27 (dk_at dksX8_take_4 13 rfl rfl)
theorem dX8_take_109 : decode cX8_take 109 = .ok (.aload_n 0, 1) := dk_42 (dk_at dksX8_take_4 14 rfl rfl)
theorem dX8_take_110 : decode cX8_take 110 = .ok (.getfield 21, 3) := dk_180 0 21 (dk_at dksX8_take_4 15 rfl rfl)
theorem dX8_take_113 : decode cX8_take 113 = .ok (.if_icmp .gt 33, 3) := dk_163 0 33 (dk_at dksX8_take_4 18 rfl rfl)
theorem dX8_take_116 : decode cX8_take 116 = .ok (.aload_n 0, 1) := dk_42 (dk_at dksX8_take_4 21 rfl rfl)
theorem dX8_take_117 : decode cX8_take 117 = .ok (.getfield 12, 3) := dk_180 0 12 (dk_at dksX8_take_5 0 rfl rfl)
theorem dX8_take_120 : decode cX8_take 120 = .ok (.invokeinterface 44 1, 5) := by decide +kernel
theorem dX8_take_125 : decode cX8_take 125 = .ok (.aload_n 0, 1) := dk_42 (dk_at dksX8_take_5 8 rfl rfl)
theorem dX8_take_126 : decode cX8_take 126 = .ok (.getfield 25, 3) := dk_180 0 25 (dk_at dksX8_take_5 9 rfl rfl)
theorem dX8_take_129 : decode cX8_take 129 = .ok (.if_icmp .ge 17, 3) := dk_162 0 17 (dk_at dksX8_take_5 12 rfl rfl)
theorem dX8_take_132 : decode cX8_take 132 = .ok (.aload_n 0, 1) := dk_42 (dk_at dksX8_take_5 15 rfl rfl)
theorem dX8_take_133 : decode cX8_take 133 = .ok (.getfield 12, 3) := dk_180 0 12 (dk_at dksX8_take_5 16 rfl rfl)
theorem dX8_take_136 : decode cX8_take 136 = .ok (.iload_n 2, 1) := dk_28 (dk_at dksX8_take_5 19 rfl rfl)
theorem dX8_take_137 : decode cX8_take 137 = .ok (.invokestatic 54, 3) := dk_184 0 54 (dk_at dksX8_take_5 20 rfl rfl)
theorem dX8_take_140 : decode cX8_take 140 = .ok (.invokeinterface 58 2, 5) := by decide +kernel
theorem dX8_take_145 : decode cX8_take 145 = .ok (.pop, 1) := dk_87 (dk_at dksX8_take_6 5 rfl rfl)
theorem dX8_take_146 : decode cX8_take 146 = .ok (.goto (-146), 3) := dk_167 255 110 (dk_at dksX8_take_6 6 rfl rfl)
theorem dX8_take_149 : decode cX8_take 149 = .ok (.iconst 0, 1) := dk_3 (dk_at dksX8_take_6 9 rfl rfl)
theorem dX8_take_150 : decode cX8_take 150 = .ok (.ireturn, 1) := dk_172 (dk_at dksX8_take_6 10 rfl rfl)
abbrev cX8_end : ByteArray := prog_8_method_2_code
def yX8_end : MethodName := ⟨RX8, "end", "(I)I"⟩
def dkwX8_end_4 : List UInt8 := [167, 0, 4, 29, 172]
abbrev dktX8_end_4 : List UInt8 := dkwX8_end_4 ++ []
def dkwX8_end_3 : List UInt8 := [185, 0, 44, 1, 0, 161, 255, 185, 28, 158, 0, 17, 42, 180, 0, 18, 185, 0, 44, 1, 0, 4, 96]
abbrev dktX8_end_3 : List UInt8 := dkwX8_end_3 ++ dktX8_end_4
def dkwX8_end_2 : List UInt8 := [16, 253, 160, 0, 7, 2, 167, 0, 4, 3, 96, 61, 132, 3, 1, 28, 158, 0, 16, 29, 42, 180, 0, 18]
abbrev dktX8_end_2 : List UInt8 := dkwX8_end_2 ++ dktX8_end_3
def dkwX8_end_1 : List UInt8 := [160, 0, 7, 4, 167, 0, 29, 42, 180, 0, 18, 29, 185, 0, 32, 2, 0, 192, 0, 38, 182, 0, 40]
abbrev dktX8_end_1 : List UInt8 := dkwX8_end_1 ++ dktX8_end_2
def dkwX8_end_0 : List UInt8 := [3, 61, 27, 62, 28, 42, 180, 0, 18, 29, 185, 0, 32, 2, 0, 192, 0, 38, 182, 0, 40, 16, 254]
abbrev dktX8_end_0 : List UInt8 := dkwX8_end_0 ++ dktX8_end_1
theorem dksX8_end_0 : cX8_end.data.toList.drop 0 = dktX8_end_0 := by decide +kernel
theorem dksX8_end_1 : cX8_end.data.toList.drop 23 = dktX8_end_1 := dk_seg dksX8_end_0 23 rfl rfl
theorem dksX8_end_2 : cX8_end.data.toList.drop 46 = dktX8_end_2 := dk_seg dksX8_end_1 23 rfl rfl
theorem dksX8_end_3 : cX8_end.data.toList.drop 70 = dktX8_end_3 := dk_seg dksX8_end_2 24 rfl rfl
theorem dksX8_end_4 : cX8_end.data.toList.drop 93 = dktX8_end_4 := dk_seg dksX8_end_3 23 rfl rfl
theorem dX8_end_0 : decode cX8_end 0 = .ok (.iconst 0, 1) := dk_3 (dk_at dksX8_end_0 0 rfl rfl)
theorem dX8_end_1 : decode cX8_end 1 = .ok (.istore_n 2, 1) := dk_61 (dk_at dksX8_end_0 1 rfl rfl)
theorem dX8_end_2 : decode cX8_end 2 = .ok (.iload_n 1, 1) := dk_27 (dk_at dksX8_end_0 2 rfl rfl)
theorem dX8_end_3 : decode cX8_end 3 = .ok (.istore_n 3, 1) := dk_62 (dk_at dksX8_end_0 3 rfl rfl)
theorem dX8_end_4 : decode cX8_end 4 = .ok (.iload_n 2, 1) := dk_28 (dk_at dksX8_end_0 4 rfl rfl)
theorem dX8_end_5 : decode cX8_end 5 = .ok (.aload_n 0, 1) := dk_42 (dk_at dksX8_end_0 5 rfl rfl)
theorem dX8_end_6 : decode cX8_end 6 = .ok (.getfield 18, 3) := dk_180 0 18 (dk_at dksX8_end_0 6 rfl rfl)
theorem dX8_end_9 : decode cX8_end 9 = .ok (.iload_n 3, 1) := dk_29 (dk_at dksX8_end_0 9 rfl rfl)
theorem dX8_end_10 : decode cX8_end 10 = .ok (.invokeinterface 32 2, 5) := by decide +kernel
theorem dX8_end_15 : decode cX8_end 15 = .ok (.checkcast 38, 3) := dk_192 0 38 (dk_at dksX8_end_0 15 rfl rfl)
theorem dX8_end_18 : decode cX8_end 18 = .ok (.invokevirtual 40, 3) := dk_182 0 40 (dk_at dksX8_end_0 18 rfl rfl)
theorem dX8_end_21 : decode cX8_end 21 = .ok (.bipush (-2), 2) := dk_16 254 (dk_at dksX8_end_0 21 rfl rfl)
theorem dX8_end_23 : decode cX8_end 23 = .ok (.if_icmp .ne 7, 3) := dk_160 0 7 (dk_at dksX8_end_1 0 rfl rfl)
theorem dX8_end_26 : decode cX8_end 26 = .ok (.iconst 1, 1) := dk_4 (dk_at dksX8_end_1 3 rfl rfl)
theorem dX8_end_27 : decode cX8_end 27 = .ok (.goto 29, 3) := dk_167 0 29 (dk_at dksX8_end_1 4 rfl rfl)
theorem dX8_end_30 : decode cX8_end 30 = .ok (.aload_n 0, 1) := dk_42 (dk_at dksX8_end_1 7 rfl rfl)
theorem dX8_end_31 : decode cX8_end 31 = .ok (.getfield 18, 3) := dk_180 0 18 (dk_at dksX8_end_1 8 rfl rfl)
theorem dX8_end_34 : decode cX8_end 34 = .ok (.iload_n 3, 1) := dk_29 (dk_at dksX8_end_1 11 rfl rfl)
theorem dX8_end_35 : decode cX8_end 35 = .ok (.invokeinterface 32 2, 5) := by decide +kernel
theorem dX8_end_40 : decode cX8_end 40 = .ok (.checkcast 38, 3) := dk_192 0 38 (dk_at dksX8_end_1 17 rfl rfl)
theorem dX8_end_43 : decode cX8_end 43 = .ok (.invokevirtual 40, 3) := dk_182 0 40 (dk_at dksX8_end_1 20 rfl rfl)
theorem dX8_end_46 : decode cX8_end 46 = .ok (.bipush (-3), 2) := dk_16 253 (dk_at dksX8_end_2 0 rfl rfl)
theorem dX8_end_48 : decode cX8_end 48 = .ok (.if_icmp .ne 7, 3) := dk_160 0 7 (dk_at dksX8_end_2 2 rfl rfl)
theorem dX8_end_51 : decode cX8_end 51 = .ok (.iconst (-1), 1) := dk_2 (dk_at dksX8_end_2 5 rfl rfl)
theorem dX8_end_52 : decode cX8_end 52 = .ok (.goto 4, 3) := dk_167 0 4 (dk_at dksX8_end_2 6 rfl rfl)
theorem dX8_end_55 : decode cX8_end 55 = .ok (.iconst 0, 1) := dk_3 (dk_at dksX8_end_2 9 rfl rfl)
theorem dX8_end_56 : decode cX8_end 56 = .ok (.iadd, 1) := dk_96 (dk_at dksX8_end_2 10 rfl rfl)
theorem dX8_end_57 : decode cX8_end 57 = .ok (.istore_n 2, 1) := dk_61 (dk_at dksX8_end_2 11 rfl rfl)
theorem dX8_end_58 : decode cX8_end 58 = .ok (.iinc 3 1, 3) := dk_132 3 1 (dk_at dksX8_end_2 12 rfl rfl)
theorem dX8_end_61 : decode cX8_end 61 = .ok (.iload_n 2, 1) := dk_28 (dk_at dksX8_end_2 15 rfl rfl)
theorem dX8_end_62 : decode cX8_end 62 = .ok (.ifCond .le 16, 3) := dk_158 0 16 (dk_at dksX8_end_2 16 rfl rfl)
theorem dX8_end_65 : decode cX8_end 65 = .ok (.iload_n 3, 1) := dk_29 (dk_at dksX8_end_2 19 rfl rfl)
theorem dX8_end_66 : decode cX8_end 66 = .ok (.aload_n 0, 1) := dk_42 (dk_at dksX8_end_2 20 rfl rfl)
theorem dX8_end_67 : decode cX8_end 67 = .ok (.getfield 18, 3) := dk_180 0 18 (dk_at dksX8_end_2 21 rfl rfl)
theorem dX8_end_70 : decode cX8_end 70 = .ok (.invokeinterface 44 1, 5) := by decide +kernel
theorem dX8_end_75 : decode cX8_end 75 = .ok (.if_icmp .lt (-71), 3) := dk_161 255 185 (dk_at dksX8_end_3 5 rfl rfl)
theorem dX8_end_78 : decode cX8_end 78 = .ok (.iload_n 2, 1) := dk_28 (dk_at dksX8_end_3 8 rfl rfl)
theorem dX8_end_79 : decode cX8_end 79 = .ok (.ifCond .le 17, 3) := dk_158 0 17 (dk_at dksX8_end_3 9 rfl rfl)
theorem dX8_end_82 : decode cX8_end 82 = .ok (.aload_n 0, 1) := dk_42 (dk_at dksX8_end_3 12 rfl rfl)
theorem dX8_end_83 : decode cX8_end 83 = .ok (.getfield 18, 3) := dk_180 0 18 (dk_at dksX8_end_3 13 rfl rfl)
theorem dX8_end_86 : decode cX8_end 86 = .ok (.invokeinterface 44 1, 5) := by decide +kernel
theorem dX8_end_91 : decode cX8_end 91 = .ok (.iconst 1, 1) := dk_4 (dk_at dksX8_end_3 21 rfl rfl)
theorem dX8_end_92 : decode cX8_end 92 = .ok (.iadd, 1) := dk_96 (dk_at dksX8_end_3 22 rfl rfl)
theorem dX8_end_93 : decode cX8_end 93 = .ok (.goto 4, 3) := dk_167 0 4 (dk_at dksX8_end_4 0 rfl rfl)
theorem dX8_end_96 : decode cX8_end 96 = .ok (.iload_n 3, 1) := dk_29 (dk_at dksX8_end_4 3 rfl rfl)
theorem dX8_end_97 : decode cX8_end 97 = .ok (.ireturn, 1) := dk_172 (dk_at dksX8_end_4 4 rfl rfl)
theorem q140 : (Jvm.Cond.initialized "SearchKeeper$Taking") ∈ lw_all := lw_g (lw_at lw_m1 46 rfl) rfl
theorem q318 : (Jvm.Cond.selects "SearchKeeper$Taking" ({ cls := "java/lang/Object", name := "getClass", desc := "()Ljava/lang/Class;" } : Jvm.MethodName) ({ cls := "java/lang/Object", name := "getClass", desc := "()Ljava/lang/Class;" } : Jvm.MethodName)) ∈ lw_all := lw_g (lw_at lw_m1 224 rfl) rfl
theorem q1614 : (Jvm.Cond.selects "SearchKeeper$Taking" ({ cls := "java/lang/Object", name := "equals", desc := "(Ljava/lang/Object;)Z" } : Jvm.MethodName) ({ cls := "java/lang/Object", name := "equals", desc := "(Ljava/lang/Object;)Z" } : Jvm.MethodName)) ∈ lw_all := lw_g (lw_at lw_m7 80 rfl) rfl
theorem q1706 : (Jvm.Cond.instantiable "SearchKeeper$Taking" (5 : Nat)) ∈ lw_all := lw_g (lw_at lw_m7 172 rfl) rfl
theorem q1708 : (Jvm.Cond.instanceMethod ({ cls := "SearchKeeper$Taking", name := "<init>", desc := "(Ljava/util/List;II)V" } : Jvm.MethodName)) ∈ lw_all := lw_g (lw_at lw_m7 174 rfl) rfl
theorem q1709 : (Jvm.Cond.code ({ cls := "SearchKeeper$Taking", name := "<init>", desc := "(Ljava/util/List;II)V" } : Jvm.MethodName) prog_8_method_1_code (4 : Nat) (Option.none : Option Jvm.ClassFile.FieldType)) ∈ lw_all := lw_g (lw_at lw_m7 175 rfl) rfl
theorem q1710 : (Jvm.Cond.methodLink "SearchKeeper$Taking" (3 : Nat) ({ cls := "java/lang/Object", name := "<init>", desc := "()V" } : Jvm.MethodName)) ∈ lw_all := lw_g (lw_at lw_m7 176 rfl) rfl
theorem q1711 : (Jvm.Cond.classLink "SearchKeeper$Taking" (9 : Nat) "java/util/ArrayList") ∈ lw_all := lw_g (lw_at lw_m7 177 rfl) rfl
theorem q1712 : (Jvm.Cond.methodLink "SearchKeeper$Taking" (11 : Nat) ({ cls := "java/util/ArrayList", name := "<init>", desc := "()V" } : Jvm.MethodName)) ∈ lw_all := lw_g (lw_at lw_m7 178 rfl) rfl
theorem q1713 : (Jvm.Cond.methodLink "SearchKeeper$Taking" (28 : Nat) ({ cls := "SearchKeeper$Taking", name := "take", desc := "(I)Z" } : Jvm.MethodName)) ∈ lw_all := lw_g (lw_at lw_m7 179 rfl) rfl
theorem q1714 : (Jvm.Cond.privateMethod ({ cls := "SearchKeeper$Taking", name := "take", desc := "(I)Z" } : Jvm.MethodName)) ∈ lw_tbl := lw_at lw_m7 180 rfl
theorem q1715 : (Jvm.Cond.instanceMethod ({ cls := "SearchKeeper$Taking", name := "take", desc := "(I)Z" } : Jvm.MethodName)) ∈ lw_all := lw_g (lw_at lw_m7 181 rfl) rfl
theorem q1716 : (Jvm.Cond.code ({ cls := "SearchKeeper$Taking", name := "take", desc := "(I)Z" } : Jvm.MethodName) prog_8_method_3_code (3 : Nat) (Option.some Jvm.ClassFile.FieldType.boolean)) ∈ lw_all := lw_g (lw_at lw_m7 182 rfl) rfl
theorem q1717 : (Jvm.Cond.interfaceEntry "SearchKeeper$Taking" (44 : Nat)) ∈ lw_tbl := lw_at lw_m7 183 rfl
theorem q1718 : (Jvm.Cond.methodLink "SearchKeeper$Taking" (44 : Nat) ({ cls := "java/util/List", name := "size", desc := "()I" } : Jvm.MethodName)) ∈ lw_all := lw_g (lw_at lw_m7 184 rfl) rfl
theorem q1719 : (Jvm.Cond.interfaceEntry "SearchKeeper$Taking" (32 : Nat)) ∈ lw_tbl := lw_at lw_m7 185 rfl
theorem q1720 : (Jvm.Cond.methodLink "SearchKeeper$Taking" (32 : Nat) ({ cls := "java/util/List", name := "get", desc := "(I)Ljava/lang/Object;" } : Jvm.MethodName)) ∈ lw_all := lw_g (lw_at lw_m7 186 rfl) rfl
theorem q1721 : (Jvm.Cond.classLink "SearchKeeper$Taking" (38 : Nat) "java/lang/Integer") ∈ lw_all := lw_g (lw_at lw_m7 187 rfl) rfl
theorem q1722 : (Jvm.Cond.methodLink "SearchKeeper$Taking" (40 : Nat) ({ cls := "java/lang/Integer", name := "intValue", desc := "()I" } : Jvm.MethodName)) ∈ lw_all := lw_g (lw_at lw_m7 188 rfl) rfl
theorem q1723 : (Jvm.Cond.methodLink "SearchKeeper$Taking" (50 : Nat) ({ cls := "SearchKeeper$Taking", name := "end", desc := "(I)I" } : Jvm.MethodName)) ∈ lw_all := lw_g (lw_at lw_m7 189 rfl) rfl
theorem q1724 : (Jvm.Cond.privateMethod ({ cls := "SearchKeeper$Taking", name := "end", desc := "(I)I" } : Jvm.MethodName)) ∈ lw_tbl := lw_at lw_m7 190 rfl
theorem q1725 : (Jvm.Cond.instanceMethod ({ cls := "SearchKeeper$Taking", name := "end", desc := "(I)I" } : Jvm.MethodName)) ∈ lw_all := lw_g (lw_at lw_m7 191 rfl) rfl
theorem q1726 : (Jvm.Cond.code ({ cls := "SearchKeeper$Taking", name := "end", desc := "(I)I" } : Jvm.MethodName) prog_8_method_2_code (4 : Nat) (Option.some Jvm.ClassFile.FieldType.int)) ∈ lw_all := lw_g (lw_at lw_m7 192 rfl) rfl
theorem q1727 : (Jvm.Cond.methodLink "SearchKeeper$Taking" (54 : Nat) ({ cls := "java/lang/Integer", name := "valueOf", desc := "(I)Ljava/lang/Integer;" } : Jvm.MethodName)) ∈ lw_all := lw_g (lw_at lw_m7 193 rfl) rfl
theorem q1728 : (Jvm.Cond.interfaceEntry "SearchKeeper$Taking" (58 : Nat)) ∈ lw_tbl := lw_at lw_m7 194 rfl
theorem q1729 : (Jvm.Cond.methodLink "SearchKeeper$Taking" (58 : Nat) ({ cls := "java/util/List", name := "add", desc := "(Ljava/lang/Object;)Z" } : Jvm.MethodName)) ∈ lw_all := lw_g (lw_at lw_m7 195 rfl) rfl
theorem q1730 : (Jvm.Cond.fieldLink "SearchKeeper$Taking" (18 : Nat) "SearchKeeper$Taking" "marks" "Ljava/util/List;") ∈ lw_all := lw_g (lw_at lw_m7 196 rfl) rfl
theorem q1731 : (Jvm.Cond.fieldLink "SearchKeeper$Taking" (21 : Nat) "SearchKeeper$Taking" "depth" "I") ∈ lw_all := lw_g (lw_at lw_m7 197 rfl) rfl
theorem q1732 : (Jvm.Cond.fieldLink "SearchKeeper$Taking" (25 : Nat) "SearchKeeper$Taking" "most" "I") ∈ lw_all := lw_g (lw_at lw_m7 198 rfl) rfl
theorem q1733 : (Jvm.Cond.fieldLink "SearchKeeper$Taking" (12 : Nat) "SearchKeeper$Taking" "words" "Ljava/util/List;") ∈ lw_all := lw_g (lw_at lw_m7 199 rfl) rfl
theorem q1735 : (Jvm.Cond.fieldLink "SearchKeeper$Taking" (47 : Nat) "SearchKeeper$Taking" "at" "I") ∈ lw_all := lw_g (lw_at lw_m7 201 rfl) rfl
theorem q1736 : (Jvm.Cond.laysFinal "SearchKeeper$Taking" "SearchKeeper$Taking" "marks" "Ljava/util/List;") ∈ lw_all := lw_g (lw_at lw_m7 202 rfl) rfl
theorem q1737 : (Jvm.Cond.soleField "SearchKeeper$Taking" "marks") ∈ lw_all := lw_g (lw_at lw_m7 203 rfl) rfl
theorem q1738 : (Jvm.Cond.laysFinal "SearchKeeper$Taking" "SearchKeeper$Taking" "depth" "I") ∈ lw_all := lw_g (lw_at lw_m7 204 rfl) rfl
theorem q1739 : (Jvm.Cond.soleField "SearchKeeper$Taking" "depth") ∈ lw_all := lw_g (lw_at lw_m7 205 rfl) rfl
theorem q1740 : (Jvm.Cond.laysFinal "SearchKeeper$Taking" "SearchKeeper$Taking" "most" "I") ∈ lw_all := lw_g (lw_at lw_m7 206 rfl) rfl
theorem q1741 : (Jvm.Cond.soleField "SearchKeeper$Taking" "most") ∈ lw_all := lw_g (lw_at lw_m7 207 rfl) rfl
theorem q1742 : (Jvm.Cond.laysFinal "SearchKeeper$Taking" "SearchKeeper$Taking" "words" "Ljava/util/List;") ∈ lw_all := lw_g (lw_at lw_m7 208 rfl) rfl
theorem q1743 : (Jvm.Cond.soleField "SearchKeeper$Taking" "words") ∈ lw_all := lw_g (lw_at lw_m7 209 rfl) rfl
theorem q1744 : (Jvm.Cond.lays "SearchKeeper$Taking" "SearchKeeper$Taking" "at" "I") ∈ lw_all := lw_g (lw_at lw_m7 210 rfl) rfl
theorem q1745 : (Jvm.Cond.soleField "SearchKeeper$Taking" "at") ∈ lw_all := lw_g (lw_at lw_m7 211 rfl) rfl
theorem q1746 : (Jvm.Cond.superclass "SearchKeeper$Taking" "java/lang/Object") ∈ lw_all := lw_g (lw_at lw_m7 212 rfl) rfl
theorem q2451 : (Jvm.Cond.castable "SearchKeeper$Taking" "java/lang/Object") ∈ lw_tbl := lw_at lw_m10 197 rfl
theorem in_X8 : ∀ w ∈ wsX80, w ∈ lw_all := lw_in wsX80 [1736, 1738, 1740, 1742, 1744] (by decide +kernel) (by decide +kernel)

/-! SearchKeeper$Segment -/
set_option maxRecDepth 100000
def RX9 : String := "SearchKeeper$Segment"
def TX9 : u_T := fun k => match k with
  | 0 => ("SearchKeeper$Segment", "places", "Ljava/util/List;", true)
  | _ => ("SearchKeeper$Segment", "dead", "I", false)
def tyX9 : Nat → FieldType := fun k => match k with
  | 0 => .object "java/util/List"
  | _ => .int
abbrev wsX90 : List Cond := u_ws RX9 TX9 2
theorem nmX9 : ∀ a, a < 2 → ∀ b, b < 2 → a ≠ b → (TX9 a).2.1 ≠ (TX9 b).2.1 := by decide +kernel
theorem tyX9_ok : ∀ k, k < 2 → parseFieldDescriptor (TX9 k).2.2.1 = some (tyX9 k) := by decide +kernel
abbrev cX9_init : ByteArray := prog_7_method_1_code
def yX9_init : MethodName := ⟨RX9, "<init>", "()V"⟩
def dkwX9_init_0 : List UInt8 := [42, 183, 0, 1, 42, 187, 0, 7, 89, 183, 0, 9, 181, 0, 10, 177]
abbrev dktX9_init_0 : List UInt8 := dkwX9_init_0 ++ []
theorem dksX9_init_0 : cX9_init.data.toList.drop 0 = dktX9_init_0 := by decide +kernel
theorem dX9_init_0 : decode cX9_init 0 = .ok (.aload_n 0, 1) := dk_42 (dk_at dksX9_init_0 0 rfl rfl)
theorem dX9_init_1 : decode cX9_init 1 = .ok (.invokespecial 1, 3) := dk_183 0 1 (dk_at dksX9_init_0 1 rfl rfl)
theorem dX9_init_4 : decode cX9_init 4 = .ok (.aload_n 0, 1) := dk_42 (dk_at dksX9_init_0 4 rfl rfl)
theorem dX9_init_5 : decode cX9_init 5 = .ok (.new 7, 3) := dk_187 0 7 (dk_at dksX9_init_0 5 rfl rfl)
theorem dX9_init_8 : decode cX9_init 8 = .ok (.dup, 1) := dk_89 (dk_at dksX9_init_0 8 rfl rfl)
theorem dX9_init_9 : decode cX9_init 9 = .ok (.invokespecial 9, 3) := dk_183 0 9 (dk_at dksX9_init_0 9 rfl rfl)
theorem dX9_init_12 : decode cX9_init 12 = .ok (.putfield 10, 3) := dk_181 0 10 (dk_at dksX9_init_0 12 rfl rfl)
theorem dX9_init_15 : decode cX9_init 15 = .ok (.return_, 1) := dk_177 (dk_at dksX9_init_0 15 rfl rfl)
abbrev cX9_size : ByteArray := prog_7_method_2_code
def yX9_size : MethodName := ⟨RX9, "size", "()I"⟩
def dkwX9_size_0 : List UInt8 := [42, 180, 0, 10, 185, 0, 16, 1, 0, 42, 180, 0, 22, 96, 172]
abbrev dktX9_size_0 : List UInt8 := dkwX9_size_0 ++ []
theorem dksX9_size_0 : cX9_size.data.toList.drop 0 = dktX9_size_0 := by decide +kernel
theorem dX9_size_0 : decode cX9_size 0 = .ok (.aload_n 0, 1) := dk_42 (dk_at dksX9_size_0 0 rfl rfl)
theorem dX9_size_1 : decode cX9_size 1 = .ok (.getfield 10, 3) := dk_180 0 10 (dk_at dksX9_size_0 1 rfl rfl)
theorem dX9_size_4 : decode cX9_size 4 = .ok (.invokeinterface 16 1, 5) := by decide +kernel
theorem dX9_size_9 : decode cX9_size 9 = .ok (.aload_n 0, 1) := dk_42 (dk_at dksX9_size_0 9 rfl rfl)
theorem dX9_size_10 : decode cX9_size 10 = .ok (.getfield 22, 3) := dk_180 0 22 (dk_at dksX9_size_0 10 rfl rfl)
theorem dX9_size_13 : decode cX9_size 13 = .ok (.iadd, 1) := dk_96 (dk_at dksX9_size_0 13 rfl rfl)
theorem dX9_size_14 : decode cX9_size 14 = .ok (.ireturn, 1) := dk_172 (dk_at dksX9_size_0 14 rfl rfl)
theorem q141 : (Jvm.Cond.initialized "SearchKeeper$Segment") ∈ lw_all := lw_g (lw_at lw_m1 47 rfl) rfl
theorem q317 : (Jvm.Cond.selects "SearchKeeper$Segment" ({ cls := "java/lang/Object", name := "getClass", desc := "()Ljava/lang/Class;" } : Jvm.MethodName) ({ cls := "java/lang/Object", name := "getClass", desc := "()Ljava/lang/Class;" } : Jvm.MethodName)) ∈ lw_all := lw_g (lw_at lw_m1 223 rfl) rfl
theorem q1613 : (Jvm.Cond.selects "SearchKeeper$Segment" ({ cls := "java/lang/Object", name := "equals", desc := "(Ljava/lang/Object;)Z" } : Jvm.MethodName) ({ cls := "java/lang/Object", name := "equals", desc := "(Ljava/lang/Object;)Z" } : Jvm.MethodName)) ∈ lw_all := lw_g (lw_at lw_m7 79 rfl) rfl
theorem q1815 : (Jvm.Cond.instantiable "SearchKeeper$Segment" (2 : Nat)) ∈ lw_all := lw_g (lw_at lw_m8 41 rfl) rfl
theorem q1817 : (Jvm.Cond.instanceMethod ({ cls := "SearchKeeper$Segment", name := "<init>", desc := "()V" } : Jvm.MethodName)) ∈ lw_all := lw_g (lw_at lw_m8 43 rfl) rfl
theorem q1818 : (Jvm.Cond.code ({ cls := "SearchKeeper$Segment", name := "<init>", desc := "()V" } : Jvm.MethodName) prog_7_method_1_code (1 : Nat) (Option.none : Option Jvm.ClassFile.FieldType)) ∈ lw_all := lw_g (lw_at lw_m8 44 rfl) rfl
theorem q1819 : (Jvm.Cond.methodLink "SearchKeeper$Segment" (1 : Nat) ({ cls := "java/lang/Object", name := "<init>", desc := "()V" } : Jvm.MethodName)) ∈ lw_all := lw_g (lw_at lw_m8 45 rfl) rfl
theorem q1820 : (Jvm.Cond.classLink "SearchKeeper$Segment" (7 : Nat) "java/util/ArrayList") ∈ lw_all := lw_g (lw_at lw_m8 46 rfl) rfl
theorem q1821 : (Jvm.Cond.methodLink "SearchKeeper$Segment" (9 : Nat) ({ cls := "java/util/ArrayList", name := "<init>", desc := "()V" } : Jvm.MethodName)) ∈ lw_all := lw_g (lw_at lw_m8 47 rfl) rfl
theorem q1822 : (Jvm.Cond.fieldLink "SearchKeeper$Segment" (10 : Nat) "SearchKeeper$Segment" "places" "Ljava/util/List;") ∈ lw_all := lw_g (lw_at lw_m8 48 rfl) rfl
theorem q1824 : (Jvm.Cond.fieldLink "SearchKeeper$Segment" (22 : Nat) "SearchKeeper$Segment" "dead" "I") ∈ lw_all := lw_g (lw_at lw_m8 50 rfl) rfl
theorem q1826 : (Jvm.Cond.laysFinal "SearchKeeper$Segment" "SearchKeeper$Segment" "places" "Ljava/util/List;") ∈ lw_all := lw_g (lw_at lw_m8 52 rfl) rfl
theorem q1827 : (Jvm.Cond.soleField "SearchKeeper$Segment" "places") ∈ lw_all := lw_g (lw_at lw_m8 53 rfl) rfl
theorem q1828 : (Jvm.Cond.lays "SearchKeeper$Segment" "SearchKeeper$Segment" "dead" "I") ∈ lw_all := lw_g (lw_at lw_m8 54 rfl) rfl
theorem q1829 : (Jvm.Cond.soleField "SearchKeeper$Segment" "dead") ∈ lw_all := lw_g (lw_at lw_m8 55 rfl) rfl
theorem q1830 : (Jvm.Cond.superclass "SearchKeeper$Segment" "java/lang/Object") ∈ lw_all := lw_g (lw_at lw_m8 56 rfl) rfl
theorem q1862 : (Jvm.Cond.instanceMethod ({ cls := "SearchKeeper$Segment", name := "size", desc := "()I" } : Jvm.MethodName)) ∈ lw_all := lw_g (lw_at lw_m8 88 rfl) rfl
theorem q1863 : (Jvm.Cond.selects "SearchKeeper$Segment" ({ cls := "SearchKeeper$Segment", name := "size", desc := "()I" } : Jvm.MethodName) ({ cls := "SearchKeeper$Segment", name := "size", desc := "()I" } : Jvm.MethodName)) ∈ lw_all := lw_g (lw_at lw_m8 89 rfl) rfl
theorem q1864 : (Jvm.Cond.code ({ cls := "SearchKeeper$Segment", name := "size", desc := "()I" } : Jvm.MethodName) prog_7_method_2_code (1 : Nat) (Option.some Jvm.ClassFile.FieldType.int)) ∈ lw_all := lw_g (lw_at lw_m8 90 rfl) rfl
theorem q1865 : (Jvm.Cond.interfaceEntry "SearchKeeper$Segment" (16 : Nat)) ∈ lw_tbl := lw_at lw_m8 91 rfl
theorem q1866 : (Jvm.Cond.methodLink "SearchKeeper$Segment" (16 : Nat) ({ cls := "java/util/List", name := "size", desc := "()I" } : Jvm.MethodName)) ∈ lw_all := lw_g (lw_at lw_m8 92 rfl) rfl
theorem q2452 : (Jvm.Cond.castable "SearchKeeper$Segment" "java/lang/Object") ∈ lw_tbl := lw_at lw_m10 198 rfl
theorem in_X9 : ∀ w ∈ wsX90, w ∈ lw_all := lw_in wsX90 [1826, 1828] (by decide +kernel) (by decide +kernel)
