/-! MergeWorkbenchLaw -/
set_option maxRecDepth 100000
def RX0 : String := "MergeWorkbenchLaw"
abbrev cX0_append : ByteArray := method_3_code
def yX0_append : MethodName := ⟨RX0, "append", "(LMergeWorkbench;II[J)I"⟩
def dkwX0_append_0 : List UInt8 := [45, 3, 42, 27, 28, 182, 0, 7, 133, 80, 167, 0, 11, 58, 4, 4, 172, 58, 4, 5, 172, 3, 172]
abbrev dktX0_append_0 : List UInt8 := dkwX0_append_0 ++ []
theorem dksX0_append_0 : cX0_append.data.toList.drop 0 = dktX0_append_0 := by decide +kernel
theorem dX0_append_0 : decode cX0_append 0 = .ok (.aload_n 3, 1) := dk_45 (dk_at dksX0_append_0 0 rfl rfl)
theorem dX0_append_1 : decode cX0_append 1 = .ok (.iconst 0, 1) := dk_3 (dk_at dksX0_append_0 1 rfl rfl)
theorem dX0_append_2 : decode cX0_append 2 = .ok (.aload_n 0, 1) := dk_42 (dk_at dksX0_append_0 2 rfl rfl)
theorem dX0_append_3 : decode cX0_append 3 = .ok (.iload_n 1, 1) := dk_27 (dk_at dksX0_append_0 3 rfl rfl)
theorem dX0_append_4 : decode cX0_append 4 = .ok (.iload_n 2, 1) := dk_28 (dk_at dksX0_append_0 4 rfl rfl)
theorem dX0_append_5 : decode cX0_append 5 = .ok (.invokevirtual 7, 3) := dk_182 0 7 (dk_at dksX0_append_0 5 rfl rfl)
theorem dX0_append_8 : decode cX0_append 8 = .ok (.i2l, 1) := dk_133 (dk_at dksX0_append_0 8 rfl rfl)
theorem dX0_append_9 : decode cX0_append 9 = .ok (.lastore, 1) := dk_80 (dk_at dksX0_append_0 9 rfl rfl)
theorem dX0_append_10 : decode cX0_append 10 = .ok (.goto 11, 3) := dk_167 0 11 (dk_at dksX0_append_0 10 rfl rfl)
theorem dX0_append_13 : decode cX0_append 13 = .ok (.astore 4, 2) := dk_58 4 (dk_at dksX0_append_0 13 rfl rfl)
theorem dX0_append_15 : decode cX0_append 15 = .ok (.iconst 1, 1) := dk_4 (dk_at dksX0_append_0 15 rfl rfl)
theorem dX0_append_16 : decode cX0_append 16 = .ok (.ireturn, 1) := dk_172 (dk_at dksX0_append_0 16 rfl rfl)
theorem dX0_append_17 : decode cX0_append 17 = .ok (.astore 4, 2) := dk_58 4 (dk_at dksX0_append_0 17 rfl rfl)
theorem dX0_append_19 : decode cX0_append 19 = .ok (.iconst 2, 1) := dk_5 (dk_at dksX0_append_0 19 rfl rfl)
theorem dX0_append_20 : decode cX0_append 20 = .ok (.ireturn, 1) := dk_172 (dk_at dksX0_append_0 20 rfl rfl)
theorem dX0_append_21 : decode cX0_append 21 = .ok (.iconst 0, 1) := dk_3 (dk_at dksX0_append_0 21 rfl rfl)
theorem dX0_append_22 : decode cX0_append 22 = .ok (.ireturn, 1) := dk_172 (dk_at dksX0_append_0 22 rfl rfl)
abbrev cX0_insert : ByteArray := method_4_code
def yX0_insert : MethodName := ⟨RX0, "insert", "(LMergeWorkbench;III[J)I"⟩
def dkwX0_insert_1 : List UInt8 := [58, 5, 6, 172, 3, 172]
abbrev dktX0_insert_1 : List UInt8 := dkwX0_insert_1 ++ []
def dkwX0_insert_0 : List UInt8 := [25, 4, 3, 42, 27, 28, 29, 182, 0, 17, 133, 80, 167, 0, 15, 58, 5, 4, 172, 58, 5, 5, 172]
abbrev dktX0_insert_0 : List UInt8 := dkwX0_insert_0 ++ dktX0_insert_1
theorem dksX0_insert_0 : cX0_insert.data.toList.drop 0 = dktX0_insert_0 := by decide +kernel
theorem dksX0_insert_1 : cX0_insert.data.toList.drop 23 = dktX0_insert_1 := dk_seg dksX0_insert_0 23 rfl rfl
theorem dX0_insert_0 : decode cX0_insert 0 = .ok (.aload 4, 2) := dk_25 4 (dk_at dksX0_insert_0 0 rfl rfl)
theorem dX0_insert_2 : decode cX0_insert 2 = .ok (.iconst 0, 1) := dk_3 (dk_at dksX0_insert_0 2 rfl rfl)
theorem dX0_insert_3 : decode cX0_insert 3 = .ok (.aload_n 0, 1) := dk_42 (dk_at dksX0_insert_0 3 rfl rfl)
theorem dX0_insert_4 : decode cX0_insert 4 = .ok (.iload_n 1, 1) := dk_27 (dk_at dksX0_insert_0 4 rfl rfl)
theorem dX0_insert_5 : decode cX0_insert 5 = .ok (.iload_n 2, 1) := dk_28 (dk_at dksX0_insert_0 5 rfl rfl)
theorem dX0_insert_6 : decode cX0_insert 6 = .ok (.iload_n 3, 1) := dk_29 (dk_at dksX0_insert_0 6 rfl rfl)
theorem dX0_insert_7 : decode cX0_insert 7 = .ok (.invokevirtual 17, 3) := dk_182 0 17 (dk_at dksX0_insert_0 7 rfl rfl)
theorem dX0_insert_10 : decode cX0_insert 10 = .ok (.i2l, 1) := dk_133 (dk_at dksX0_insert_0 10 rfl rfl)
theorem dX0_insert_11 : decode cX0_insert 11 = .ok (.lastore, 1) := dk_80 (dk_at dksX0_insert_0 11 rfl rfl)
theorem dX0_insert_12 : decode cX0_insert 12 = .ok (.goto 15, 3) := dk_167 0 15 (dk_at dksX0_insert_0 12 rfl rfl)
theorem dX0_insert_15 : decode cX0_insert 15 = .ok (.astore 5, 2) := dk_58 5 (dk_at dksX0_insert_0 15 rfl rfl)
theorem dX0_insert_17 : decode cX0_insert 17 = .ok (.iconst 1, 1) := dk_4 (dk_at dksX0_insert_0 17 rfl rfl)
theorem dX0_insert_18 : decode cX0_insert 18 = .ok (.ireturn, 1) := dk_172 (dk_at dksX0_insert_0 18 rfl rfl)
theorem dX0_insert_19 : decode cX0_insert 19 = .ok (.astore 5, 2) := dk_58 5 (dk_at dksX0_insert_0 19 rfl rfl)
theorem dX0_insert_21 : decode cX0_insert 21 = .ok (.iconst 2, 1) := dk_5 (dk_at dksX0_insert_0 21 rfl rfl)
theorem dX0_insert_22 : decode cX0_insert 22 = .ok (.ireturn, 1) := dk_172 (dk_at dksX0_insert_0 22 rfl rfl)
theorem dX0_insert_23 : decode cX0_insert 23 = .ok (.astore 5, 2) := dk_58 5 (dk_at dksX0_insert_1 0 rfl rfl)
theorem dX0_insert_25 : decode cX0_insert 25 = .ok (.iconst 3, 1) := dk_6 (dk_at dksX0_insert_1 2 rfl rfl)
theorem dX0_insert_26 : decode cX0_insert 26 = .ok (.ireturn, 1) := dk_172 (dk_at dksX0_insert_1 3 rfl rfl)
theorem dX0_insert_27 : decode cX0_insert 27 = .ok (.iconst 0, 1) := dk_3 (dk_at dksX0_insert_1 4 rfl rfl)
theorem dX0_insert_28 : decode cX0_insert 28 = .ok (.ireturn, 1) := dk_172 (dk_at dksX0_insert_1 5 rfl rfl)
abbrev cX0_delete : ByteArray := method_5_code
def yX0_delete : MethodName := ⟨RX0, "delete", "(LMergeWorkbench;II[J)I"⟩
def dkwX0_delete_0 : List UInt8 := [45, 3, 42, 27, 28, 182, 0, 23, 133, 80, 167, 0, 11, 58, 4, 4, 172, 58, 4, 5, 172, 3, 172]
abbrev dktX0_delete_0 : List UInt8 := dkwX0_delete_0 ++ []
theorem dksX0_delete_0 : cX0_delete.data.toList.drop 0 = dktX0_delete_0 := by decide +kernel
theorem dX0_delete_0 : decode cX0_delete 0 = .ok (.aload_n 3, 1) := dk_45 (dk_at dksX0_delete_0 0 rfl rfl)
theorem dX0_delete_1 : decode cX0_delete 1 = .ok (.iconst 0, 1) := dk_3 (dk_at dksX0_delete_0 1 rfl rfl)
theorem dX0_delete_2 : decode cX0_delete 2 = .ok (.aload_n 0, 1) := dk_42 (dk_at dksX0_delete_0 2 rfl rfl)
theorem dX0_delete_3 : decode cX0_delete 3 = .ok (.iload_n 1, 1) := dk_27 (dk_at dksX0_delete_0 3 rfl rfl)
theorem dX0_delete_4 : decode cX0_delete 4 = .ok (.iload_n 2, 1) := dk_28 (dk_at dksX0_delete_0 4 rfl rfl)
theorem dX0_delete_5 : decode cX0_delete 5 = .ok (.invokevirtual 23, 3) := dk_182 0 23 (dk_at dksX0_delete_0 5 rfl rfl)
theorem dX0_delete_8 : decode cX0_delete 8 = .ok (.i2l, 1) := dk_133 (dk_at dksX0_delete_0 8 rfl rfl)
theorem dX0_delete_9 : decode cX0_delete 9 = .ok (.lastore, 1) := dk_80 (dk_at dksX0_delete_0 9 rfl rfl)
theorem dX0_delete_10 : decode cX0_delete 10 = .ok (.goto 11, 3) := dk_167 0 11 (dk_at dksX0_delete_0 10 rfl rfl)
theorem dX0_delete_13 : decode cX0_delete 13 = .ok (.astore 4, 2) := dk_58 4 (dk_at dksX0_delete_0 13 rfl rfl)
theorem dX0_delete_15 : decode cX0_delete 15 = .ok (.iconst 1, 1) := dk_4 (dk_at dksX0_delete_0 15 rfl rfl)
theorem dX0_delete_16 : decode cX0_delete 16 = .ok (.ireturn, 1) := dk_172 (dk_at dksX0_delete_0 16 rfl rfl)
theorem dX0_delete_17 : decode cX0_delete 17 = .ok (.astore 4, 2) := dk_58 4 (dk_at dksX0_delete_0 17 rfl rfl)
theorem dX0_delete_19 : decode cX0_delete 19 = .ok (.iconst 2, 1) := dk_5 (dk_at dksX0_delete_0 19 rfl rfl)
theorem dX0_delete_20 : decode cX0_delete 20 = .ok (.ireturn, 1) := dk_172 (dk_at dksX0_delete_0 20 rfl rfl)
theorem dX0_delete_21 : decode cX0_delete 21 = .ok (.iconst 0, 1) := dk_3 (dk_at dksX0_delete_0 21 rfl rfl)
theorem dX0_delete_22 : decode cX0_delete 22 = .ok (.ireturn, 1) := dk_172 (dk_at dksX0_delete_0 22 rfl rfl)
abbrev cX0_length : ByteArray := method_6_code
def yX0_length : MethodName := ⟨RX0, "length", "(LMergeWorkbench;I[J)I"⟩
def dkwX0_length_0 : List UInt8 := [44, 3, 42, 27, 182, 0, 26, 133, 80, 167, 0, 6, 78, 4, 172, 3, 172]
abbrev dktX0_length_0 : List UInt8 := dkwX0_length_0 ++ []
theorem dksX0_length_0 : cX0_length.data.toList.drop 0 = dktX0_length_0 := by decide +kernel
theorem dX0_length_0 : decode cX0_length 0 = .ok (.aload_n 2, 1) := dk_44 (dk_at dksX0_length_0 0 rfl rfl)
theorem dX0_length_1 : decode cX0_length 1 = .ok (.iconst 0, 1) := dk_3 (dk_at dksX0_length_0 1 rfl rfl)
theorem dX0_length_2 : decode cX0_length 2 = .ok (.aload_n 0, 1) := dk_42 (dk_at dksX0_length_0 2 rfl rfl)
theorem dX0_length_3 : decode cX0_length 3 = .ok (.iload_n 1, 1) := dk_27 (dk_at dksX0_length_0 3 rfl rfl)
theorem dX0_length_4 : decode cX0_length 4 = .ok (.invokevirtual 26, 3) := dk_182 0 26 (dk_at dksX0_length_0 4 rfl rfl)
theorem dX0_length_7 : decode cX0_length 7 = .ok (.i2l, 1) := dk_133 (dk_at dksX0_length_0 7 rfl rfl)
theorem dX0_length_8 : decode cX0_length 8 = .ok (.lastore, 1) := dk_80 (dk_at dksX0_length_0 8 rfl rfl)
theorem dX0_length_9 : decode cX0_length 9 = .ok (.goto 6, 3) := dk_167 0 6 (dk_at dksX0_length_0 9 rfl rfl)
theorem dX0_length_12 : decode cX0_length 12 = .ok (.astore_n 3, 1) := dk_78 (dk_at dksX0_length_0 12 rfl rfl)
theorem dX0_length_13 : decode cX0_length 13 = .ok (.iconst 1, 1) := dk_4 (dk_at dksX0_length_0 13 rfl rfl)
theorem dX0_length_14 : decode cX0_length 14 = .ok (.ireturn, 1) := dk_172 (dk_at dksX0_length_0 14 rfl rfl)
theorem dX0_length_15 : decode cX0_length 15 = .ok (.iconst 0, 1) := dk_3 (dk_at dksX0_length_0 15 rfl rfl)
theorem dX0_length_16 : decode cX0_length 16 = .ok (.ireturn, 1) := dk_172 (dk_at dksX0_length_0 16 rfl rfl)
abbrev cX0_line : ByteArray := method_7_code
def yX0_line : MethodName := ⟨RX0, "line", "(LMergeWorkbench;II[J)I"⟩
def dkwX0_line_0 : List UInt8 := [45, 3, 42, 27, 28, 182, 0, 30, 133, 80, 167, 0, 11, 58, 4, 4, 172, 58, 4, 5, 172, 3, 172]
abbrev dktX0_line_0 : List UInt8 := dkwX0_line_0 ++ []
theorem dksX0_line_0 : cX0_line.data.toList.drop 0 = dktX0_line_0 := by decide +kernel
theorem dX0_line_0 : decode cX0_line 0 = .ok (.aload_n 3, 1) := dk_45 (dk_at dksX0_line_0 0 rfl rfl)
theorem dX0_line_1 : decode cX0_line 1 = .ok (.iconst 0, 1) := dk_3 (dk_at dksX0_line_0 1 rfl rfl)
theorem dX0_line_2 : decode cX0_line 2 = .ok (.aload_n 0, 1) := dk_42 (dk_at dksX0_line_0 2 rfl rfl)
theorem dX0_line_3 : decode cX0_line 3 = .ok (.iload_n 1, 1) := dk_27 (dk_at dksX0_line_0 3 rfl rfl)
theorem dX0_line_4 : decode cX0_line 4 = .ok (.iload_n 2, 1) := dk_28 (dk_at dksX0_line_0 4 rfl rfl)
theorem dX0_line_5 : decode cX0_line 5 = .ok (.invokevirtual 30, 3) := dk_182 0 30 (dk_at dksX0_line_0 5 rfl rfl)
theorem dX0_line_8 : decode cX0_line 8 = .ok (.i2l, 1) := dk_133 (dk_at dksX0_line_0 8 rfl rfl)
theorem dX0_line_9 : decode cX0_line 9 = .ok (.lastore, 1) := dk_80 (dk_at dksX0_line_0 9 rfl rfl)
theorem dX0_line_10 : decode cX0_line 10 = .ok (.goto 11, 3) := dk_167 0 11 (dk_at dksX0_line_0 10 rfl rfl)
theorem dX0_line_13 : decode cX0_line 13 = .ok (.astore 4, 2) := dk_58 4 (dk_at dksX0_line_0 13 rfl rfl)
theorem dX0_line_15 : decode cX0_line 15 = .ok (.iconst 1, 1) := dk_4 (dk_at dksX0_line_0 15 rfl rfl)
theorem dX0_line_16 : decode cX0_line 16 = .ok (.ireturn, 1) := dk_172 (dk_at dksX0_line_0 16 rfl rfl)
theorem dX0_line_17 : decode cX0_line 17 = .ok (.astore 4, 2) := dk_58 4 (dk_at dksX0_line_0 17 rfl rfl)
theorem dX0_line_19 : decode cX0_line 19 = .ok (.iconst 2, 1) := dk_5 (dk_at dksX0_line_0 19 rfl rfl)
theorem dX0_line_20 : decode cX0_line 20 = .ok (.ireturn, 1) := dk_172 (dk_at dksX0_line_0 20 rfl rfl)
theorem dX0_line_21 : decode cX0_line 21 = .ok (.iconst 0, 1) := dk_3 (dk_at dksX0_line_0 21 rfl rfl)
theorem dX0_line_22 : decode cX0_line 22 = .ok (.ireturn, 1) := dk_172 (dk_at dksX0_line_0 22 rfl rfl)
abbrev cX0_copy : ByteArray := method_8_code
def yX0_copy : MethodName := ⟨RX0, "copy", "(LMergeWorkbench;II[J)I"⟩
def dkwX0_copy_0 : List UInt8 := [45, 3, 42, 27, 28, 182, 0, 33, 133, 80, 167, 0, 7, 58, 4, 4, 172, 3, 172]
abbrev dktX0_copy_0 : List UInt8 := dkwX0_copy_0 ++ []
theorem dksX0_copy_0 : cX0_copy.data.toList.drop 0 = dktX0_copy_0 := by decide +kernel
theorem dX0_copy_0 : decode cX0_copy 0 = .ok (.aload_n 3, 1) := dk_45 (dk_at dksX0_copy_0 0 rfl rfl)
theorem dX0_copy_1 : decode cX0_copy 1 = .ok (.iconst 0, 1) := dk_3 (dk_at dksX0_copy_0 1 rfl rfl)
theorem dX0_copy_2 : decode cX0_copy 2 = .ok (.aload_n 0, 1) := dk_42 (dk_at dksX0_copy_0 2 rfl rfl)
theorem dX0_copy_3 : decode cX0_copy 3 = .ok (.iload_n 1, 1) := dk_27 (dk_at dksX0_copy_0 3 rfl rfl)
theorem dX0_copy_4 : decode cX0_copy 4 = .ok (.iload_n 2, 1) := dk_28 (dk_at dksX0_copy_0 4 rfl rfl)
theorem dX0_copy_5 : decode cX0_copy 5 = .ok (.invokevirtual 33, 3) := dk_182 0 33 (dk_at dksX0_copy_0 5 rfl rfl)
theorem dX0_copy_8 : decode cX0_copy 8 = .ok (.i2l, 1) := dk_133 (dk_at dksX0_copy_0 8 rfl rfl)
theorem dX0_copy_9 : decode cX0_copy 9 = .ok (.lastore, 1) := dk_80 (dk_at dksX0_copy_0 9 rfl rfl)
theorem dX0_copy_10 : decode cX0_copy 10 = .ok (.goto 7, 3) := dk_167 0 7 (dk_at dksX0_copy_0 10 rfl rfl)
theorem dX0_copy_13 : decode cX0_copy 13 = .ok (.astore 4, 2) := dk_58 4 (dk_at dksX0_copy_0 13 rfl rfl)
theorem dX0_copy_15 : decode cX0_copy 15 = .ok (.iconst 1, 1) := dk_4 (dk_at dksX0_copy_0 15 rfl rfl)
theorem dX0_copy_16 : decode cX0_copy 16 = .ok (.ireturn, 1) := dk_172 (dk_at dksX0_copy_0 16 rfl rfl)
theorem dX0_copy_17 : decode cX0_copy 17 = .ok (.iconst 0, 1) := dk_3 (dk_at dksX0_copy_0 17 rfl rfl)
theorem dX0_copy_18 : decode cX0_copy 18 = .ok (.ireturn, 1) := dk_172 (dk_at dksX0_copy_0 18 rfl rfl)
abbrev cX0_isSame : ByteArray := method_9_code
def yX0_isSame : MethodName := ⟨RX0, "isSame", "(LMergeWorkbench;II[J)I"⟩
def dkwX0_isSame_1 : List UInt8 := [3, 172]
abbrev dktX0_isSame_1 : List UInt8 := dkwX0_isSame_1 ++ []
def dkwX0_isSame_0 : List UInt8 := [45, 3, 42, 27, 28, 182, 0, 36, 153, 0, 7, 10, 167, 0, 4, 9, 80, 167, 0, 7, 58, 4, 4, 172]
abbrev dktX0_isSame_0 : List UInt8 := dkwX0_isSame_0 ++ dktX0_isSame_1
theorem dksX0_isSame_0 : cX0_isSame.data.toList.drop 0 = dktX0_isSame_0 := by decide +kernel
theorem dksX0_isSame_1 : cX0_isSame.data.toList.drop 24 = dktX0_isSame_1 := dk_seg dksX0_isSame_0 24 rfl rfl
theorem dX0_isSame_0 : decode cX0_isSame 0 = .ok (.aload_n 3, 1) := dk_45 (dk_at dksX0_isSame_0 0 rfl rfl)
theorem dX0_isSame_1 : decode cX0_isSame 1 = .ok (.iconst 0, 1) := dk_3 (dk_at dksX0_isSame_0 1 rfl rfl)
theorem dX0_isSame_2 : decode cX0_isSame 2 = .ok (.aload_n 0, 1) := dk_42 (dk_at dksX0_isSame_0 2 rfl rfl)
theorem dX0_isSame_3 : decode cX0_isSame 3 = .ok (.iload_n 1, 1) := dk_27 (dk_at dksX0_isSame_0 3 rfl rfl)
theorem dX0_isSame_4 : decode cX0_isSame 4 = .ok (.iload_n 2, 1) := dk_28 (dk_at dksX0_isSame_0 4 rfl rfl)
theorem dX0_isSame_5 : decode cX0_isSame 5 = .ok (.invokevirtual 36, 3) := dk_182 0 36 (dk_at dksX0_isSame_0 5 rfl rfl)
theorem dX0_isSame_8 : decode cX0_isSame 8 = .ok (.ifCond .eq 7, 3) := dk_153 0 7 (dk_at dksX0_isSame_0 8 rfl rfl)
theorem dX0_isSame_11 : decode cX0_isSame 11 = .ok (.lconst 1, 1) := dk_10 (dk_at dksX0_isSame_0 11 rfl rfl)
theorem dX0_isSame_12 : decode cX0_isSame 12 = .ok (.goto 4, 3) := dk_167 0 4 (dk_at dksX0_isSame_0 12 rfl rfl)
theorem dX0_isSame_15 : decode cX0_isSame 15 = .ok (.lconst 0, 1) := dk_9 (dk_at dksX0_isSame_0 15 rfl rfl)
theorem dX0_isSame_16 : decode cX0_isSame 16 = .ok (.lastore, 1) := dk_80 (dk_at dksX0_isSame_0 16 rfl rfl)
theorem dX0_isSame_17 : decode cX0_isSame 17 = .ok (.goto 7, 3) := dk_167 0 7 (dk_at dksX0_isSame_0 17 rfl rfl)
theorem dX0_isSame_20 : decode cX0_isSame 20 = .ok (.astore 4, 2) := dk_58 4 (dk_at dksX0_isSame_0 20 rfl rfl)
theorem dX0_isSame_22 : decode cX0_isSame 22 = .ok (.iconst 1, 1) := dk_4 (dk_at dksX0_isSame_0 22 rfl rfl)
theorem dX0_isSame_23 : decode cX0_isSame 23 = .ok (.ireturn, 1) := dk_172 (dk_at dksX0_isSame_0 23 rfl rfl)
theorem dX0_isSame_24 : decode cX0_isSame 24 = .ok (.iconst 0, 1) := dk_3 (dk_at dksX0_isSame_1 0 rfl rfl)
theorem dX0_isSame_25 : decode cX0_isSame 25 = .ok (.ireturn, 1) := dk_172 (dk_at dksX0_isSame_1 1 rfl rfl)
abbrev cX0_distance : ByteArray := method_10_code
def yX0_distance : MethodName := ⟨RX0, "distance", "(LMergeWorkbench;II[J)I"⟩
def dkwX0_distance_0 : List UInt8 := [45, 3, 42, 27, 28, 182, 0, 40, 133, 80, 167, 0, 7, 58, 4, 4, 172, 3, 172]
abbrev dktX0_distance_0 : List UInt8 := dkwX0_distance_0 ++ []
theorem dksX0_distance_0 : cX0_distance.data.toList.drop 0 = dktX0_distance_0 := by decide +kernel
theorem dX0_distance_0 : decode cX0_distance 0 = .ok (.aload_n 3, 1) := dk_45 (dk_at dksX0_distance_0 0 rfl rfl)
theorem dX0_distance_1 : decode cX0_distance 1 = .ok (.iconst 0, 1) := dk_3 (dk_at dksX0_distance_0 1 rfl rfl)
theorem dX0_distance_2 : decode cX0_distance 2 = .ok (.aload_n 0, 1) := dk_42 (dk_at dksX0_distance_0 2 rfl rfl)
theorem dX0_distance_3 : decode cX0_distance 3 = .ok (.iload_n 1, 1) := dk_27 (dk_at dksX0_distance_0 3 rfl rfl)
theorem dX0_distance_4 : decode cX0_distance 4 = .ok (.iload_n 2, 1) := dk_28 (dk_at dksX0_distance_0 4 rfl rfl)
theorem dX0_distance_5 : decode cX0_distance 5 = .ok (.invokevirtual 40, 3) := dk_182 0 40 (dk_at dksX0_distance_0 5 rfl rfl)
theorem dX0_distance_8 : decode cX0_distance 8 = .ok (.i2l, 1) := dk_133 (dk_at dksX0_distance_0 8 rfl rfl)
theorem dX0_distance_9 : decode cX0_distance 9 = .ok (.lastore, 1) := dk_80 (dk_at dksX0_distance_0 9 rfl rfl)
theorem dX0_distance_10 : decode cX0_distance 10 = .ok (.goto 7, 3) := dk_167 0 7 (dk_at dksX0_distance_0 10 rfl rfl)
theorem dX0_distance_13 : decode cX0_distance 13 = .ok (.astore 4, 2) := dk_58 4 (dk_at dksX0_distance_0 13 rfl rfl)
theorem dX0_distance_15 : decode cX0_distance 15 = .ok (.iconst 1, 1) := dk_4 (dk_at dksX0_distance_0 15 rfl rfl)
theorem dX0_distance_16 : decode cX0_distance 16 = .ok (.ireturn, 1) := dk_172 (dk_at dksX0_distance_0 16 rfl rfl)
theorem dX0_distance_17 : decode cX0_distance 17 = .ok (.iconst 0, 1) := dk_3 (dk_at dksX0_distance_0 17 rfl rfl)
theorem dX0_distance_18 : decode cX0_distance 18 = .ok (.ireturn, 1) := dk_172 (dk_at dksX0_distance_0 18 rfl rfl)
abbrev cX0_feed : ByteArray := method_11_code
def yX0_feed : MethodName := ⟨RX0, "feed", "(LMergeWorkbench;C[J)I"⟩
def dkwX0_feed_0 : List UInt8 := [44, 3, 42, 27, 182, 0, 43, 133, 80, 167, 0, 6, 78, 4, 172, 3, 172]
abbrev dktX0_feed_0 : List UInt8 := dkwX0_feed_0 ++ []
theorem dksX0_feed_0 : cX0_feed.data.toList.drop 0 = dktX0_feed_0 := by decide +kernel
theorem dX0_feed_0 : decode cX0_feed 0 = .ok (.aload_n 2, 1) := dk_44 (dk_at dksX0_feed_0 0 rfl rfl)
theorem dX0_feed_1 : decode cX0_feed 1 = .ok (.iconst 0, 1) := dk_3 (dk_at dksX0_feed_0 1 rfl rfl)
theorem dX0_feed_2 : decode cX0_feed 2 = .ok (.aload_n 0, 1) := dk_42 (dk_at dksX0_feed_0 2 rfl rfl)
theorem dX0_feed_3 : decode cX0_feed 3 = .ok (.iload_n 1, 1) := dk_27 (dk_at dksX0_feed_0 3 rfl rfl)
theorem dX0_feed_4 : decode cX0_feed 4 = .ok (.invokevirtual 43, 3) := dk_182 0 43 (dk_at dksX0_feed_0 4 rfl rfl)
theorem dX0_feed_7 : decode cX0_feed 7 = .ok (.i2l, 1) := dk_133 (dk_at dksX0_feed_0 7 rfl rfl)
theorem dX0_feed_8 : decode cX0_feed 8 = .ok (.lastore, 1) := dk_80 (dk_at dksX0_feed_0 8 rfl rfl)
theorem dX0_feed_9 : decode cX0_feed 9 = .ok (.goto 6, 3) := dk_167 0 6 (dk_at dksX0_feed_0 9 rfl rfl)
theorem dX0_feed_12 : decode cX0_feed 12 = .ok (.astore_n 3, 1) := dk_78 (dk_at dksX0_feed_0 12 rfl rfl)
theorem dX0_feed_13 : decode cX0_feed 13 = .ok (.iconst 1, 1) := dk_4 (dk_at dksX0_feed_0 13 rfl rfl)
theorem dX0_feed_14 : decode cX0_feed 14 = .ok (.ireturn, 1) := dk_172 (dk_at dksX0_feed_0 14 rfl rfl)
theorem dX0_feed_15 : decode cX0_feed 15 = .ok (.iconst 0, 1) := dk_3 (dk_at dksX0_feed_0 15 rfl rfl)
theorem dX0_feed_16 : decode cX0_feed 16 = .ok (.ireturn, 1) := dk_172 (dk_at dksX0_feed_0 16 rfl rfl)
abbrev cX0_readDocument : ByteArray := method_12_code
def yX0_readDocument : MethodName := ⟨RX0, "readDocument", "(LMergeWorkbench;I[J)I"⟩
def dkwX0_readDocument_0 : List UInt8 := [44, 3, 42, 27, 182, 0, 47, 133, 80, 167, 0, 9, 78, 4, 172, 78, 5, 172, 3, 172]
abbrev dktX0_readDocument_0 : List UInt8 := dkwX0_readDocument_0 ++ []
theorem dksX0_readDocument_0 : cX0_readDocument.data.toList.drop 0 = dktX0_readDocument_0 := by decide +kernel
theorem dX0_readDocument_0 : decode cX0_readDocument 0 = .ok (.aload_n 2, 1) := dk_44 (dk_at dksX0_readDocument_0 0 rfl rfl)
theorem dX0_readDocument_1 : decode cX0_readDocument 1 = .ok (.iconst 0, 1) := dk_3 (dk_at dksX0_readDocument_0 1 rfl rfl)
theorem dX0_readDocument_2 : decode cX0_readDocument 2 = .ok (.aload_n 0, 1) := dk_42 (dk_at dksX0_readDocument_0 2 rfl rfl)
theorem dX0_readDocument_3 : decode cX0_readDocument 3 = .ok (.iload_n 1, 1) := dk_27 (dk_at dksX0_readDocument_0 3 rfl rfl)
theorem dX0_readDocument_4 : decode cX0_readDocument 4 = .ok (.invokevirtual 47, 3) := dk_182 0 47 (dk_at dksX0_readDocument_0 4 rfl rfl)
theorem dX0_readDocument_7 : decode cX0_readDocument 7 = .ok (.i2l, 1) := dk_133 (dk_at dksX0_readDocument_0 7 rfl rfl)
theorem dX0_readDocument_8 : decode cX0_readDocument 8 = .ok (.lastore, 1) := dk_80 (dk_at dksX0_readDocument_0 8 rfl rfl)
theorem dX0_readDocument_9 : decode cX0_readDocument 9 = .ok (.goto 9, 3) := dk_167 0 9 (dk_at dksX0_readDocument_0 9 rfl rfl)
theorem dX0_readDocument_12 : decode cX0_readDocument 12 = .ok (.astore_n 3, 1) := dk_78 (dk_at dksX0_readDocument_0 12 rfl rfl)
theorem dX0_readDocument_13 : decode cX0_readDocument 13 = .ok (.iconst 1, 1) := dk_4 (dk_at dksX0_readDocument_0 13 rfl rfl)
theorem dX0_readDocument_14 : decode cX0_readDocument 14 = .ok (.ireturn, 1) := dk_172 (dk_at dksX0_readDocument_0 14 rfl rfl)
theorem dX0_readDocument_15 : decode cX0_readDocument 15 = .ok (.astore_n 3, 1) := dk_78 (dk_at dksX0_readDocument_0 15 rfl rfl)
theorem dX0_readDocument_16 : decode cX0_readDocument 16 = .ok (.iconst 2, 1) := dk_5 (dk_at dksX0_readDocument_0 16 rfl rfl)
theorem dX0_readDocument_17 : decode cX0_readDocument 17 = .ok (.ireturn, 1) := dk_172 (dk_at dksX0_readDocument_0 17 rfl rfl)
theorem dX0_readDocument_18 : decode cX0_readDocument 18 = .ok (.iconst 0, 1) := dk_3 (dk_at dksX0_readDocument_0 18 rfl rfl)
theorem dX0_readDocument_19 : decode cX0_readDocument 19 = .ok (.ireturn, 1) := dk_172 (dk_at dksX0_readDocument_0 19 rfl rfl)
abbrev cX0_setMode : ByteArray := method_13_code
def yX0_setMode : MethodName := ⟨RX0, "setMode", "(LMergeWorkbench;I[J)I"⟩
def dkwX0_setMode_0 : List UInt8 := [44, 3, 42, 27, 182, 0, 50, 133, 80, 167, 0, 6, 78, 4, 172, 3, 172]
abbrev dktX0_setMode_0 : List UInt8 := dkwX0_setMode_0 ++ []
theorem dksX0_setMode_0 : cX0_setMode.data.toList.drop 0 = dktX0_setMode_0 := by decide +kernel
theorem dX0_setMode_0 : decode cX0_setMode 0 = .ok (.aload_n 2, 1) := dk_44 (dk_at dksX0_setMode_0 0 rfl rfl)
theorem dX0_setMode_1 : decode cX0_setMode 1 = .ok (.iconst 0, 1) := dk_3 (dk_at dksX0_setMode_0 1 rfl rfl)
theorem dX0_setMode_2 : decode cX0_setMode 2 = .ok (.aload_n 0, 1) := dk_42 (dk_at dksX0_setMode_0 2 rfl rfl)
theorem dX0_setMode_3 : decode cX0_setMode 3 = .ok (.iload_n 1, 1) := dk_27 (dk_at dksX0_setMode_0 3 rfl rfl)
theorem dX0_setMode_4 : decode cX0_setMode 4 = .ok (.invokevirtual 50, 3) := dk_182 0 50 (dk_at dksX0_setMode_0 4 rfl rfl)
theorem dX0_setMode_7 : decode cX0_setMode 7 = .ok (.i2l, 1) := dk_133 (dk_at dksX0_setMode_0 7 rfl rfl)
theorem dX0_setMode_8 : decode cX0_setMode 8 = .ok (.lastore, 1) := dk_80 (dk_at dksX0_setMode_0 8 rfl rfl)
theorem dX0_setMode_9 : decode cX0_setMode 9 = .ok (.goto 6, 3) := dk_167 0 6 (dk_at dksX0_setMode_0 9 rfl rfl)
theorem dX0_setMode_12 : decode cX0_setMode 12 = .ok (.astore_n 3, 1) := dk_78 (dk_at dksX0_setMode_0 12 rfl rfl)
theorem dX0_setMode_13 : decode cX0_setMode 13 = .ok (.iconst 1, 1) := dk_4 (dk_at dksX0_setMode_0 13 rfl rfl)
theorem dX0_setMode_14 : decode cX0_setMode 14 = .ok (.ireturn, 1) := dk_172 (dk_at dksX0_setMode_0 14 rfl rfl)
theorem dX0_setMode_15 : decode cX0_setMode 15 = .ok (.iconst 0, 1) := dk_3 (dk_at dksX0_setMode_0 15 rfl rfl)
theorem dX0_setMode_16 : decode cX0_setMode 16 = .ok (.ireturn, 1) := dk_172 (dk_at dksX0_setMode_0 16 rfl rfl)
abbrev cX0_compare : ByteArray := method_14_code
def yX0_compare : MethodName := ⟨RX0, "compare", "(LMergeWorkbench;II[J)I"⟩
def dkwX0_compare_0 : List UInt8 := [45, 3, 42, 27, 28, 182, 0, 53, 133, 80, 167, 0, 7, 58, 4, 4, 172, 3, 172]
abbrev dktX0_compare_0 : List UInt8 := dkwX0_compare_0 ++ []
theorem dksX0_compare_0 : cX0_compare.data.toList.drop 0 = dktX0_compare_0 := by decide +kernel
theorem dX0_compare_0 : decode cX0_compare 0 = .ok (.aload_n 3, 1) := dk_45 (dk_at dksX0_compare_0 0 rfl rfl)
theorem dX0_compare_1 : decode cX0_compare 1 = .ok (.iconst 0, 1) := dk_3 (dk_at dksX0_compare_0 1 rfl rfl)
theorem dX0_compare_2 : decode cX0_compare 2 = .ok (.aload_n 0, 1) := dk_42 (dk_at dksX0_compare_0 2 rfl rfl)
theorem dX0_compare_3 : decode cX0_compare 3 = .ok (.iload_n 1, 1) := dk_27 (dk_at dksX0_compare_0 3 rfl rfl)
theorem dX0_compare_4 : decode cX0_compare 4 = .ok (.iload_n 2, 1) := dk_28 (dk_at dksX0_compare_0 4 rfl rfl)
theorem dX0_compare_5 : decode cX0_compare 5 = .ok (.invokevirtual 53, 3) := dk_182 0 53 (dk_at dksX0_compare_0 5 rfl rfl)
theorem dX0_compare_8 : decode cX0_compare 8 = .ok (.i2l, 1) := dk_133 (dk_at dksX0_compare_0 8 rfl rfl)
theorem dX0_compare_9 : decode cX0_compare 9 = .ok (.lastore, 1) := dk_80 (dk_at dksX0_compare_0 9 rfl rfl)
theorem dX0_compare_10 : decode cX0_compare 10 = .ok (.goto 7, 3) := dk_167 0 7 (dk_at dksX0_compare_0 10 rfl rfl)
theorem dX0_compare_13 : decode cX0_compare 13 = .ok (.astore 4, 2) := dk_58 4 (dk_at dksX0_compare_0 13 rfl rfl)
theorem dX0_compare_15 : decode cX0_compare 15 = .ok (.iconst 1, 1) := dk_4 (dk_at dksX0_compare_0 15 rfl rfl)
theorem dX0_compare_16 : decode cX0_compare 16 = .ok (.ireturn, 1) := dk_172 (dk_at dksX0_compare_0 16 rfl rfl)
theorem dX0_compare_17 : decode cX0_compare 17 = .ok (.iconst 0, 1) := dk_3 (dk_at dksX0_compare_0 17 rfl rfl)
theorem dX0_compare_18 : decode cX0_compare 18 = .ok (.ireturn, 1) := dk_172 (dk_at dksX0_compare_0 18 rfl rfl)
abbrev cX0_partner : ByteArray := method_15_code
def yX0_partner : MethodName := ⟨RX0, "partner", "(LMergeWorkbench;I[J)I"⟩
def dkwX0_partner_0 : List UInt8 := [44, 3, 42, 27, 182, 0, 56, 133, 80, 167, 0, 9, 78, 4, 172, 78, 5, 172, 3, 172]
abbrev dktX0_partner_0 : List UInt8 := dkwX0_partner_0 ++ []
theorem dksX0_partner_0 : cX0_partner.data.toList.drop 0 = dktX0_partner_0 := by decide +kernel
theorem dX0_partner_0 : decode cX0_partner 0 = .ok (.aload_n 2, 1) := dk_44 (dk_at dksX0_partner_0 0 rfl rfl)
theorem dX0_partner_1 : decode cX0_partner 1 = .ok (.iconst 0, 1) := dk_3 (dk_at dksX0_partner_0 1 rfl rfl)
theorem dX0_partner_2 : decode cX0_partner 2 = .ok (.aload_n 0, 1) := dk_42 (dk_at dksX0_partner_0 2 rfl rfl)
theorem dX0_partner_3 : decode cX0_partner 3 = .ok (.iload_n 1, 1) := dk_27 (dk_at dksX0_partner_0 3 rfl rfl)
theorem dX0_partner_4 : decode cX0_partner 4 = .ok (.invokevirtual 56, 3) := dk_182 0 56 (dk_at dksX0_partner_0 4 rfl rfl)
theorem dX0_partner_7 : decode cX0_partner 7 = .ok (.i2l, 1) := dk_133 (dk_at dksX0_partner_0 7 rfl rfl)
theorem dX0_partner_8 : decode cX0_partner 8 = .ok (.lastore, 1) := dk_80 (dk_at dksX0_partner_0 8 rfl rfl)
theorem dX0_partner_9 : decode cX0_partner 9 = .ok (.goto 9, 3) := dk_167 0 9 (dk_at dksX0_partner_0 9 rfl rfl)
theorem dX0_partner_12 : decode cX0_partner 12 = .ok (.astore_n 3, 1) := dk_78 (dk_at dksX0_partner_0 12 rfl rfl)
theorem dX0_partner_13 : decode cX0_partner 13 = .ok (.iconst 1, 1) := dk_4 (dk_at dksX0_partner_0 13 rfl rfl)
theorem dX0_partner_14 : decode cX0_partner 14 = .ok (.ireturn, 1) := dk_172 (dk_at dksX0_partner_0 14 rfl rfl)
theorem dX0_partner_15 : decode cX0_partner 15 = .ok (.astore_n 3, 1) := dk_78 (dk_at dksX0_partner_0 15 rfl rfl)
theorem dX0_partner_16 : decode cX0_partner 16 = .ok (.iconst 2, 1) := dk_5 (dk_at dksX0_partner_0 16 rfl rfl)
theorem dX0_partner_17 : decode cX0_partner 17 = .ok (.ireturn, 1) := dk_172 (dk_at dksX0_partner_0 17 rfl rfl)
theorem dX0_partner_18 : decode cX0_partner 18 = .ok (.iconst 0, 1) := dk_3 (dk_at dksX0_partner_0 18 rfl rfl)
theorem dX0_partner_19 : decode cX0_partner 19 = .ok (.ireturn, 1) := dk_172 (dk_at dksX0_partner_0 19 rfl rfl)
abbrev cX0_anchors : ByteArray := method_16_code
def yX0_anchors : MethodName := ⟨RX0, "anchors", "(LMergeWorkbench;[J)I"⟩
def dkwX0_anchors_0 : List UInt8 := [43, 3, 42, 182, 0, 59, 133, 80, 167, 0, 6, 77, 4, 172, 3, 172]
abbrev dktX0_anchors_0 : List UInt8 := dkwX0_anchors_0 ++ []
theorem dksX0_anchors_0 : cX0_anchors.data.toList.drop 0 = dktX0_anchors_0 := by decide +kernel
theorem dX0_anchors_0 : decode cX0_anchors 0 = .ok (.aload_n 1, 1) := dk_43 (dk_at dksX0_anchors_0 0 rfl rfl)
theorem dX0_anchors_1 : decode cX0_anchors 1 = .ok (.iconst 0, 1) := dk_3 (dk_at dksX0_anchors_0 1 rfl rfl)
theorem dX0_anchors_2 : decode cX0_anchors 2 = .ok (.aload_n 0, 1) := dk_42 (dk_at dksX0_anchors_0 2 rfl rfl)
theorem dX0_anchors_3 : decode cX0_anchors 3 = .ok (.invokevirtual 59, 3) := dk_182 0 59 (dk_at dksX0_anchors_0 3 rfl rfl)
theorem dX0_anchors_6 : decode cX0_anchors 6 = .ok (.i2l, 1) := dk_133 (dk_at dksX0_anchors_0 6 rfl rfl)
theorem dX0_anchors_7 : decode cX0_anchors 7 = .ok (.lastore, 1) := dk_80 (dk_at dksX0_anchors_0 7 rfl rfl)
theorem dX0_anchors_8 : decode cX0_anchors 8 = .ok (.goto 6, 3) := dk_167 0 6 (dk_at dksX0_anchors_0 8 rfl rfl)
theorem dX0_anchors_11 : decode cX0_anchors 11 = .ok (.astore_n 2, 1) := dk_77 (dk_at dksX0_anchors_0 11 rfl rfl)
theorem dX0_anchors_12 : decode cX0_anchors 12 = .ok (.iconst 1, 1) := dk_4 (dk_at dksX0_anchors_0 12 rfl rfl)
theorem dX0_anchors_13 : decode cX0_anchors 13 = .ok (.ireturn, 1) := dk_172 (dk_at dksX0_anchors_0 13 rfl rfl)
theorem dX0_anchors_14 : decode cX0_anchors 14 = .ok (.iconst 0, 1) := dk_3 (dk_at dksX0_anchors_0 14 rfl rfl)
theorem dX0_anchors_15 : decode cX0_anchors 15 = .ok (.ireturn, 1) := dk_172 (dk_at dksX0_anchors_0 15 rfl rfl)
abbrev cX0_differences : ByteArray := method_17_code
def yX0_differences : MethodName := ⟨RX0, "differences", "(LMergeWorkbench;[J)I"⟩
def dkwX0_differences_0 : List UInt8 := [43, 3, 42, 182, 0, 63, 133, 80, 167, 0, 6, 77, 4, 172, 3, 172]
abbrev dktX0_differences_0 : List UInt8 := dkwX0_differences_0 ++ []
theorem dksX0_differences_0 : cX0_differences.data.toList.drop 0 = dktX0_differences_0 := by decide +kernel
theorem dX0_differences_0 : decode cX0_differences 0 = .ok (.aload_n 1, 1) := dk_43 (dk_at dksX0_differences_0 0 rfl rfl)
theorem dX0_differences_1 : decode cX0_differences 1 = .ok (.iconst 0, 1) := dk_3 (dk_at dksX0_differences_0 1 rfl rfl)
theorem dX0_differences_2 : decode cX0_differences 2 = .ok (.aload_n 0, 1) := dk_42 (dk_at dksX0_differences_0 2 rfl rfl)
theorem dX0_differences_3 : decode cX0_differences 3 = .ok (.invokevirtual 63, 3) := dk_182 0 63 (dk_at dksX0_differences_0 3 rfl rfl)
theorem dX0_differences_6 : decode cX0_differences 6 = .ok (.i2l, 1) := dk_133 (dk_at dksX0_differences_0 6 rfl rfl)
theorem dX0_differences_7 : decode cX0_differences 7 = .ok (.lastore, 1) := dk_80 (dk_at dksX0_differences_0 7 rfl rfl)
theorem dX0_differences_8 : decode cX0_differences 8 = .ok (.goto 6, 3) := dk_167 0 6 (dk_at dksX0_differences_0 8 rfl rfl)
theorem dX0_differences_11 : decode cX0_differences 11 = .ok (.astore_n 2, 1) := dk_77 (dk_at dksX0_differences_0 11 rfl rfl)
theorem dX0_differences_12 : decode cX0_differences 12 = .ok (.iconst 1, 1) := dk_4 (dk_at dksX0_differences_0 12 rfl rfl)
theorem dX0_differences_13 : decode cX0_differences 13 = .ok (.ireturn, 1) := dk_172 (dk_at dksX0_differences_0 13 rfl rfl)
theorem dX0_differences_14 : decode cX0_differences 14 = .ok (.iconst 0, 1) := dk_3 (dk_at dksX0_differences_0 14 rfl rfl)
theorem dX0_differences_15 : decode cX0_differences 15 = .ok (.ireturn, 1) := dk_172 (dk_at dksX0_differences_0 15 rfl rfl)
abbrev cX0_difference : ByteArray := method_18_code
def yX0_difference : MethodName := ⟨RX0, "difference", "(LMergeWorkbench;II[J)I"⟩
def dkwX0_difference_1 : List UInt8 := [172, 3, 172]
abbrev dktX0_difference_1 : List UInt8 := dkwX0_difference_1 ++ []
def dkwX0_difference_0 : List UInt8 := [45, 3, 42, 27, 28, 182, 0, 66, 133, 80, 167, 0, 15, 58, 4, 4, 172, 58, 4, 5, 172, 58, 4, 6]
abbrev dktX0_difference_0 : List UInt8 := dkwX0_difference_0 ++ dktX0_difference_1
theorem dksX0_difference_0 : cX0_difference.data.toList.drop 0 = dktX0_difference_0 := by decide +kernel
theorem dksX0_difference_1 : cX0_difference.data.toList.drop 24 = dktX0_difference_1 := dk_seg dksX0_difference_0 24 rfl rfl
theorem dX0_difference_0 : decode cX0_difference 0 = .ok (.aload_n 3, 1) := dk_45 (dk_at dksX0_difference_0 0 rfl rfl)
theorem dX0_difference_1 : decode cX0_difference 1 = .ok (.iconst 0, 1) := dk_3 (dk_at dksX0_difference_0 1 rfl rfl)
theorem dX0_difference_2 : decode cX0_difference 2 = .ok (.aload_n 0, 1) := dk_42 (dk_at dksX0_difference_0 2 rfl rfl)
theorem dX0_difference_3 : decode cX0_difference 3 = .ok (.iload_n 1, 1) := dk_27 (dk_at dksX0_difference_0 3 rfl rfl)
theorem dX0_difference_4 : decode cX0_difference 4 = .ok (.iload_n 2, 1) := dk_28 (dk_at dksX0_difference_0 4 rfl rfl)
theorem dX0_difference_5 : decode cX0_difference 5 = .ok (.invokevirtual 66, 3) := dk_182 0 66 (dk_at dksX0_difference_0 5 rfl rfl)
theorem dX0_difference_8 : decode cX0_difference 8 = .ok (.i2l, 1) := dk_133 (dk_at dksX0_difference_0 8 rfl rfl)
theorem dX0_difference_9 : decode cX0_difference 9 = .ok (.lastore, 1) := dk_80 (dk_at dksX0_difference_0 9 rfl rfl)
theorem dX0_difference_10 : decode cX0_difference 10 = .ok (.goto 15, 3) := dk_167 0 15 (dk_at dksX0_difference_0 10 rfl rfl)
theorem dX0_difference_13 : decode cX0_difference 13 = .ok (.astore 4, 2) := dk_58 4 (dk_at dksX0_difference_0 13 rfl rfl)
theorem dX0_difference_15 : decode cX0_difference 15 = .ok (.iconst 1, 1) := dk_4 (dk_at dksX0_difference_0 15 rfl rfl)
theorem dX0_difference_16 : decode cX0_difference 16 = .ok (.ireturn, 1) := dk_172 (dk_at dksX0_difference_0 16 rfl rfl)
theorem dX0_difference_17 : decode cX0_difference 17 = .ok (.astore 4, 2) := dk_58 4 (dk_at dksX0_difference_0 17 rfl rfl)
theorem dX0_difference_19 : decode cX0_difference 19 = .ok (.iconst 2, 1) := dk_5 (dk_at dksX0_difference_0 19 rfl rfl)
theorem dX0_difference_20 : decode cX0_difference 20 = .ok (.ireturn, 1) := dk_172 (dk_at dksX0_difference_0 20 rfl rfl)
theorem dX0_difference_21 : decode cX0_difference 21 = .ok (.astore 4, 2) := dk_58 4 (dk_at dksX0_difference_0 21 rfl rfl)
theorem dX0_difference_23 : decode cX0_difference 23 = .ok (.iconst 3, 1) := dk_6 (dk_at dksX0_difference_0 23 rfl rfl)
theorem dX0_difference_24 : decode cX0_difference 24 = .ok (.ireturn, 1) := dk_172 (dk_at dksX0_difference_1 0 rfl rfl)
theorem dX0_difference_25 : decode cX0_difference 25 = .ok (.iconst 0, 1) := dk_3 (dk_at dksX0_difference_1 1 rfl rfl)
theorem dX0_difference_26 : decode cX0_difference 26 = .ok (.ireturn, 1) := dk_172 (dk_at dksX0_difference_1 2 rfl rfl)
abbrev cX0_step : ByteArray := method_19_code
def yX0_step : MethodName := ⟨RX0, "step", "(LMergeWorkbench;I[J)I"⟩
def dkwX0_step_0 : List UInt8 := [44, 3, 42, 27, 182, 0, 69, 133, 80, 167, 0, 9, 78, 4, 172, 78, 5, 172, 3, 172]
abbrev dktX0_step_0 : List UInt8 := dkwX0_step_0 ++ []
theorem dksX0_step_0 : cX0_step.data.toList.drop 0 = dktX0_step_0 := by decide +kernel
theorem dX0_step_0 : decode cX0_step 0 = .ok (.aload_n 2, 1) := dk_44 (dk_at dksX0_step_0 0 rfl rfl)
theorem dX0_step_1 : decode cX0_step 1 = .ok (.iconst 0, 1) := dk_3 (dk_at dksX0_step_0 1 rfl rfl)
theorem dX0_step_2 : decode cX0_step 2 = .ok (.aload_n 0, 1) := dk_42 (dk_at dksX0_step_0 2 rfl rfl)
theorem dX0_step_3 : decode cX0_step 3 = .ok (.iload_n 1, 1) := dk_27 (dk_at dksX0_step_0 3 rfl rfl)
theorem dX0_step_4 : decode cX0_step 4 = .ok (.invokevirtual 69, 3) := dk_182 0 69 (dk_at dksX0_step_0 4 rfl rfl)
theorem dX0_step_7 : decode cX0_step 7 = .ok (.i2l, 1) := dk_133 (dk_at dksX0_step_0 7 rfl rfl)
theorem dX0_step_8 : decode cX0_step 8 = .ok (.lastore, 1) := dk_80 (dk_at dksX0_step_0 8 rfl rfl)
theorem dX0_step_9 : decode cX0_step 9 = .ok (.goto 9, 3) := dk_167 0 9 (dk_at dksX0_step_0 9 rfl rfl)
theorem dX0_step_12 : decode cX0_step 12 = .ok (.astore_n 3, 1) := dk_78 (dk_at dksX0_step_0 12 rfl rfl)
theorem dX0_step_13 : decode cX0_step 13 = .ok (.iconst 1, 1) := dk_4 (dk_at dksX0_step_0 13 rfl rfl)
theorem dX0_step_14 : decode cX0_step 14 = .ok (.ireturn, 1) := dk_172 (dk_at dksX0_step_0 14 rfl rfl)
theorem dX0_step_15 : decode cX0_step 15 = .ok (.astore_n 3, 1) := dk_78 (dk_at dksX0_step_0 15 rfl rfl)
theorem dX0_step_16 : decode cX0_step 16 = .ok (.iconst 2, 1) := dk_5 (dk_at dksX0_step_0 16 rfl rfl)
theorem dX0_step_17 : decode cX0_step 17 = .ok (.ireturn, 1) := dk_172 (dk_at dksX0_step_0 17 rfl rfl)
theorem dX0_step_18 : decode cX0_step 18 = .ok (.iconst 0, 1) := dk_3 (dk_at dksX0_step_0 18 rfl rfl)
theorem dX0_step_19 : decode cX0_step 19 = .ok (.ireturn, 1) := dk_172 (dk_at dksX0_step_0 19 rfl rfl)
abbrev cX0_similarity : ByteArray := method_20_code
def yX0_similarity : MethodName := ⟨RX0, "similarity", "(LMergeWorkbench;[D)I"⟩
def dkwX0_similarity_0 : List UInt8 := [43, 3, 42, 182, 0, 74, 82, 167, 0, 9, 77, 4, 172, 77, 5, 172, 3, 172]
abbrev dktX0_similarity_0 : List UInt8 := dkwX0_similarity_0 ++ []
theorem dksX0_similarity_0 : cX0_similarity.data.toList.drop 0 = dktX0_similarity_0 := by decide +kernel
theorem dX0_similarity_0 : decode cX0_similarity 0 = .ok (.aload_n 1, 1) := dk_43 (dk_at dksX0_similarity_0 0 rfl rfl)
theorem dX0_similarity_1 : decode cX0_similarity 1 = .ok (.iconst 0, 1) := dk_3 (dk_at dksX0_similarity_0 1 rfl rfl)
theorem dX0_similarity_2 : decode cX0_similarity 2 = .ok (.aload_n 0, 1) := dk_42 (dk_at dksX0_similarity_0 2 rfl rfl)
theorem dX0_similarity_3 : decode cX0_similarity 3 = .ok (.invokevirtual 74, 3) := dk_182 0 74 (dk_at dksX0_similarity_0 3 rfl rfl)
theorem dX0_similarity_6 : decode cX0_similarity 6 = .ok (.dastore, 1) := dk_82 (dk_at dksX0_similarity_0 6 rfl rfl)
theorem dX0_similarity_7 : decode cX0_similarity 7 = .ok (.goto 9, 3) := dk_167 0 9 (dk_at dksX0_similarity_0 7 rfl rfl)
theorem dX0_similarity_10 : decode cX0_similarity 10 = .ok (.astore_n 2, 1) := dk_77 (dk_at dksX0_similarity_0 10 rfl rfl)
theorem dX0_similarity_11 : decode cX0_similarity 11 = .ok (.iconst 1, 1) := dk_4 (dk_at dksX0_similarity_0 11 rfl rfl)
theorem dX0_similarity_12 : decode cX0_similarity 12 = .ok (.ireturn, 1) := dk_172 (dk_at dksX0_similarity_0 12 rfl rfl)
theorem dX0_similarity_13 : decode cX0_similarity 13 = .ok (.astore_n 2, 1) := dk_77 (dk_at dksX0_similarity_0 13 rfl rfl)
theorem dX0_similarity_14 : decode cX0_similarity 14 = .ok (.iconst 2, 1) := dk_5 (dk_at dksX0_similarity_0 14 rfl rfl)
theorem dX0_similarity_15 : decode cX0_similarity 15 = .ok (.ireturn, 1) := dk_172 (dk_at dksX0_similarity_0 15 rfl rfl)
theorem dX0_similarity_16 : decode cX0_similarity 16 = .ok (.iconst 0, 1) := dk_3 (dk_at dksX0_similarity_0 16 rfl rfl)
theorem dX0_similarity_17 : decode cX0_similarity 17 = .ok (.ireturn, 1) := dk_172 (dk_at dksX0_similarity_0 17 rfl rfl)
abbrev cX0_findMoves : ByteArray := method_21_code
def yX0_findMoves : MethodName := ⟨RX0, "findMoves", "(LMergeWorkbench;I[J)I"⟩
def dkwX0_findMoves_0 : List UInt8 := [44, 3, 42, 27, 182, 0, 80, 133, 80, 167, 0, 9, 78, 4, 172, 78, 5, 172, 3, 172]
abbrev dktX0_findMoves_0 : List UInt8 := dkwX0_findMoves_0 ++ []
theorem dksX0_findMoves_0 : cX0_findMoves.data.toList.drop 0 = dktX0_findMoves_0 := by decide +kernel
theorem dX0_findMoves_0 : decode cX0_findMoves 0 = .ok (.aload_n 2, 1) := dk_44 (dk_at dksX0_findMoves_0 0 rfl rfl)
theorem dX0_findMoves_1 : decode cX0_findMoves 1 = .ok (.iconst 0, 1) := dk_3 (dk_at dksX0_findMoves_0 1 rfl rfl)
theorem dX0_findMoves_2 : decode cX0_findMoves 2 = .ok (.aload_n 0, 1) := dk_42 (dk_at dksX0_findMoves_0 2 rfl rfl)
theorem dX0_findMoves_3 : decode cX0_findMoves 3 = .ok (.iload_n 1, 1) := dk_27 (dk_at dksX0_findMoves_0 3 rfl rfl)
theorem dX0_findMoves_4 : decode cX0_findMoves 4 = .ok (.invokevirtual 80, 3) := dk_182 0 80 (dk_at dksX0_findMoves_0 4 rfl rfl)
theorem dX0_findMoves_7 : decode cX0_findMoves 7 = .ok (.i2l, 1) := dk_133 (dk_at dksX0_findMoves_0 7 rfl rfl)
theorem dX0_findMoves_8 : decode cX0_findMoves 8 = .ok (.lastore, 1) := dk_80 (dk_at dksX0_findMoves_0 8 rfl rfl)
theorem dX0_findMoves_9 : decode cX0_findMoves 9 = .ok (.goto 9, 3) := dk_167 0 9 (dk_at dksX0_findMoves_0 9 rfl rfl)
theorem dX0_findMoves_12 : decode cX0_findMoves 12 = .ok (.astore_n 3, 1) := dk_78 (dk_at dksX0_findMoves_0 12 rfl rfl)
theorem dX0_findMoves_13 : decode cX0_findMoves 13 = .ok (.iconst 1, 1) := dk_4 (dk_at dksX0_findMoves_0 13 rfl rfl)
theorem dX0_findMoves_14 : decode cX0_findMoves 14 = .ok (.ireturn, 1) := dk_172 (dk_at dksX0_findMoves_0 14 rfl rfl)
theorem dX0_findMoves_15 : decode cX0_findMoves 15 = .ok (.astore_n 3, 1) := dk_78 (dk_at dksX0_findMoves_0 15 rfl rfl)
theorem dX0_findMoves_16 : decode cX0_findMoves 16 = .ok (.iconst 2, 1) := dk_5 (dk_at dksX0_findMoves_0 16 rfl rfl)
theorem dX0_findMoves_17 : decode cX0_findMoves 17 = .ok (.ireturn, 1) := dk_172 (dk_at dksX0_findMoves_0 17 rfl rfl)
theorem dX0_findMoves_18 : decode cX0_findMoves 18 = .ok (.iconst 0, 1) := dk_3 (dk_at dksX0_findMoves_0 18 rfl rfl)
theorem dX0_findMoves_19 : decode cX0_findMoves 19 = .ok (.ireturn, 1) := dk_172 (dk_at dksX0_findMoves_0 19 rfl rfl)
abbrev cX0_move : ByteArray := method_22_code
def yX0_move : MethodName := ⟨RX0, "move", "(LMergeWorkbench;II[J)I"⟩
def dkwX0_move_0 : List UInt8 := [45, 3, 42, 27, 28, 182, 0, 83, 133, 80, 167, 0, 11, 58, 4, 4, 172, 58, 4, 5, 172, 3, 172]
abbrev dktX0_move_0 : List UInt8 := dkwX0_move_0 ++ []
theorem dksX0_move_0 : cX0_move.data.toList.drop 0 = dktX0_move_0 := by decide +kernel
theorem dX0_move_0 : decode cX0_move 0 = .ok (.aload_n 3, 1) := dk_45 (dk_at dksX0_move_0 0 rfl rfl)
theorem dX0_move_1 : decode cX0_move 1 = .ok (.iconst 0, 1) := dk_3 (dk_at dksX0_move_0 1 rfl rfl)
theorem dX0_move_2 : decode cX0_move 2 = .ok (.aload_n 0, 1) := dk_42 (dk_at dksX0_move_0 2 rfl rfl)
theorem dX0_move_3 : decode cX0_move 3 = .ok (.iload_n 1, 1) := dk_27 (dk_at dksX0_move_0 3 rfl rfl)
theorem dX0_move_4 : decode cX0_move 4 = .ok (.iload_n 2, 1) := dk_28 (dk_at dksX0_move_0 4 rfl rfl)
theorem dX0_move_5 : decode cX0_move 5 = .ok (.invokevirtual 83, 3) := dk_182 0 83 (dk_at dksX0_move_0 5 rfl rfl)
theorem dX0_move_8 : decode cX0_move 8 = .ok (.i2l, 1) := dk_133 (dk_at dksX0_move_0 8 rfl rfl)
theorem dX0_move_9 : decode cX0_move 9 = .ok (.lastore, 1) := dk_80 (dk_at dksX0_move_0 9 rfl rfl)
theorem dX0_move_10 : decode cX0_move 10 = .ok (.goto 11, 3) := dk_167 0 11 (dk_at dksX0_move_0 10 rfl rfl)
theorem dX0_move_13 : decode cX0_move 13 = .ok (.astore 4, 2) := dk_58 4 (dk_at dksX0_move_0 13 rfl rfl)
theorem dX0_move_15 : decode cX0_move 15 = .ok (.iconst 1, 1) := dk_4 (dk_at dksX0_move_0 15 rfl rfl)
theorem dX0_move_16 : decode cX0_move 16 = .ok (.ireturn, 1) := dk_172 (dk_at dksX0_move_0 16 rfl rfl)
theorem dX0_move_17 : decode cX0_move 17 = .ok (.astore 4, 2) := dk_58 4 (dk_at dksX0_move_0 17 rfl rfl)
theorem dX0_move_19 : decode cX0_move 19 = .ok (.iconst 2, 1) := dk_5 (dk_at dksX0_move_0 19 rfl rfl)
theorem dX0_move_20 : decode cX0_move 20 = .ok (.ireturn, 1) := dk_172 (dk_at dksX0_move_0 20 rfl rfl)
theorem dX0_move_21 : decode cX0_move 21 = .ok (.iconst 0, 1) := dk_3 (dk_at dksX0_move_0 21 rfl rfl)
theorem dX0_move_22 : decode cX0_move 22 = .ok (.ireturn, 1) := dk_172 (dk_at dksX0_move_0 22 rfl rfl)
abbrev cX0_merge : ByteArray := method_23_code
def yX0_merge : MethodName := ⟨RX0, "merge", "(LMergeWorkbench;III[J)I"⟩
def dkwX0_merge_0 : List UInt8 := [25, 4, 3, 42, 27, 28, 29, 182, 0, 86, 133, 80, 167, 0, 7, 58, 5, 4, 172, 3, 172]
abbrev dktX0_merge_0 : List UInt8 := dkwX0_merge_0 ++ []
theorem dksX0_merge_0 : cX0_merge.data.toList.drop 0 = dktX0_merge_0 := by decide +kernel
theorem dX0_merge_0 : decode cX0_merge 0 = .ok (.aload 4, 2) := dk_25 4 (dk_at dksX0_merge_0 0 rfl rfl)
theorem dX0_merge_2 : decode cX0_merge 2 = .ok (.iconst 0, 1) := dk_3 (dk_at dksX0_merge_0 2 rfl rfl)
theorem dX0_merge_3 : decode cX0_merge 3 = .ok (.aload_n 0, 1) := dk_42 (dk_at dksX0_merge_0 3 rfl rfl)
theorem dX0_merge_4 : decode cX0_merge 4 = .ok (.iload_n 1, 1) := dk_27 (dk_at dksX0_merge_0 4 rfl rfl)
theorem dX0_merge_5 : decode cX0_merge 5 = .ok (.iload_n 2, 1) := dk_28 (dk_at dksX0_merge_0 5 rfl rfl)
theorem dX0_merge_6 : decode cX0_merge 6 = .ok (.iload_n 3, 1) := dk_29 (dk_at dksX0_merge_0 6 rfl rfl)
theorem dX0_merge_7 : decode cX0_merge 7 = .ok (.invokevirtual 86, 3) := dk_182 0 86 (dk_at dksX0_merge_0 7 rfl rfl)
theorem dX0_merge_10 : decode cX0_merge 10 = .ok (.i2l, 1) := dk_133 (dk_at dksX0_merge_0 10 rfl rfl)
theorem dX0_merge_11 : decode cX0_merge 11 = .ok (.lastore, 1) := dk_80 (dk_at dksX0_merge_0 11 rfl rfl)
theorem dX0_merge_12 : decode cX0_merge 12 = .ok (.goto 7, 3) := dk_167 0 7 (dk_at dksX0_merge_0 12 rfl rfl)
theorem dX0_merge_15 : decode cX0_merge 15 = .ok (.astore 5, 2) := dk_58 5 (dk_at dksX0_merge_0 15 rfl rfl)
theorem dX0_merge_17 : decode cX0_merge 17 = .ok (.iconst 1, 1) := dk_4 (dk_at dksX0_merge_0 17 rfl rfl)
theorem dX0_merge_18 : decode cX0_merge 18 = .ok (.ireturn, 1) := dk_172 (dk_at dksX0_merge_0 18 rfl rfl)
theorem dX0_merge_19 : decode cX0_merge 19 = .ok (.iconst 0, 1) := dk_3 (dk_at dksX0_merge_0 19 rfl rfl)
theorem dX0_merge_20 : decode cX0_merge 20 = .ok (.ireturn, 1) := dk_172 (dk_at dksX0_merge_0 20 rfl rfl)
abbrev cX0_chunks : ByteArray := method_24_code
def yX0_chunks : MethodName := ⟨RX0, "chunks", "(LMergeWorkbench;[J)I"⟩
def dkwX0_chunks_0 : List UInt8 := [43, 3, 42, 182, 0, 89, 133, 80, 167, 0, 6, 77, 4, 172, 3, 172]
abbrev dktX0_chunks_0 : List UInt8 := dkwX0_chunks_0 ++ []
theorem dksX0_chunks_0 : cX0_chunks.data.toList.drop 0 = dktX0_chunks_0 := by decide +kernel
theorem dX0_chunks_0 : decode cX0_chunks 0 = .ok (.aload_n 1, 1) := dk_43 (dk_at dksX0_chunks_0 0 rfl rfl)
theorem dX0_chunks_1 : decode cX0_chunks 1 = .ok (.iconst 0, 1) := dk_3 (dk_at dksX0_chunks_0 1 rfl rfl)
theorem dX0_chunks_2 : decode cX0_chunks 2 = .ok (.aload_n 0, 1) := dk_42 (dk_at dksX0_chunks_0 2 rfl rfl)
theorem dX0_chunks_3 : decode cX0_chunks 3 = .ok (.invokevirtual 89, 3) := dk_182 0 89 (dk_at dksX0_chunks_0 3 rfl rfl)
theorem dX0_chunks_6 : decode cX0_chunks 6 = .ok (.i2l, 1) := dk_133 (dk_at dksX0_chunks_0 6 rfl rfl)
theorem dX0_chunks_7 : decode cX0_chunks 7 = .ok (.lastore, 1) := dk_80 (dk_at dksX0_chunks_0 7 rfl rfl)
theorem dX0_chunks_8 : decode cX0_chunks 8 = .ok (.goto 6, 3) := dk_167 0 6 (dk_at dksX0_chunks_0 8 rfl rfl)
theorem dX0_chunks_11 : decode cX0_chunks 11 = .ok (.astore_n 2, 1) := dk_77 (dk_at dksX0_chunks_0 11 rfl rfl)
theorem dX0_chunks_12 : decode cX0_chunks 12 = .ok (.iconst 1, 1) := dk_4 (dk_at dksX0_chunks_0 12 rfl rfl)
theorem dX0_chunks_13 : decode cX0_chunks 13 = .ok (.ireturn, 1) := dk_172 (dk_at dksX0_chunks_0 13 rfl rfl)
theorem dX0_chunks_14 : decode cX0_chunks 14 = .ok (.iconst 0, 1) := dk_3 (dk_at dksX0_chunks_0 14 rfl rfl)
theorem dX0_chunks_15 : decode cX0_chunks 15 = .ok (.ireturn, 1) := dk_172 (dk_at dksX0_chunks_0 15 rfl rfl)
abbrev cX0_chunk : ByteArray := method_25_code
def yX0_chunk : MethodName := ⟨RX0, "chunk", "(LMergeWorkbench;II[J)I"⟩
def dkwX0_chunk_1 : List UInt8 := [172, 3, 172]
abbrev dktX0_chunk_1 : List UInt8 := dkwX0_chunk_1 ++ []
def dkwX0_chunk_0 : List UInt8 := [45, 3, 42, 27, 28, 182, 0, 92, 133, 80, 167, 0, 15, 58, 4, 4, 172, 58, 4, 5, 172, 58, 4, 6]
abbrev dktX0_chunk_0 : List UInt8 := dkwX0_chunk_0 ++ dktX0_chunk_1
theorem dksX0_chunk_0 : cX0_chunk.data.toList.drop 0 = dktX0_chunk_0 := by decide +kernel
theorem dksX0_chunk_1 : cX0_chunk.data.toList.drop 24 = dktX0_chunk_1 := dk_seg dksX0_chunk_0 24 rfl rfl
theorem dX0_chunk_0 : decode cX0_chunk 0 = .ok (.aload_n 3, 1) := dk_45 (dk_at dksX0_chunk_0 0 rfl rfl)
theorem dX0_chunk_1 : decode cX0_chunk 1 = .ok (.iconst 0, 1) := dk_3 (dk_at dksX0_chunk_0 1 rfl rfl)
theorem dX0_chunk_2 : decode cX0_chunk 2 = .ok (.aload_n 0, 1) := dk_42 (dk_at dksX0_chunk_0 2 rfl rfl)
theorem dX0_chunk_3 : decode cX0_chunk 3 = .ok (.iload_n 1, 1) := dk_27 (dk_at dksX0_chunk_0 3 rfl rfl)
theorem dX0_chunk_4 : decode cX0_chunk 4 = .ok (.iload_n 2, 1) := dk_28 (dk_at dksX0_chunk_0 4 rfl rfl)
theorem dX0_chunk_5 : decode cX0_chunk 5 = .ok (.invokevirtual 92, 3) := dk_182 0 92 (dk_at dksX0_chunk_0 5 rfl rfl)
theorem dX0_chunk_8 : decode cX0_chunk 8 = .ok (.i2l, 1) := dk_133 (dk_at dksX0_chunk_0 8 rfl rfl)
theorem dX0_chunk_9 : decode cX0_chunk 9 = .ok (.lastore, 1) := dk_80 (dk_at dksX0_chunk_0 9 rfl rfl)
theorem dX0_chunk_10 : decode cX0_chunk 10 = .ok (.goto 15, 3) := dk_167 0 15 (dk_at dksX0_chunk_0 10 rfl rfl)
theorem dX0_chunk_13 : decode cX0_chunk 13 = .ok (.astore 4, 2) := dk_58 4 (dk_at dksX0_chunk_0 13 rfl rfl)
theorem dX0_chunk_15 : decode cX0_chunk 15 = .ok (.iconst 1, 1) := dk_4 (dk_at dksX0_chunk_0 15 rfl rfl)
theorem dX0_chunk_16 : decode cX0_chunk 16 = .ok (.ireturn, 1) := dk_172 (dk_at dksX0_chunk_0 16 rfl rfl)
theorem dX0_chunk_17 : decode cX0_chunk 17 = .ok (.astore 4, 2) := dk_58 4 (dk_at dksX0_chunk_0 17 rfl rfl)
theorem dX0_chunk_19 : decode cX0_chunk 19 = .ok (.iconst 2, 1) := dk_5 (dk_at dksX0_chunk_0 19 rfl rfl)
theorem dX0_chunk_20 : decode cX0_chunk 20 = .ok (.ireturn, 1) := dk_172 (dk_at dksX0_chunk_0 20 rfl rfl)
theorem dX0_chunk_21 : decode cX0_chunk 21 = .ok (.astore 4, 2) := dk_58 4 (dk_at dksX0_chunk_0 21 rfl rfl)
theorem dX0_chunk_23 : decode cX0_chunk 23 = .ok (.iconst 3, 1) := dk_6 (dk_at dksX0_chunk_0 23 rfl rfl)
theorem dX0_chunk_24 : decode cX0_chunk 24 = .ok (.ireturn, 1) := dk_172 (dk_at dksX0_chunk_1 0 rfl rfl)
theorem dX0_chunk_25 : decode cX0_chunk 25 = .ok (.iconst 0, 1) := dk_3 (dk_at dksX0_chunk_1 1 rfl rfl)
theorem dX0_chunk_26 : decode cX0_chunk 26 = .ok (.ireturn, 1) := dk_172 (dk_at dksX0_chunk_1 2 rfl rfl)
abbrev cX0_resolve : ByteArray := method_26_code
def yX0_resolve : MethodName := ⟨RX0, "resolve", "(LMergeWorkbench;II[J)I"⟩
def dkwX0_resolve_1 : List UInt8 := [172, 3, 172]
abbrev dktX0_resolve_1 : List UInt8 := dkwX0_resolve_1 ++ []
def dkwX0_resolve_0 : List UInt8 := [45, 3, 42, 27, 28, 182, 0, 95, 133, 80, 167, 0, 15, 58, 4, 4, 172, 58, 4, 5, 172, 58, 4, 6]
abbrev dktX0_resolve_0 : List UInt8 := dkwX0_resolve_0 ++ dktX0_resolve_1
theorem dksX0_resolve_0 : cX0_resolve.data.toList.drop 0 = dktX0_resolve_0 := by decide +kernel
theorem dksX0_resolve_1 : cX0_resolve.data.toList.drop 24 = dktX0_resolve_1 := dk_seg dksX0_resolve_0 24 rfl rfl
theorem dX0_resolve_0 : decode cX0_resolve 0 = .ok (.aload_n 3, 1) := dk_45 (dk_at dksX0_resolve_0 0 rfl rfl)
theorem dX0_resolve_1 : decode cX0_resolve 1 = .ok (.iconst 0, 1) := dk_3 (dk_at dksX0_resolve_0 1 rfl rfl)
theorem dX0_resolve_2 : decode cX0_resolve 2 = .ok (.aload_n 0, 1) := dk_42 (dk_at dksX0_resolve_0 2 rfl rfl)
theorem dX0_resolve_3 : decode cX0_resolve 3 = .ok (.iload_n 1, 1) := dk_27 (dk_at dksX0_resolve_0 3 rfl rfl)
theorem dX0_resolve_4 : decode cX0_resolve 4 = .ok (.iload_n 2, 1) := dk_28 (dk_at dksX0_resolve_0 4 rfl rfl)
theorem dX0_resolve_5 : decode cX0_resolve 5 = .ok (.invokevirtual 95, 3) := dk_182 0 95 (dk_at dksX0_resolve_0 5 rfl rfl)
theorem dX0_resolve_8 : decode cX0_resolve 8 = .ok (.i2l, 1) := dk_133 (dk_at dksX0_resolve_0 8 rfl rfl)
theorem dX0_resolve_9 : decode cX0_resolve 9 = .ok (.lastore, 1) := dk_80 (dk_at dksX0_resolve_0 9 rfl rfl)
theorem dX0_resolve_10 : decode cX0_resolve 10 = .ok (.goto 15, 3) := dk_167 0 15 (dk_at dksX0_resolve_0 10 rfl rfl)
theorem dX0_resolve_13 : decode cX0_resolve 13 = .ok (.astore 4, 2) := dk_58 4 (dk_at dksX0_resolve_0 13 rfl rfl)
theorem dX0_resolve_15 : decode cX0_resolve 15 = .ok (.iconst 1, 1) := dk_4 (dk_at dksX0_resolve_0 15 rfl rfl)
theorem dX0_resolve_16 : decode cX0_resolve 16 = .ok (.ireturn, 1) := dk_172 (dk_at dksX0_resolve_0 16 rfl rfl)
theorem dX0_resolve_17 : decode cX0_resolve 17 = .ok (.astore 4, 2) := dk_58 4 (dk_at dksX0_resolve_0 17 rfl rfl)
theorem dX0_resolve_19 : decode cX0_resolve 19 = .ok (.iconst 2, 1) := dk_5 (dk_at dksX0_resolve_0 19 rfl rfl)
theorem dX0_resolve_20 : decode cX0_resolve 20 = .ok (.ireturn, 1) := dk_172 (dk_at dksX0_resolve_0 20 rfl rfl)
theorem dX0_resolve_21 : decode cX0_resolve 21 = .ok (.astore 4, 2) := dk_58 4 (dk_at dksX0_resolve_0 21 rfl rfl)
theorem dX0_resolve_23 : decode cX0_resolve 23 = .ok (.iconst 3, 1) := dk_6 (dk_at dksX0_resolve_0 23 rfl rfl)
theorem dX0_resolve_24 : decode cX0_resolve 24 = .ok (.ireturn, 1) := dk_172 (dk_at dksX0_resolve_1 0 rfl rfl)
theorem dX0_resolve_25 : decode cX0_resolve 25 = .ok (.iconst 0, 1) := dk_3 (dk_at dksX0_resolve_1 1 rfl rfl)
theorem dX0_resolve_26 : decode cX0_resolve 26 = .ok (.ireturn, 1) := dk_172 (dk_at dksX0_resolve_1 2 rfl rfl)
abbrev cX0_unresolved : ByteArray := method_27_code
def yX0_unresolved : MethodName := ⟨RX0, "unresolved", "(LMergeWorkbench;[J)I"⟩
def dkwX0_unresolved_0 : List UInt8 := [43, 3, 42, 182, 0, 98, 133, 80, 167, 0, 6, 77, 4, 172, 3, 172]
abbrev dktX0_unresolved_0 : List UInt8 := dkwX0_unresolved_0 ++ []
theorem dksX0_unresolved_0 : cX0_unresolved.data.toList.drop 0 = dktX0_unresolved_0 := by decide +kernel
theorem dX0_unresolved_0 : decode cX0_unresolved 0 = .ok (.aload_n 1, 1) := dk_43 (dk_at dksX0_unresolved_0 0 rfl rfl)
theorem dX0_unresolved_1 : decode cX0_unresolved 1 = .ok (.iconst 0, 1) := dk_3 (dk_at dksX0_unresolved_0 1 rfl rfl)
theorem dX0_unresolved_2 : decode cX0_unresolved 2 = .ok (.aload_n 0, 1) := dk_42 (dk_at dksX0_unresolved_0 2 rfl rfl)
theorem dX0_unresolved_3 : decode cX0_unresolved 3 = .ok (.invokevirtual 98, 3) := dk_182 0 98 (dk_at dksX0_unresolved_0 3 rfl rfl)
theorem dX0_unresolved_6 : decode cX0_unresolved 6 = .ok (.i2l, 1) := dk_133 (dk_at dksX0_unresolved_0 6 rfl rfl)
theorem dX0_unresolved_7 : decode cX0_unresolved 7 = .ok (.lastore, 1) := dk_80 (dk_at dksX0_unresolved_0 7 rfl rfl)
theorem dX0_unresolved_8 : decode cX0_unresolved 8 = .ok (.goto 6, 3) := dk_167 0 6 (dk_at dksX0_unresolved_0 8 rfl rfl)
theorem dX0_unresolved_11 : decode cX0_unresolved 11 = .ok (.astore_n 2, 1) := dk_77 (dk_at dksX0_unresolved_0 11 rfl rfl)
theorem dX0_unresolved_12 : decode cX0_unresolved 12 = .ok (.iconst 1, 1) := dk_4 (dk_at dksX0_unresolved_0 12 rfl rfl)
theorem dX0_unresolved_13 : decode cX0_unresolved 13 = .ok (.ireturn, 1) := dk_172 (dk_at dksX0_unresolved_0 13 rfl rfl)
theorem dX0_unresolved_14 : decode cX0_unresolved 14 = .ok (.iconst 0, 1) := dk_3 (dk_at dksX0_unresolved_0 14 rfl rfl)
theorem dX0_unresolved_15 : decode cX0_unresolved 15 = .ok (.ireturn, 1) := dk_172 (dk_at dksX0_unresolved_0 15 rfl rfl)
abbrev cX0_mergedLength : ByteArray := method_28_code
def yX0_mergedLength : MethodName := ⟨RX0, "mergedLength", "(LMergeWorkbench;[J)I"⟩
def dkwX0_mergedLength_0 : List UInt8 := [43, 3, 42, 182, 0, 101, 133, 80, 167, 0, 6, 77, 4, 172, 3, 172]
abbrev dktX0_mergedLength_0 : List UInt8 := dkwX0_mergedLength_0 ++ []
theorem dksX0_mergedLength_0 : cX0_mergedLength.data.toList.drop 0 = dktX0_mergedLength_0 := by decide +kernel
theorem dX0_mergedLength_0 : decode cX0_mergedLength 0 = .ok (.aload_n 1, 1) := dk_43 (dk_at dksX0_mergedLength_0 0 rfl rfl)
theorem dX0_mergedLength_1 : decode cX0_mergedLength 1 = .ok (.iconst 0, 1) := dk_3 (dk_at dksX0_mergedLength_0 1 rfl rfl)
theorem dX0_mergedLength_2 : decode cX0_mergedLength 2 = .ok (.aload_n 0, 1) := dk_42 (dk_at dksX0_mergedLength_0 2 rfl rfl)
theorem dX0_mergedLength_3 : decode cX0_mergedLength 3 = .ok (.invokevirtual 101, 3) := dk_182 0 101 (dk_at dksX0_mergedLength_0 3 rfl rfl)
theorem dX0_mergedLength_6 : decode cX0_mergedLength 6 = .ok (.i2l, 1) := dk_133 (dk_at dksX0_mergedLength_0 6 rfl rfl)
theorem dX0_mergedLength_7 : decode cX0_mergedLength 7 = .ok (.lastore, 1) := dk_80 (dk_at dksX0_mergedLength_0 7 rfl rfl)
theorem dX0_mergedLength_8 : decode cX0_mergedLength 8 = .ok (.goto 6, 3) := dk_167 0 6 (dk_at dksX0_mergedLength_0 8 rfl rfl)
theorem dX0_mergedLength_11 : decode cX0_mergedLength 11 = .ok (.astore_n 2, 1) := dk_77 (dk_at dksX0_mergedLength_0 11 rfl rfl)
theorem dX0_mergedLength_12 : decode cX0_mergedLength 12 = .ok (.iconst 1, 1) := dk_4 (dk_at dksX0_mergedLength_0 12 rfl rfl)
theorem dX0_mergedLength_13 : decode cX0_mergedLength 13 = .ok (.ireturn, 1) := dk_172 (dk_at dksX0_mergedLength_0 13 rfl rfl)
theorem dX0_mergedLength_14 : decode cX0_mergedLength 14 = .ok (.iconst 0, 1) := dk_3 (dk_at dksX0_mergedLength_0 14 rfl rfl)
theorem dX0_mergedLength_15 : decode cX0_mergedLength 15 = .ok (.ireturn, 1) := dk_172 (dk_at dksX0_mergedLength_0 15 rfl rfl)
abbrev cX0_merged : ByteArray := method_29_code
def yX0_merged : MethodName := ⟨RX0, "merged", "(LMergeWorkbench;I[J)I"⟩
def dkwX0_merged_0 : List UInt8 := [44, 3, 42, 27, 182, 0, 104, 133, 80, 167, 0, 9, 78, 4, 172, 78, 5, 172, 3, 172]
abbrev dktX0_merged_0 : List UInt8 := dkwX0_merged_0 ++ []
theorem dksX0_merged_0 : cX0_merged.data.toList.drop 0 = dktX0_merged_0 := by decide +kernel
theorem dX0_merged_0 : decode cX0_merged 0 = .ok (.aload_n 2, 1) := dk_44 (dk_at dksX0_merged_0 0 rfl rfl)
theorem dX0_merged_1 : decode cX0_merged 1 = .ok (.iconst 0, 1) := dk_3 (dk_at dksX0_merged_0 1 rfl rfl)
theorem dX0_merged_2 : decode cX0_merged 2 = .ok (.aload_n 0, 1) := dk_42 (dk_at dksX0_merged_0 2 rfl rfl)
theorem dX0_merged_3 : decode cX0_merged 3 = .ok (.iload_n 1, 1) := dk_27 (dk_at dksX0_merged_0 3 rfl rfl)
theorem dX0_merged_4 : decode cX0_merged 4 = .ok (.invokevirtual 104, 3) := dk_182 0 104 (dk_at dksX0_merged_0 4 rfl rfl)
theorem dX0_merged_7 : decode cX0_merged 7 = .ok (.i2l, 1) := dk_133 (dk_at dksX0_merged_0 7 rfl rfl)
theorem dX0_merged_8 : decode cX0_merged 8 = .ok (.lastore, 1) := dk_80 (dk_at dksX0_merged_0 8 rfl rfl)
theorem dX0_merged_9 : decode cX0_merged 9 = .ok (.goto 9, 3) := dk_167 0 9 (dk_at dksX0_merged_0 9 rfl rfl)
theorem dX0_merged_12 : decode cX0_merged 12 = .ok (.astore_n 3, 1) := dk_78 (dk_at dksX0_merged_0 12 rfl rfl)
theorem dX0_merged_13 : decode cX0_merged 13 = .ok (.iconst 1, 1) := dk_4 (dk_at dksX0_merged_0 13 rfl rfl)
theorem dX0_merged_14 : decode cX0_merged 14 = .ok (.ireturn, 1) := dk_172 (dk_at dksX0_merged_0 14 rfl rfl)
theorem dX0_merged_15 : decode cX0_merged 15 = .ok (.astore_n 3, 1) := dk_78 (dk_at dksX0_merged_0 15 rfl rfl)
theorem dX0_merged_16 : decode cX0_merged 16 = .ok (.iconst 2, 1) := dk_5 (dk_at dksX0_merged_0 16 rfl rfl)
theorem dX0_merged_17 : decode cX0_merged 17 = .ok (.ireturn, 1) := dk_172 (dk_at dksX0_merged_0 17 rfl rfl)
theorem dX0_merged_18 : decode cX0_merged 18 = .ok (.iconst 0, 1) := dk_3 (dk_at dksX0_merged_0 18 rfl rfl)
theorem dX0_merged_19 : decode cX0_merged 19 = .ok (.ireturn, 1) := dk_172 (dk_at dksX0_merged_0 19 rfl rfl)
abbrev cX0_accept : ByteArray := method_30_code
def yX0_accept : MethodName := ⟨RX0, "accept", "(LMergeWorkbench;I[J)I"⟩
def dkwX0_accept_0 : List UInt8 := [44, 3, 42, 27, 182, 0, 107, 133, 80, 167, 0, 12, 78, 4, 172, 78, 5, 172, 78, 6, 172, 3, 172]
abbrev dktX0_accept_0 : List UInt8 := dkwX0_accept_0 ++ []
theorem dksX0_accept_0 : cX0_accept.data.toList.drop 0 = dktX0_accept_0 := by decide +kernel
theorem dX0_accept_0 : decode cX0_accept 0 = .ok (.aload_n 2, 1) := dk_44 (dk_at dksX0_accept_0 0 rfl rfl)
theorem dX0_accept_1 : decode cX0_accept 1 = .ok (.iconst 0, 1) := dk_3 (dk_at dksX0_accept_0 1 rfl rfl)
theorem dX0_accept_2 : decode cX0_accept 2 = .ok (.aload_n 0, 1) := dk_42 (dk_at dksX0_accept_0 2 rfl rfl)
theorem dX0_accept_3 : decode cX0_accept 3 = .ok (.iload_n 1, 1) := dk_27 (dk_at dksX0_accept_0 3 rfl rfl)
theorem dX0_accept_4 : decode cX0_accept 4 = .ok (.invokevirtual 107, 3) := dk_182 0 107 (dk_at dksX0_accept_0 4 rfl rfl)
theorem dX0_accept_7 : decode cX0_accept 7 = .ok (.i2l, 1) := dk_133 (dk_at dksX0_accept_0 7 rfl rfl)
theorem dX0_accept_8 : decode cX0_accept 8 = .ok (.lastore, 1) := dk_80 (dk_at dksX0_accept_0 8 rfl rfl)
theorem dX0_accept_9 : decode cX0_accept 9 = .ok (.goto 12, 3) := dk_167 0 12 (dk_at dksX0_accept_0 9 rfl rfl)
theorem dX0_accept_12 : decode cX0_accept 12 = .ok (.astore_n 3, 1) := dk_78 (dk_at dksX0_accept_0 12 rfl rfl)
theorem dX0_accept_13 : decode cX0_accept 13 = .ok (.iconst 1, 1) := dk_4 (dk_at dksX0_accept_0 13 rfl rfl)
theorem dX0_accept_14 : decode cX0_accept 14 = .ok (.ireturn, 1) := dk_172 (dk_at dksX0_accept_0 14 rfl rfl)
theorem dX0_accept_15 : decode cX0_accept 15 = .ok (.astore_n 3, 1) := dk_78 (dk_at dksX0_accept_0 15 rfl rfl)
theorem dX0_accept_16 : decode cX0_accept 16 = .ok (.iconst 2, 1) := dk_5 (dk_at dksX0_accept_0 16 rfl rfl)
theorem dX0_accept_17 : decode cX0_accept 17 = .ok (.ireturn, 1) := dk_172 (dk_at dksX0_accept_0 17 rfl rfl)
theorem dX0_accept_18 : decode cX0_accept 18 = .ok (.astore_n 3, 1) := dk_78 (dk_at dksX0_accept_0 18 rfl rfl)
theorem dX0_accept_19 : decode cX0_accept 19 = .ok (.iconst 3, 1) := dk_6 (dk_at dksX0_accept_0 19 rfl rfl)
theorem dX0_accept_20 : decode cX0_accept 20 = .ok (.ireturn, 1) := dk_172 (dk_at dksX0_accept_0 20 rfl rfl)
theorem dX0_accept_21 : decode cX0_accept 21 = .ok (.iconst 0, 1) := dk_3 (dk_at dksX0_accept_0 21 rfl rfl)
theorem dX0_accept_22 : decode cX0_accept 22 = .ok (.ireturn, 1) := dk_172 (dk_at dksX0_accept_0 22 rfl rfl)
abbrev cX0_makePatch : ByteArray := method_31_code
def yX0_makePatch : MethodName := ⟨RX0, "makePatch", "(LMergeWorkbench;I[J)I"⟩
def dkwX0_makePatch_0 : List UInt8 := [44, 3, 42, 27, 182, 0, 112, 133, 80, 167, 0, 9, 78, 4, 172, 78, 5, 172, 3, 172]
abbrev dktX0_makePatch_0 : List UInt8 := dkwX0_makePatch_0 ++ []
theorem dksX0_makePatch_0 : cX0_makePatch.data.toList.drop 0 = dktX0_makePatch_0 := by decide +kernel
theorem dX0_makePatch_0 : decode cX0_makePatch 0 = .ok (.aload_n 2, 1) := dk_44 (dk_at dksX0_makePatch_0 0 rfl rfl)
theorem dX0_makePatch_1 : decode cX0_makePatch 1 = .ok (.iconst 0, 1) := dk_3 (dk_at dksX0_makePatch_0 1 rfl rfl)
theorem dX0_makePatch_2 : decode cX0_makePatch 2 = .ok (.aload_n 0, 1) := dk_42 (dk_at dksX0_makePatch_0 2 rfl rfl)
theorem dX0_makePatch_3 : decode cX0_makePatch 3 = .ok (.iload_n 1, 1) := dk_27 (dk_at dksX0_makePatch_0 3 rfl rfl)
theorem dX0_makePatch_4 : decode cX0_makePatch 4 = .ok (.invokevirtual 112, 3) := dk_182 0 112 (dk_at dksX0_makePatch_0 4 rfl rfl)
theorem dX0_makePatch_7 : decode cX0_makePatch 7 = .ok (.i2l, 1) := dk_133 (dk_at dksX0_makePatch_0 7 rfl rfl)
theorem dX0_makePatch_8 : decode cX0_makePatch 8 = .ok (.lastore, 1) := dk_80 (dk_at dksX0_makePatch_0 8 rfl rfl)
theorem dX0_makePatch_9 : decode cX0_makePatch 9 = .ok (.goto 9, 3) := dk_167 0 9 (dk_at dksX0_makePatch_0 9 rfl rfl)
theorem dX0_makePatch_12 : decode cX0_makePatch 12 = .ok (.astore_n 3, 1) := dk_78 (dk_at dksX0_makePatch_0 12 rfl rfl)
theorem dX0_makePatch_13 : decode cX0_makePatch 13 = .ok (.iconst 1, 1) := dk_4 (dk_at dksX0_makePatch_0 13 rfl rfl)
theorem dX0_makePatch_14 : decode cX0_makePatch 14 = .ok (.ireturn, 1) := dk_172 (dk_at dksX0_makePatch_0 14 rfl rfl)
theorem dX0_makePatch_15 : decode cX0_makePatch 15 = .ok (.astore_n 3, 1) := dk_78 (dk_at dksX0_makePatch_0 15 rfl rfl)
theorem dX0_makePatch_16 : decode cX0_makePatch 16 = .ok (.iconst 2, 1) := dk_5 (dk_at dksX0_makePatch_0 16 rfl rfl)
theorem dX0_makePatch_17 : decode cX0_makePatch 17 = .ok (.ireturn, 1) := dk_172 (dk_at dksX0_makePatch_0 17 rfl rfl)
theorem dX0_makePatch_18 : decode cX0_makePatch 18 = .ok (.iconst 0, 1) := dk_3 (dk_at dksX0_makePatch_0 18 rfl rfl)
theorem dX0_makePatch_19 : decode cX0_makePatch 19 = .ok (.ireturn, 1) := dk_172 (dk_at dksX0_makePatch_0 19 rfl rfl)
abbrev cX0_hunk : ByteArray := method_32_code
def yX0_hunk : MethodName := ⟨RX0, "hunk", "(LMergeWorkbench;II[J)I"⟩
def dkwX0_hunk_1 : List UInt8 := [172, 3, 172]
abbrev dktX0_hunk_1 : List UInt8 := dkwX0_hunk_1 ++ []
def dkwX0_hunk_0 : List UInt8 := [45, 3, 42, 27, 28, 182, 0, 115, 133, 80, 167, 0, 15, 58, 4, 4, 172, 58, 4, 5, 172, 58, 4, 6]
abbrev dktX0_hunk_0 : List UInt8 := dkwX0_hunk_0 ++ dktX0_hunk_1
theorem dksX0_hunk_0 : cX0_hunk.data.toList.drop 0 = dktX0_hunk_0 := by decide +kernel
theorem dksX0_hunk_1 : cX0_hunk.data.toList.drop 24 = dktX0_hunk_1 := dk_seg dksX0_hunk_0 24 rfl rfl
theorem dX0_hunk_0 : decode cX0_hunk 0 = .ok (.aload_n 3, 1) := dk_45 (dk_at dksX0_hunk_0 0 rfl rfl)
theorem dX0_hunk_1 : decode cX0_hunk 1 = .ok (.iconst 0, 1) := dk_3 (dk_at dksX0_hunk_0 1 rfl rfl)
theorem dX0_hunk_2 : decode cX0_hunk 2 = .ok (.aload_n 0, 1) := dk_42 (dk_at dksX0_hunk_0 2 rfl rfl)
theorem dX0_hunk_3 : decode cX0_hunk 3 = .ok (.iload_n 1, 1) := dk_27 (dk_at dksX0_hunk_0 3 rfl rfl)
theorem dX0_hunk_4 : decode cX0_hunk 4 = .ok (.iload_n 2, 1) := dk_28 (dk_at dksX0_hunk_0 4 rfl rfl)
theorem dX0_hunk_5 : decode cX0_hunk 5 = .ok (.invokevirtual 115, 3) := dk_182 0 115 (dk_at dksX0_hunk_0 5 rfl rfl)
theorem dX0_hunk_8 : decode cX0_hunk 8 = .ok (.i2l, 1) := dk_133 (dk_at dksX0_hunk_0 8 rfl rfl)
theorem dX0_hunk_9 : decode cX0_hunk 9 = .ok (.lastore, 1) := dk_80 (dk_at dksX0_hunk_0 9 rfl rfl)
theorem dX0_hunk_10 : decode cX0_hunk 10 = .ok (.goto 15, 3) := dk_167 0 15 (dk_at dksX0_hunk_0 10 rfl rfl)
theorem dX0_hunk_13 : decode cX0_hunk 13 = .ok (.astore 4, 2) := dk_58 4 (dk_at dksX0_hunk_0 13 rfl rfl)
theorem dX0_hunk_15 : decode cX0_hunk 15 = .ok (.iconst 1, 1) := dk_4 (dk_at dksX0_hunk_0 15 rfl rfl)
theorem dX0_hunk_16 : decode cX0_hunk 16 = .ok (.ireturn, 1) := dk_172 (dk_at dksX0_hunk_0 16 rfl rfl)
theorem dX0_hunk_17 : decode cX0_hunk 17 = .ok (.astore 4, 2) := dk_58 4 (dk_at dksX0_hunk_0 17 rfl rfl)
theorem dX0_hunk_19 : decode cX0_hunk 19 = .ok (.iconst 2, 1) := dk_5 (dk_at dksX0_hunk_0 19 rfl rfl)
theorem dX0_hunk_20 : decode cX0_hunk 20 = .ok (.ireturn, 1) := dk_172 (dk_at dksX0_hunk_0 20 rfl rfl)
theorem dX0_hunk_21 : decode cX0_hunk 21 = .ok (.astore 4, 2) := dk_58 4 (dk_at dksX0_hunk_0 21 rfl rfl)
theorem dX0_hunk_23 : decode cX0_hunk 23 = .ok (.iconst 3, 1) := dk_6 (dk_at dksX0_hunk_0 23 rfl rfl)
theorem dX0_hunk_24 : decode cX0_hunk 24 = .ok (.ireturn, 1) := dk_172 (dk_at dksX0_hunk_1 0 rfl rfl)
theorem dX0_hunk_25 : decode cX0_hunk 25 = .ok (.iconst 0, 1) := dk_3 (dk_at dksX0_hunk_1 1 rfl rfl)
theorem dX0_hunk_26 : decode cX0_hunk 26 = .ok (.ireturn, 1) := dk_172 (dk_at dksX0_hunk_1 2 rfl rfl)
abbrev cX0_apply : ByteArray := method_33_code
def yX0_apply : MethodName := ⟨RX0, "apply", "(LMergeWorkbench;IIZ[J)I"⟩
def dkwX0_apply_1 : List UInt8 := [58, 5, 6, 172, 3, 172]
abbrev dktX0_apply_1 : List UInt8 := dkwX0_apply_1 ++ []
def dkwX0_apply_0 : List UInt8 := [25, 4, 3, 42, 27, 28, 29, 182, 0, 118, 133, 80, 167, 0, 15, 58, 5, 4, 172, 58, 5, 5, 172]
abbrev dktX0_apply_0 : List UInt8 := dkwX0_apply_0 ++ dktX0_apply_1
theorem dksX0_apply_0 : cX0_apply.data.toList.drop 0 = dktX0_apply_0 := by decide +kernel
theorem dksX0_apply_1 : cX0_apply.data.toList.drop 23 = dktX0_apply_1 := dk_seg dksX0_apply_0 23 rfl rfl
theorem dX0_apply_0 : decode cX0_apply 0 = .ok (.aload 4, 2) := dk_25 4 (dk_at dksX0_apply_0 0 rfl rfl)
theorem dX0_apply_2 : decode cX0_apply 2 = .ok (.iconst 0, 1) := dk_3 (dk_at dksX0_apply_0 2 rfl rfl)
theorem dX0_apply_3 : decode cX0_apply 3 = .ok (.aload_n 0, 1) := dk_42 (dk_at dksX0_apply_0 3 rfl rfl)
theorem dX0_apply_4 : decode cX0_apply 4 = .ok (.iload_n 1, 1) := dk_27 (dk_at dksX0_apply_0 4 rfl rfl)
theorem dX0_apply_5 : decode cX0_apply 5 = .ok (.iload_n 2, 1) := dk_28 (dk_at dksX0_apply_0 5 rfl rfl)
theorem dX0_apply_6 : decode cX0_apply 6 = .ok (.iload_n 3, 1) := dk_29 (dk_at dksX0_apply_0 6 rfl rfl)
theorem dX0_apply_7 : decode cX0_apply 7 = .ok (.invokevirtual 118, 3) := dk_182 0 118 (dk_at dksX0_apply_0 7 rfl rfl)
theorem dX0_apply_10 : decode cX0_apply 10 = .ok (.i2l, 1) := dk_133 (dk_at dksX0_apply_0 10 rfl rfl)
theorem dX0_apply_11 : decode cX0_apply 11 = .ok (.lastore, 1) := dk_80 (dk_at dksX0_apply_0 11 rfl rfl)
theorem dX0_apply_12 : decode cX0_apply 12 = .ok (.goto 15, 3) := dk_167 0 15 (dk_at dksX0_apply_0 12 rfl rfl)
theorem dX0_apply_15 : decode cX0_apply 15 = .ok (.astore 5, 2) := dk_58 5 (dk_at dksX0_apply_0 15 rfl rfl)
theorem dX0_apply_17 : decode cX0_apply 17 = .ok (.iconst 1, 1) := dk_4 (dk_at dksX0_apply_0 17 rfl rfl)
theorem dX0_apply_18 : decode cX0_apply 18 = .ok (.ireturn, 1) := dk_172 (dk_at dksX0_apply_0 18 rfl rfl)
theorem dX0_apply_19 : decode cX0_apply 19 = .ok (.astore 5, 2) := dk_58 5 (dk_at dksX0_apply_0 19 rfl rfl)
theorem dX0_apply_21 : decode cX0_apply 21 = .ok (.iconst 2, 1) := dk_5 (dk_at dksX0_apply_0 21 rfl rfl)
theorem dX0_apply_22 : decode cX0_apply 22 = .ok (.ireturn, 1) := dk_172 (dk_at dksX0_apply_0 22 rfl rfl)
theorem dX0_apply_23 : decode cX0_apply 23 = .ok (.astore 5, 2) := dk_58 5 (dk_at dksX0_apply_1 0 rfl rfl)
theorem dX0_apply_25 : decode cX0_apply 25 = .ok (.iconst 3, 1) := dk_6 (dk_at dksX0_apply_1 2 rfl rfl)
theorem dX0_apply_26 : decode cX0_apply 26 = .ok (.ireturn, 1) := dk_172 (dk_at dksX0_apply_1 3 rfl rfl)
theorem dX0_apply_27 : decode cX0_apply 27 = .ok (.iconst 0, 1) := dk_3 (dk_at dksX0_apply_1 4 rfl rfl)
theorem dX0_apply_28 : decode cX0_apply 28 = .ok (.ireturn, 1) := dk_172 (dk_at dksX0_apply_1 5 rfl rfl)
abbrev cX0_outcome : ByteArray := method_34_code
def yX0_outcome : MethodName := ⟨RX0, "outcome", "(LMergeWorkbench;II[J)I"⟩
def dkwX0_outcome_0 : List UInt8 := [45, 3, 42, 27, 28, 182, 0, 122, 133, 80, 167, 0, 11, 58, 4, 4, 172, 58, 4, 5, 172, 3, 172]
abbrev dktX0_outcome_0 : List UInt8 := dkwX0_outcome_0 ++ []
theorem dksX0_outcome_0 : cX0_outcome.data.toList.drop 0 = dktX0_outcome_0 := by decide +kernel
theorem dX0_outcome_0 : decode cX0_outcome 0 = .ok (.aload_n 3, 1) := dk_45 (dk_at dksX0_outcome_0 0 rfl rfl)
theorem dX0_outcome_1 : decode cX0_outcome 1 = .ok (.iconst 0, 1) := dk_3 (dk_at dksX0_outcome_0 1 rfl rfl)
theorem dX0_outcome_2 : decode cX0_outcome 2 = .ok (.aload_n 0, 1) := dk_42 (dk_at dksX0_outcome_0 2 rfl rfl)
theorem dX0_outcome_3 : decode cX0_outcome 3 = .ok (.iload_n 1, 1) := dk_27 (dk_at dksX0_outcome_0 3 rfl rfl)
theorem dX0_outcome_4 : decode cX0_outcome 4 = .ok (.iload_n 2, 1) := dk_28 (dk_at dksX0_outcome_0 4 rfl rfl)
theorem dX0_outcome_5 : decode cX0_outcome 5 = .ok (.invokevirtual 122, 3) := dk_182 0 122 (dk_at dksX0_outcome_0 5 rfl rfl)
theorem dX0_outcome_8 : decode cX0_outcome 8 = .ok (.i2l, 1) := dk_133 (dk_at dksX0_outcome_0 8 rfl rfl)
theorem dX0_outcome_9 : decode cX0_outcome 9 = .ok (.lastore, 1) := dk_80 (dk_at dksX0_outcome_0 9 rfl rfl)
theorem dX0_outcome_10 : decode cX0_outcome 10 = .ok (.goto 11, 3) := dk_167 0 11 (dk_at dksX0_outcome_0 10 rfl rfl)
theorem dX0_outcome_13 : decode cX0_outcome 13 = .ok (.astore 4, 2) := dk_58 4 (dk_at dksX0_outcome_0 13 rfl rfl)
theorem dX0_outcome_15 : decode cX0_outcome 15 = .ok (.iconst 1, 1) := dk_4 (dk_at dksX0_outcome_0 15 rfl rfl)
theorem dX0_outcome_16 : decode cX0_outcome 16 = .ok (.ireturn, 1) := dk_172 (dk_at dksX0_outcome_0 16 rfl rfl)
theorem dX0_outcome_17 : decode cX0_outcome 17 = .ok (.astore 4, 2) := dk_58 4 (dk_at dksX0_outcome_0 17 rfl rfl)
theorem dX0_outcome_19 : decode cX0_outcome 19 = .ok (.iconst 2, 1) := dk_5 (dk_at dksX0_outcome_0 19 rfl rfl)
theorem dX0_outcome_20 : decode cX0_outcome 20 = .ok (.ireturn, 1) := dk_172 (dk_at dksX0_outcome_0 20 rfl rfl)
theorem dX0_outcome_21 : decode cX0_outcome 21 = .ok (.iconst 0, 1) := dk_3 (dk_at dksX0_outcome_0 21 rfl rfl)
theorem dX0_outcome_22 : decode cX0_outcome 22 = .ok (.ireturn, 1) := dk_172 (dk_at dksX0_outcome_0 22 rfl rfl)
abbrev cX0_undo : ByteArray := method_35_code
def yX0_undo : MethodName := ⟨RX0, "undo", "(LMergeWorkbench;[J)I"⟩
def dkwX0_undo_0 : List UInt8 := [43, 3, 42, 182, 0, 125, 133, 80, 167, 0, 6, 77, 4, 172, 3, 172]
abbrev dktX0_undo_0 : List UInt8 := dkwX0_undo_0 ++ []
theorem dksX0_undo_0 : cX0_undo.data.toList.drop 0 = dktX0_undo_0 := by decide +kernel
theorem dX0_undo_0 : decode cX0_undo 0 = .ok (.aload_n 1, 1) := dk_43 (dk_at dksX0_undo_0 0 rfl rfl)
theorem dX0_undo_1 : decode cX0_undo 1 = .ok (.iconst 0, 1) := dk_3 (dk_at dksX0_undo_0 1 rfl rfl)
theorem dX0_undo_2 : decode cX0_undo 2 = .ok (.aload_n 0, 1) := dk_42 (dk_at dksX0_undo_0 2 rfl rfl)
theorem dX0_undo_3 : decode cX0_undo 3 = .ok (.invokevirtual 125, 3) := dk_182 0 125 (dk_at dksX0_undo_0 3 rfl rfl)
theorem dX0_undo_6 : decode cX0_undo 6 = .ok (.i2l, 1) := dk_133 (dk_at dksX0_undo_0 6 rfl rfl)
theorem dX0_undo_7 : decode cX0_undo 7 = .ok (.lastore, 1) := dk_80 (dk_at dksX0_undo_0 7 rfl rfl)
theorem dX0_undo_8 : decode cX0_undo 8 = .ok (.goto 6, 3) := dk_167 0 6 (dk_at dksX0_undo_0 8 rfl rfl)
theorem dX0_undo_11 : decode cX0_undo 11 = .ok (.astore_n 2, 1) := dk_77 (dk_at dksX0_undo_0 11 rfl rfl)
theorem dX0_undo_12 : decode cX0_undo 12 = .ok (.iconst 1, 1) := dk_4 (dk_at dksX0_undo_0 12 rfl rfl)
theorem dX0_undo_13 : decode cX0_undo 13 = .ok (.ireturn, 1) := dk_172 (dk_at dksX0_undo_0 13 rfl rfl)
theorem dX0_undo_14 : decode cX0_undo 14 = .ok (.iconst 0, 1) := dk_3 (dk_at dksX0_undo_0 14 rfl rfl)
theorem dX0_undo_15 : decode cX0_undo 15 = .ok (.ireturn, 1) := dk_172 (dk_at dksX0_undo_0 15 rfl rfl)
abbrev cX0_restore : ByteArray := method_36_code
def yX0_restore : MethodName := ⟨RX0, "restore", "(LMergeWorkbench;[J)I"⟩
def dkwX0_restore_0 : List UInt8 := [43, 3, 42, 182, 0, 128, 133, 80, 167, 0, 6, 77, 4, 172, 3, 172]
abbrev dktX0_restore_0 : List UInt8 := dkwX0_restore_0 ++ []
theorem dksX0_restore_0 : cX0_restore.data.toList.drop 0 = dktX0_restore_0 := by decide +kernel
theorem dX0_restore_0 : decode cX0_restore 0 = .ok (.aload_n 1, 1) := dk_43 (dk_at dksX0_restore_0 0 rfl rfl)
theorem dX0_restore_1 : decode cX0_restore 1 = .ok (.iconst 0, 1) := dk_3 (dk_at dksX0_restore_0 1 rfl rfl)
theorem dX0_restore_2 : decode cX0_restore 2 = .ok (.aload_n 0, 1) := dk_42 (dk_at dksX0_restore_0 2 rfl rfl)
theorem dX0_restore_3 : decode cX0_restore 3 = .ok (.invokevirtual 128, 3) := dk_182 0 128 (dk_at dksX0_restore_0 3 rfl rfl)
theorem dX0_restore_6 : decode cX0_restore 6 = .ok (.i2l, 1) := dk_133 (dk_at dksX0_restore_0 6 rfl rfl)
theorem dX0_restore_7 : decode cX0_restore 7 = .ok (.lastore, 1) := dk_80 (dk_at dksX0_restore_0 7 rfl rfl)
theorem dX0_restore_8 : decode cX0_restore 8 = .ok (.goto 6, 3) := dk_167 0 6 (dk_at dksX0_restore_0 8 rfl rfl)
theorem dX0_restore_11 : decode cX0_restore 11 = .ok (.astore_n 2, 1) := dk_77 (dk_at dksX0_restore_0 11 rfl rfl)
theorem dX0_restore_12 : decode cX0_restore 12 = .ok (.iconst 1, 1) := dk_4 (dk_at dksX0_restore_0 12 rfl rfl)
theorem dX0_restore_13 : decode cX0_restore 13 = .ok (.ireturn, 1) := dk_172 (dk_at dksX0_restore_0 13 rfl rfl)
theorem dX0_restore_14 : decode cX0_restore 14 = .ok (.iconst 0, 1) := dk_3 (dk_at dksX0_restore_0 14 rfl rfl)
theorem dX0_restore_15 : decode cX0_restore 15 = .ok (.ireturn, 1) := dk_172 (dk_at dksX0_restore_0 15 rfl rfl)
theorem q83 : (Jvm.Cond.initialized "MergeWorkbenchLaw") ∈ lw_all := lw_g (lw_at lw_m1 0 rfl) rfl
theorem q152 : (Jvm.Cond.classLink "MergeWorkbenchLaw" (8 : Nat) "MergeWorkbench") ∈ lw_all := lw_g (lw_at lw_m1 69 rfl) rfl
theorem q154 : (Jvm.Cond.methodLink "MergeWorkbenchLaw" (131 : Nat) ({ cls := "MergeWorkbench", name := "<init>", desc := "()V" } : Jvm.MethodName)) ∈ lw_all := lw_g (lw_at lw_m1 71 rfl) rfl
theorem q725 : (Jvm.Cond.methodLink "MergeWorkbenchLaw" (206 : Nat) ({ cls := "MergeWorkbench", name := "setShrinking", desc := "(Z)Z" } : Jvm.MethodName)) ∈ lw_all := lw_g (lw_at lw_m3 162 rfl) rfl
theorem q729 : (Jvm.Cond.methodLink "MergeWorkbenchLaw" (251 : Nat) ({ cls := "MergeWorkbench", name := "save", desc := "()I" } : Jvm.MethodName)) ∈ lw_all := lw_g (lw_at lw_m3 166 rfl) rfl
theorem q1206 : (Jvm.Cond.methodLink "MergeWorkbenchLaw" (135 : Nat) ({ cls := "MergeWorkbenchLaw", name := "append", desc := "(LMergeWorkbench;II[J)I" } : Jvm.MethodName)) ∈ lw_all := lw_g (lw_at lw_m5 163 rfl) rfl
theorem q1207 : (Jvm.Cond.static ({ cls := "MergeWorkbenchLaw", name := "append", desc := "(LMergeWorkbench;II[J)I" } : Jvm.MethodName)) ∈ lw_all := lw_g (lw_at lw_m5 164 rfl) rfl
theorem q1208 : (Jvm.Cond.codeWith ({ cls := "MergeWorkbenchLaw", name := "append", desc := "(LMergeWorkbench;II[J)I" } : Jvm.MethodName) method_3_code (5 : Nat) (Option.some Jvm.ClassFile.FieldType.int) [((0 : Nat), (10 : Nat), (13 : Nat), (13 : Nat)), ((0 : Nat), (10 : Nat), (17 : Nat), (15 : Nat))]) ∈ lw_all := lw_g (lw_at lw_m5 165 rfl) rfl
theorem q1209 : (Jvm.Cond.classLink "MergeWorkbenchLaw" (13 : Nat) "java/lang/IllegalArgumentException") ∈ lw_all := lw_g (lw_at lw_m5 166 rfl) rfl
theorem q1210 : (Jvm.Cond.classLink "MergeWorkbenchLaw" (15 : Nat) "java/lang/IllegalStateException") ∈ lw_all := lw_g (lw_at lw_m5 167 rfl) rfl
theorem q1211 : (Jvm.Cond.methodLink "MergeWorkbenchLaw" (7 : Nat) ({ cls := "MergeWorkbench", name := "append", desc := "(II)I" } : Jvm.MethodName)) ∈ lw_all := lw_g (lw_at lw_m5 168 rfl) rfl
theorem q1343 : (Jvm.Cond.methodLink "MergeWorkbenchLaw" (144 : Nat) ({ cls := "MergeWorkbenchLaw", name := "insert", desc := "(LMergeWorkbench;III[J)I" } : Jvm.MethodName)) ∈ lw_all := lw_g (lw_at lw_m6 60 rfl) rfl
theorem q1344 : (Jvm.Cond.static ({ cls := "MergeWorkbenchLaw", name := "insert", desc := "(LMergeWorkbench;III[J)I" } : Jvm.MethodName)) ∈ lw_all := lw_g (lw_at lw_m6 61 rfl) rfl
theorem q1345 : (Jvm.Cond.codeWith ({ cls := "MergeWorkbenchLaw", name := "insert", desc := "(LMergeWorkbench;III[J)I" } : Jvm.MethodName) method_4_code (6 : Nat) (Option.some Jvm.ClassFile.FieldType.int) [((0 : Nat), (12 : Nat), (15 : Nat), (13 : Nat)), ((0 : Nat), (12 : Nat), (19 : Nat), (15 : Nat)), ((0 : Nat), (12 : Nat), (23 : Nat), (21 : Nat))]) ∈ lw_all := lw_g (lw_at lw_m6 62 rfl) rfl
theorem q1346 : (Jvm.Cond.classLink "MergeWorkbenchLaw" (21 : Nat) "java/lang/IndexOutOfBoundsException") ∈ lw_all := lw_g (lw_at lw_m6 63 rfl) rfl
theorem q1362 : (Jvm.Cond.methodLink "MergeWorkbenchLaw" (17 : Nat) ({ cls := "MergeWorkbench", name := "insert", desc := "(III)I" } : Jvm.MethodName)) ∈ lw_all := lw_g (lw_at lw_m6 79 rfl) rfl
theorem q1384 : (Jvm.Cond.methodLink "MergeWorkbenchLaw" (148 : Nat) ({ cls := "MergeWorkbenchLaw", name := "delete", desc := "(LMergeWorkbench;II[J)I" } : Jvm.MethodName)) ∈ lw_all := lw_g (lw_at lw_m6 101 rfl) rfl
theorem q1385 : (Jvm.Cond.static ({ cls := "MergeWorkbenchLaw", name := "delete", desc := "(LMergeWorkbench;II[J)I" } : Jvm.MethodName)) ∈ lw_all := lw_g (lw_at lw_m6 102 rfl) rfl
theorem q1386 : (Jvm.Cond.codeWith ({ cls := "MergeWorkbenchLaw", name := "delete", desc := "(LMergeWorkbench;II[J)I" } : Jvm.MethodName) method_5_code (5 : Nat) (Option.some Jvm.ClassFile.FieldType.int) [((0 : Nat), (10 : Nat), (13 : Nat), (13 : Nat)), ((0 : Nat), (10 : Nat), (17 : Nat), (21 : Nat))]) ∈ lw_all := lw_g (lw_at lw_m6 103 rfl) rfl
theorem q1387 : (Jvm.Cond.methodLink "MergeWorkbenchLaw" (23 : Nat) ({ cls := "MergeWorkbench", name := "delete", desc := "(II)I" } : Jvm.MethodName)) ∈ lw_all := lw_g (lw_at lw_m6 104 rfl) rfl
theorem q1411 : (Jvm.Cond.methodLink "MergeWorkbenchLaw" (151 : Nat) ({ cls := "MergeWorkbenchLaw", name := "length", desc := "(LMergeWorkbench;I[J)I" } : Jvm.MethodName)) ∈ lw_all := lw_g (lw_at lw_m6 128 rfl) rfl
theorem q1412 : (Jvm.Cond.static ({ cls := "MergeWorkbenchLaw", name := "length", desc := "(LMergeWorkbench;I[J)I" } : Jvm.MethodName)) ∈ lw_all := lw_g (lw_at lw_m6 129 rfl) rfl
theorem q1413 : (Jvm.Cond.codeWith ({ cls := "MergeWorkbenchLaw", name := "length", desc := "(LMergeWorkbench;I[J)I" } : Jvm.MethodName) method_6_code (4 : Nat) (Option.some Jvm.ClassFile.FieldType.int) [((0 : Nat), (9 : Nat), (12 : Nat), (13 : Nat))]) ∈ lw_all := lw_g (lw_at lw_m6 130 rfl) rfl
theorem q1414 : (Jvm.Cond.methodLink "MergeWorkbenchLaw" (26 : Nat) ({ cls := "MergeWorkbench", name := "length", desc := "(I)I" } : Jvm.MethodName)) ∈ lw_all := lw_g (lw_at lw_m6 131 rfl) rfl
theorem q1418 : (Jvm.Cond.methodLink "MergeWorkbenchLaw" (155 : Nat) ({ cls := "MergeWorkbenchLaw", name := "line", desc := "(LMergeWorkbench;II[J)I" } : Jvm.MethodName)) ∈ lw_all := lw_g (lw_at lw_m6 135 rfl) rfl
theorem q1419 : (Jvm.Cond.static ({ cls := "MergeWorkbenchLaw", name := "line", desc := "(LMergeWorkbench;II[J)I" } : Jvm.MethodName)) ∈ lw_all := lw_g (lw_at lw_m6 136 rfl) rfl
theorem q1420 : (Jvm.Cond.codeWith ({ cls := "MergeWorkbenchLaw", name := "line", desc := "(LMergeWorkbench;II[J)I" } : Jvm.MethodName) method_7_code (5 : Nat) (Option.some Jvm.ClassFile.FieldType.int) [((0 : Nat), (10 : Nat), (13 : Nat), (13 : Nat)), ((0 : Nat), (10 : Nat), (17 : Nat), (21 : Nat))]) ∈ lw_all := lw_g (lw_at lw_m6 137 rfl) rfl
theorem q1421 : (Jvm.Cond.methodLink "MergeWorkbenchLaw" (30 : Nat) ({ cls := "MergeWorkbench", name := "line", desc := "(II)I" } : Jvm.MethodName)) ∈ lw_all := lw_g (lw_at lw_m6 138 rfl) rfl
theorem q1425 : (Jvm.Cond.methodLink "MergeWorkbenchLaw" (158 : Nat) ({ cls := "MergeWorkbenchLaw", name := "copy", desc := "(LMergeWorkbench;II[J)I" } : Jvm.MethodName)) ∈ lw_all := lw_g (lw_at lw_m6 142 rfl) rfl
theorem q1426 : (Jvm.Cond.static ({ cls := "MergeWorkbenchLaw", name := "copy", desc := "(LMergeWorkbench;II[J)I" } : Jvm.MethodName)) ∈ lw_all := lw_g (lw_at lw_m6 143 rfl) rfl
theorem q1427 : (Jvm.Cond.codeWith ({ cls := "MergeWorkbenchLaw", name := "copy", desc := "(LMergeWorkbench;II[J)I" } : Jvm.MethodName) method_8_code (5 : Nat) (Option.some Jvm.ClassFile.FieldType.int) [((0 : Nat), (10 : Nat), (13 : Nat), (13 : Nat))]) ∈ lw_all := lw_g (lw_at lw_m6 144 rfl) rfl
theorem q1428 : (Jvm.Cond.methodLink "MergeWorkbenchLaw" (33 : Nat) ({ cls := "MergeWorkbench", name := "copy", desc := "(II)I" } : Jvm.MethodName)) ∈ lw_all := lw_g (lw_at lw_m6 145 rfl) rfl
theorem q1432 : (Jvm.Cond.methodLink "MergeWorkbenchLaw" (161 : Nat) ({ cls := "MergeWorkbenchLaw", name := "isSame", desc := "(LMergeWorkbench;II[J)I" } : Jvm.MethodName)) ∈ lw_all := lw_g (lw_at lw_m6 149 rfl) rfl
theorem q1433 : (Jvm.Cond.static ({ cls := "MergeWorkbenchLaw", name := "isSame", desc := "(LMergeWorkbench;II[J)I" } : Jvm.MethodName)) ∈ lw_all := lw_g (lw_at lw_m6 150 rfl) rfl
theorem q1434 : (Jvm.Cond.codeWith ({ cls := "MergeWorkbenchLaw", name := "isSame", desc := "(LMergeWorkbench;II[J)I" } : Jvm.MethodName) method_9_code (5 : Nat) (Option.some Jvm.ClassFile.FieldType.int) [((0 : Nat), (17 : Nat), (20 : Nat), (13 : Nat))]) ∈ lw_all := lw_g (lw_at lw_m6 151 rfl) rfl
theorem q1435 : (Jvm.Cond.methodLink "MergeWorkbenchLaw" (36 : Nat) ({ cls := "MergeWorkbench", name := "isSame", desc := "(II)Z" } : Jvm.MethodName)) ∈ lw_all := lw_g (lw_at lw_m6 152 rfl) rfl
theorem q1626 : (Jvm.Cond.methodLink "MergeWorkbenchLaw" (164 : Nat) ({ cls := "MergeWorkbenchLaw", name := "distance", desc := "(LMergeWorkbench;II[J)I" } : Jvm.MethodName)) ∈ lw_all := lw_g (lw_at lw_m7 103 rfl) rfl
theorem q1627 : (Jvm.Cond.static ({ cls := "MergeWorkbenchLaw", name := "distance", desc := "(LMergeWorkbench;II[J)I" } : Jvm.MethodName)) ∈ lw_all := lw_g (lw_at lw_m7 104 rfl) rfl
theorem q1628 : (Jvm.Cond.codeWith ({ cls := "MergeWorkbenchLaw", name := "distance", desc := "(LMergeWorkbench;II[J)I" } : Jvm.MethodName) method_10_code (5 : Nat) (Option.some Jvm.ClassFile.FieldType.int) [((0 : Nat), (10 : Nat), (13 : Nat), (13 : Nat))]) ∈ lw_all := lw_g (lw_at lw_m7 105 rfl) rfl
theorem q1629 : (Jvm.Cond.methodLink "MergeWorkbenchLaw" (40 : Nat) ({ cls := "MergeWorkbench", name := "distance", desc := "(II)I" } : Jvm.MethodName)) ∈ lw_all := lw_g (lw_at lw_m7 106 rfl) rfl
theorem q1715 : (Jvm.Cond.methodLink "MergeWorkbenchLaw" (167 : Nat) ({ cls := "MergeWorkbenchLaw", name := "feed", desc := "(LMergeWorkbench;C[J)I" } : Jvm.MethodName)) ∈ lw_all := lw_g (lw_at lw_m7 192 rfl) rfl
theorem q1716 : (Jvm.Cond.static ({ cls := "MergeWorkbenchLaw", name := "feed", desc := "(LMergeWorkbench;C[J)I" } : Jvm.MethodName)) ∈ lw_all := lw_g (lw_at lw_m7 193 rfl) rfl
theorem q1717 : (Jvm.Cond.codeWith ({ cls := "MergeWorkbenchLaw", name := "feed", desc := "(LMergeWorkbench;C[J)I" } : Jvm.MethodName) method_11_code (4 : Nat) (Option.some Jvm.ClassFile.FieldType.int) [((0 : Nat), (9 : Nat), (12 : Nat), (15 : Nat))]) ∈ lw_all := lw_g (lw_at lw_m7 194 rfl) rfl
theorem q1718 : (Jvm.Cond.methodLink "MergeWorkbenchLaw" (43 : Nat) ({ cls := "MergeWorkbench", name := "feed", desc := "(C)I" } : Jvm.MethodName)) ∈ lw_all := lw_g (lw_at lw_m7 195 rfl) rfl
theorem q1743 : (Jvm.Cond.methodLink "MergeWorkbenchLaw" (171 : Nat) ({ cls := "MergeWorkbenchLaw", name := "readDocument", desc := "(LMergeWorkbench;I[J)I" } : Jvm.MethodName)) ∈ lw_all := lw_g (lw_at lw_m7 220 rfl) rfl
theorem q1744 : (Jvm.Cond.static ({ cls := "MergeWorkbenchLaw", name := "readDocument", desc := "(LMergeWorkbench;I[J)I" } : Jvm.MethodName)) ∈ lw_all := lw_g (lw_at lw_m7 221 rfl) rfl
theorem q1745 : (Jvm.Cond.codeWith ({ cls := "MergeWorkbenchLaw", name := "readDocument", desc := "(LMergeWorkbench;I[J)I" } : Jvm.MethodName) method_12_code (4 : Nat) (Option.some Jvm.ClassFile.FieldType.int) [((0 : Nat), (9 : Nat), (12 : Nat), (13 : Nat)), ((0 : Nat), (9 : Nat), (15 : Nat), (15 : Nat))]) ∈ lw_all := lw_g (lw_at lw_m7 222 rfl) rfl
theorem q1746 : (Jvm.Cond.methodLink "MergeWorkbenchLaw" (47 : Nat) ({ cls := "MergeWorkbench", name := "readDocument", desc := "(I)I" } : Jvm.MethodName)) ∈ lw_all := lw_g (lw_at lw_m7 223 rfl) rfl
theorem q2170 : (Jvm.Cond.methodLink "MergeWorkbenchLaw" (174 : Nat) ({ cls := "MergeWorkbenchLaw", name := "setMode", desc := "(LMergeWorkbench;I[J)I" } : Jvm.MethodName)) ∈ lw_all := lw_g (lw_at lw_m9 167 rfl) rfl
theorem q2171 : (Jvm.Cond.static ({ cls := "MergeWorkbenchLaw", name := "setMode", desc := "(LMergeWorkbench;I[J)I" } : Jvm.MethodName)) ∈ lw_all := lw_g (lw_at lw_m9 168 rfl) rfl
theorem q2172 : (Jvm.Cond.codeWith ({ cls := "MergeWorkbenchLaw", name := "setMode", desc := "(LMergeWorkbench;I[J)I" } : Jvm.MethodName) method_13_code (4 : Nat) (Option.some Jvm.ClassFile.FieldType.int) [((0 : Nat), (9 : Nat), (12 : Nat), (13 : Nat))]) ∈ lw_all := lw_g (lw_at lw_m9 169 rfl) rfl
theorem q2173 : (Jvm.Cond.methodLink "MergeWorkbenchLaw" (50 : Nat) ({ cls := "MergeWorkbench", name := "setMode", desc := "(I)I" } : Jvm.MethodName)) ∈ lw_all := lw_g (lw_at lw_m9 170 rfl) rfl
theorem q2177 : (Jvm.Cond.methodLink "MergeWorkbenchLaw" (177 : Nat) ({ cls := "MergeWorkbenchLaw", name := "compare", desc := "(LMergeWorkbench;II[J)I" } : Jvm.MethodName)) ∈ lw_all := lw_g (lw_at lw_m9 174 rfl) rfl
theorem q2178 : (Jvm.Cond.static ({ cls := "MergeWorkbenchLaw", name := "compare", desc := "(LMergeWorkbench;II[J)I" } : Jvm.MethodName)) ∈ lw_all := lw_g (lw_at lw_m9 175 rfl) rfl
theorem q2179 : (Jvm.Cond.codeWith ({ cls := "MergeWorkbenchLaw", name := "compare", desc := "(LMergeWorkbench;II[J)I" } : Jvm.MethodName) method_14_code (5 : Nat) (Option.some Jvm.ClassFile.FieldType.int) [((0 : Nat), (10 : Nat), (13 : Nat), (13 : Nat))]) ∈ lw_all := lw_g (lw_at lw_m9 176 rfl) rfl
theorem q2180 : (Jvm.Cond.methodLink "MergeWorkbenchLaw" (53 : Nat) ({ cls := "MergeWorkbench", name := "compare", desc := "(II)I" } : Jvm.MethodName)) ∈ lw_all := lw_g (lw_at lw_m9 177 rfl) rfl
theorem q2450 : (Jvm.Cond.methodLink "MergeWorkbenchLaw" (180 : Nat) ({ cls := "MergeWorkbenchLaw", name := "partner", desc := "(LMergeWorkbench;I[J)I" } : Jvm.MethodName)) ∈ lw_all := lw_g (lw_at lw_m10 207 rfl) rfl
theorem q2451 : (Jvm.Cond.static ({ cls := "MergeWorkbenchLaw", name := "partner", desc := "(LMergeWorkbench;I[J)I" } : Jvm.MethodName)) ∈ lw_all := lw_g (lw_at lw_m10 208 rfl) rfl
theorem q2452 : (Jvm.Cond.codeWith ({ cls := "MergeWorkbenchLaw", name := "partner", desc := "(LMergeWorkbench;I[J)I" } : Jvm.MethodName) method_15_code (4 : Nat) (Option.some Jvm.ClassFile.FieldType.int) [((0 : Nat), (9 : Nat), (12 : Nat), (15 : Nat)), ((0 : Nat), (9 : Nat), (15 : Nat), (21 : Nat))]) ∈ lw_all := lw_g (lw_at lw_m10 209 rfl) rfl
theorem q2453 : (Jvm.Cond.methodLink "MergeWorkbenchLaw" (56 : Nat) ({ cls := "MergeWorkbench", name := "partner", desc := "(I)I" } : Jvm.MethodName)) ∈ lw_all := lw_g (lw_at lw_m10 210 rfl) rfl
theorem q2467 : (Jvm.Cond.methodLink "MergeWorkbenchLaw" (183 : Nat) ({ cls := "MergeWorkbenchLaw", name := "anchors", desc := "(LMergeWorkbench;[J)I" } : Jvm.MethodName)) ∈ lw_all := lw_g (lw_at lw_m10 224 rfl) rfl
theorem q2468 : (Jvm.Cond.static ({ cls := "MergeWorkbenchLaw", name := "anchors", desc := "(LMergeWorkbench;[J)I" } : Jvm.MethodName)) ∈ lw_all := lw_g (lw_at lw_m10 225 rfl) rfl
theorem q2469 : (Jvm.Cond.codeWith ({ cls := "MergeWorkbenchLaw", name := "anchors", desc := "(LMergeWorkbench;[J)I" } : Jvm.MethodName) method_16_code (3 : Nat) (Option.some Jvm.ClassFile.FieldType.int) [((0 : Nat), (8 : Nat), (11 : Nat), (15 : Nat))]) ∈ lw_all := lw_g (lw_at lw_m10 226 rfl) rfl
theorem q2470 : (Jvm.Cond.methodLink "MergeWorkbenchLaw" (59 : Nat) ({ cls := "MergeWorkbench", name := "anchors", desc := "()I" } : Jvm.MethodName)) ∈ lw_all := lw_g (lw_at lw_m10 227 rfl) rfl
theorem q2474 : (Jvm.Cond.methodLink "MergeWorkbenchLaw" (187 : Nat) ({ cls := "MergeWorkbenchLaw", name := "differences", desc := "(LMergeWorkbench;[J)I" } : Jvm.MethodName)) ∈ lw_all := lw_g (lw_at lw_m10 231 rfl) rfl
theorem q2475 : (Jvm.Cond.static ({ cls := "MergeWorkbenchLaw", name := "differences", desc := "(LMergeWorkbench;[J)I" } : Jvm.MethodName)) ∈ lw_all := lw_g (lw_at lw_m10 232 rfl) rfl
theorem q2476 : (Jvm.Cond.codeWith ({ cls := "MergeWorkbenchLaw", name := "differences", desc := "(LMergeWorkbench;[J)I" } : Jvm.MethodName) method_17_code (3 : Nat) (Option.some Jvm.ClassFile.FieldType.int) [((0 : Nat), (8 : Nat), (11 : Nat), (15 : Nat))]) ∈ lw_all := lw_g (lw_at lw_m10 233 rfl) rfl
theorem q2477 : (Jvm.Cond.methodLink "MergeWorkbenchLaw" (63 : Nat) ({ cls := "MergeWorkbench", name := "differences", desc := "()I" } : Jvm.MethodName)) ∈ lw_all := lw_g (lw_at lw_m10 234 rfl) rfl
theorem q2481 : (Jvm.Cond.methodLink "MergeWorkbenchLaw" (190 : Nat) ({ cls := "MergeWorkbenchLaw", name := "difference", desc := "(LMergeWorkbench;II[J)I" } : Jvm.MethodName)) ∈ lw_all := lw_g (lw_at lw_m10 238 rfl) rfl
theorem q2482 : (Jvm.Cond.static ({ cls := "MergeWorkbenchLaw", name := "difference", desc := "(LMergeWorkbench;II[J)I" } : Jvm.MethodName)) ∈ lw_all := lw_g (lw_at lw_m10 239 rfl) rfl
theorem q2483 : (Jvm.Cond.codeWith ({ cls := "MergeWorkbenchLaw", name := "difference", desc := "(LMergeWorkbench;II[J)I" } : Jvm.MethodName) method_18_code (5 : Nat) (Option.some Jvm.ClassFile.FieldType.int) [((0 : Nat), (10 : Nat), (13 : Nat), (15 : Nat)), ((0 : Nat), (10 : Nat), (17 : Nat), (21 : Nat)), ((0 : Nat), (10 : Nat), (21 : Nat), (13 : Nat))]) ∈ lw_all := lw_g (lw_at lw_m11 0 rfl) rfl
theorem q2484 : (Jvm.Cond.methodLink "MergeWorkbenchLaw" (66 : Nat) ({ cls := "MergeWorkbench", name := "difference", desc := "(II)I" } : Jvm.MethodName)) ∈ lw_all := lw_g (lw_at lw_m11 1 rfl) rfl
theorem q2493 : (Jvm.Cond.methodLink "MergeWorkbenchLaw" (193 : Nat) ({ cls := "MergeWorkbenchLaw", name := "step", desc := "(LMergeWorkbench;I[J)I" } : Jvm.MethodName)) ∈ lw_all := lw_g (lw_at lw_m11 10 rfl) rfl
theorem q2494 : (Jvm.Cond.static ({ cls := "MergeWorkbenchLaw", name := "step", desc := "(LMergeWorkbench;I[J)I" } : Jvm.MethodName)) ∈ lw_all := lw_g (lw_at lw_m11 11 rfl) rfl
theorem q2495 : (Jvm.Cond.codeWith ({ cls := "MergeWorkbenchLaw", name := "step", desc := "(LMergeWorkbench;I[J)I" } : Jvm.MethodName) method_19_code (4 : Nat) (Option.some Jvm.ClassFile.FieldType.int) [((0 : Nat), (9 : Nat), (12 : Nat), (15 : Nat)), ((0 : Nat), (9 : Nat), (15 : Nat), (72 : Nat))]) ∈ lw_all := lw_g (lw_at lw_m11 12 rfl) rfl
theorem q2496 : (Jvm.Cond.classLink "MergeWorkbenchLaw" (72 : Nat) "java/util/NoSuchElementException") ∈ lw_all := lw_g (lw_at lw_m11 13 rfl) rfl
theorem q2497 : (Jvm.Cond.methodLink "MergeWorkbenchLaw" (69 : Nat) ({ cls := "MergeWorkbench", name := "step", desc := "(I)I" } : Jvm.MethodName)) ∈ lw_all := lw_g (lw_at lw_m11 14 rfl) rfl
theorem q2525 : (Jvm.Cond.methodLink "MergeWorkbenchLaw" (196 : Nat) ({ cls := "MergeWorkbenchLaw", name := "similarity", desc := "(LMergeWorkbench;[D)I" } : Jvm.MethodName)) ∈ lw_all := lw_g (lw_at lw_m11 42 rfl) rfl
theorem q2526 : (Jvm.Cond.static ({ cls := "MergeWorkbenchLaw", name := "similarity", desc := "(LMergeWorkbench;[D)I" } : Jvm.MethodName)) ∈ lw_all := lw_g (lw_at lw_m11 43 rfl) rfl
theorem q2527 : (Jvm.Cond.codeWith ({ cls := "MergeWorkbenchLaw", name := "similarity", desc := "(LMergeWorkbench;[D)I" } : Jvm.MethodName) method_20_code (3 : Nat) (Option.some Jvm.ClassFile.FieldType.int) [((0 : Nat), (7 : Nat), (10 : Nat), (15 : Nat)), ((0 : Nat), (7 : Nat), (13 : Nat), (78 : Nat))]) ∈ lw_all := lw_g (lw_at lw_m11 44 rfl) rfl
theorem q2528 : (Jvm.Cond.classLink "MergeWorkbenchLaw" (78 : Nat) "java/lang/ArithmeticException") ∈ lw_all := lw_g (lw_at lw_m11 45 rfl) rfl
theorem q2542 : (Jvm.Cond.methodLink "MergeWorkbenchLaw" (74 : Nat) ({ cls := "MergeWorkbench", name := "similarity", desc := "()D" } : Jvm.MethodName)) ∈ lw_all := lw_g (lw_at lw_m11 59 rfl) rfl
theorem q2551 : (Jvm.Cond.methodLink "MergeWorkbenchLaw" (200 : Nat) ({ cls := "MergeWorkbenchLaw", name := "findMoves", desc := "(LMergeWorkbench;I[J)I" } : Jvm.MethodName)) ∈ lw_all := lw_g (lw_at lw_m11 68 rfl) rfl
theorem q2552 : (Jvm.Cond.static ({ cls := "MergeWorkbenchLaw", name := "findMoves", desc := "(LMergeWorkbench;I[J)I" } : Jvm.MethodName)) ∈ lw_all := lw_g (lw_at lw_m11 69 rfl) rfl
theorem q2553 : (Jvm.Cond.codeWith ({ cls := "MergeWorkbenchLaw", name := "findMoves", desc := "(LMergeWorkbench;I[J)I" } : Jvm.MethodName) method_21_code (4 : Nat) (Option.some Jvm.ClassFile.FieldType.int) [((0 : Nat), (9 : Nat), (12 : Nat), (13 : Nat)), ((0 : Nat), (9 : Nat), (15 : Nat), (15 : Nat))]) ∈ lw_all := lw_g (lw_at lw_m11 70 rfl) rfl
theorem q2554 : (Jvm.Cond.methodLink "MergeWorkbenchLaw" (80 : Nat) ({ cls := "MergeWorkbench", name := "findMoves", desc := "(I)I" } : Jvm.MethodName)) ∈ lw_all := lw_g (lw_at lw_m11 71 rfl) rfl
theorem q2767 : (Jvm.Cond.methodLink "MergeWorkbenchLaw" (203 : Nat) ({ cls := "MergeWorkbenchLaw", name := "move", desc := "(LMergeWorkbench;II[J)I" } : Jvm.MethodName)) ∈ lw_all := lw_g (lw_at lw_m12 44 rfl) rfl
theorem q2768 : (Jvm.Cond.static ({ cls := "MergeWorkbenchLaw", name := "move", desc := "(LMergeWorkbench;II[J)I" } : Jvm.MethodName)) ∈ lw_all := lw_g (lw_at lw_m12 45 rfl) rfl
theorem q2769 : (Jvm.Cond.codeWith ({ cls := "MergeWorkbenchLaw", name := "move", desc := "(LMergeWorkbench;II[J)I" } : Jvm.MethodName) method_22_code (5 : Nat) (Option.some Jvm.ClassFile.FieldType.int) [((0 : Nat), (10 : Nat), (13 : Nat), (21 : Nat)), ((0 : Nat), (10 : Nat), (17 : Nat), (13 : Nat))]) ∈ lw_all := lw_g (lw_at lw_m12 46 rfl) rfl
theorem q2770 : (Jvm.Cond.methodLink "MergeWorkbenchLaw" (83 : Nat) ({ cls := "MergeWorkbench", name := "move", desc := "(II)I" } : Jvm.MethodName)) ∈ lw_all := lw_g (lw_at lw_m12 47 rfl) rfl
theorem q2779 : (Jvm.Cond.methodLink "MergeWorkbenchLaw" (211 : Nat) ({ cls := "MergeWorkbenchLaw", name := "merge", desc := "(LMergeWorkbench;III[J)I" } : Jvm.MethodName)) ∈ lw_all := lw_g (lw_at lw_m12 56 rfl) rfl
theorem q2780 : (Jvm.Cond.static ({ cls := "MergeWorkbenchLaw", name := "merge", desc := "(LMergeWorkbench;III[J)I" } : Jvm.MethodName)) ∈ lw_all := lw_g (lw_at lw_m12 57 rfl) rfl
theorem q2781 : (Jvm.Cond.codeWith ({ cls := "MergeWorkbenchLaw", name := "merge", desc := "(LMergeWorkbench;III[J)I" } : Jvm.MethodName) method_23_code (6 : Nat) (Option.some Jvm.ClassFile.FieldType.int) [((0 : Nat), (12 : Nat), (15 : Nat), (13 : Nat))]) ∈ lw_all := lw_g (lw_at lw_m12 58 rfl) rfl
theorem q2782 : (Jvm.Cond.methodLink "MergeWorkbenchLaw" (86 : Nat) ({ cls := "MergeWorkbench", name := "merge", desc := "(III)I" } : Jvm.MethodName)) ∈ lw_all := lw_g (lw_at lw_m12 59 rfl) rfl
theorem q2994 : (Jvm.Cond.methodLink "MergeWorkbenchLaw" (214 : Nat) ({ cls := "MergeWorkbenchLaw", name := "chunks", desc := "(LMergeWorkbench;[J)I" } : Jvm.MethodName)) ∈ lw_all := lw_g (lw_at lw_m13 31 rfl) rfl
theorem q2995 : (Jvm.Cond.static ({ cls := "MergeWorkbenchLaw", name := "chunks", desc := "(LMergeWorkbench;[J)I" } : Jvm.MethodName)) ∈ lw_all := lw_g (lw_at lw_m13 32 rfl) rfl
theorem q2996 : (Jvm.Cond.codeWith ({ cls := "MergeWorkbenchLaw", name := "chunks", desc := "(LMergeWorkbench;[J)I" } : Jvm.MethodName) method_24_code (3 : Nat) (Option.some Jvm.ClassFile.FieldType.int) [((0 : Nat), (8 : Nat), (11 : Nat), (15 : Nat))]) ∈ lw_all := lw_g (lw_at lw_m13 33 rfl) rfl
theorem q2997 : (Jvm.Cond.methodLink "MergeWorkbenchLaw" (89 : Nat) ({ cls := "MergeWorkbench", name := "chunks", desc := "()I" } : Jvm.MethodName)) ∈ lw_all := lw_g (lw_at lw_m13 34 rfl) rfl
theorem q3005 : (Jvm.Cond.methodLink "MergeWorkbenchLaw" (217 : Nat) ({ cls := "MergeWorkbenchLaw", name := "chunk", desc := "(LMergeWorkbench;II[J)I" } : Jvm.MethodName)) ∈ lw_all := lw_g (lw_at lw_m13 42 rfl) rfl
theorem q3006 : (Jvm.Cond.static ({ cls := "MergeWorkbenchLaw", name := "chunk", desc := "(LMergeWorkbench;II[J)I" } : Jvm.MethodName)) ∈ lw_all := lw_g (lw_at lw_m13 43 rfl) rfl
theorem q3007 : (Jvm.Cond.codeWith ({ cls := "MergeWorkbenchLaw", name := "chunk", desc := "(LMergeWorkbench;II[J)I" } : Jvm.MethodName) method_25_code (5 : Nat) (Option.some Jvm.ClassFile.FieldType.int) [((0 : Nat), (10 : Nat), (13 : Nat), (15 : Nat)), ((0 : Nat), (10 : Nat), (17 : Nat), (21 : Nat)), ((0 : Nat), (10 : Nat), (21 : Nat), (13 : Nat))]) ∈ lw_all := lw_g (lw_at lw_m13 44 rfl) rfl
theorem q3008 : (Jvm.Cond.methodLink "MergeWorkbenchLaw" (92 : Nat) ({ cls := "MergeWorkbench", name := "chunk", desc := "(II)I" } : Jvm.MethodName)) ∈ lw_all := lw_g (lw_at lw_m13 45 rfl) rfl
theorem q3017 : (Jvm.Cond.methodLink "MergeWorkbenchLaw" (220 : Nat) ({ cls := "MergeWorkbenchLaw", name := "resolve", desc := "(LMergeWorkbench;II[J)I" } : Jvm.MethodName)) ∈ lw_all := lw_g (lw_at lw_m13 54 rfl) rfl
theorem q3018 : (Jvm.Cond.static ({ cls := "MergeWorkbenchLaw", name := "resolve", desc := "(LMergeWorkbench;II[J)I" } : Jvm.MethodName)) ∈ lw_all := lw_g (lw_at lw_m13 55 rfl) rfl
theorem q3019 : (Jvm.Cond.codeWith ({ cls := "MergeWorkbenchLaw", name := "resolve", desc := "(LMergeWorkbench;II[J)I" } : Jvm.MethodName) method_26_code (5 : Nat) (Option.some Jvm.ClassFile.FieldType.int) [((0 : Nat), (10 : Nat), (13 : Nat), (15 : Nat)), ((0 : Nat), (10 : Nat), (17 : Nat), (72 : Nat)), ((0 : Nat), (10 : Nat), (21 : Nat), (13 : Nat))]) ∈ lw_all := lw_g (lw_at lw_m13 56 rfl) rfl
theorem q3020 : (Jvm.Cond.methodLink "MergeWorkbenchLaw" (95 : Nat) ({ cls := "MergeWorkbench", name := "resolve", desc := "(II)I" } : Jvm.MethodName)) ∈ lw_all := lw_g (lw_at lw_m13 57 rfl) rfl
theorem q3037 : (Jvm.Cond.methodLink "MergeWorkbenchLaw" (223 : Nat) ({ cls := "MergeWorkbenchLaw", name := "unresolved", desc := "(LMergeWorkbench;[J)I" } : Jvm.MethodName)) ∈ lw_all := lw_g (lw_at lw_m13 74 rfl) rfl
theorem q3038 : (Jvm.Cond.static ({ cls := "MergeWorkbenchLaw", name := "unresolved", desc := "(LMergeWorkbench;[J)I" } : Jvm.MethodName)) ∈ lw_all := lw_g (lw_at lw_m13 75 rfl) rfl
theorem q3039 : (Jvm.Cond.codeWith ({ cls := "MergeWorkbenchLaw", name := "unresolved", desc := "(LMergeWorkbench;[J)I" } : Jvm.MethodName) method_27_code (3 : Nat) (Option.some Jvm.ClassFile.FieldType.int) [((0 : Nat), (8 : Nat), (11 : Nat), (15 : Nat))]) ∈ lw_all := lw_g (lw_at lw_m13 76 rfl) rfl
theorem q3040 : (Jvm.Cond.methodLink "MergeWorkbenchLaw" (98 : Nat) ({ cls := "MergeWorkbench", name := "unresolved", desc := "()I" } : Jvm.MethodName)) ∈ lw_all := lw_g (lw_at lw_m13 77 rfl) rfl
theorem q3058 : (Jvm.Cond.methodLink "MergeWorkbenchLaw" (226 : Nat) ({ cls := "MergeWorkbenchLaw", name := "mergedLength", desc := "(LMergeWorkbench;[J)I" } : Jvm.MethodName)) ∈ lw_all := lw_g (lw_at lw_m13 95 rfl) rfl
theorem q3059 : (Jvm.Cond.static ({ cls := "MergeWorkbenchLaw", name := "mergedLength", desc := "(LMergeWorkbench;[J)I" } : Jvm.MethodName)) ∈ lw_all := lw_g (lw_at lw_m13 96 rfl) rfl
theorem q3060 : (Jvm.Cond.codeWith ({ cls := "MergeWorkbenchLaw", name := "mergedLength", desc := "(LMergeWorkbench;[J)I" } : Jvm.MethodName) method_28_code (3 : Nat) (Option.some Jvm.ClassFile.FieldType.int) [((0 : Nat), (8 : Nat), (11 : Nat), (15 : Nat))]) ∈ lw_all := lw_g (lw_at lw_m13 97 rfl) rfl
theorem q3061 : (Jvm.Cond.methodLink "MergeWorkbenchLaw" (101 : Nat) ({ cls := "MergeWorkbench", name := "mergedLength", desc := "()I" } : Jvm.MethodName)) ∈ lw_all := lw_g (lw_at lw_m13 98 rfl) rfl
theorem q3070 : (Jvm.Cond.methodLink "MergeWorkbenchLaw" (229 : Nat) ({ cls := "MergeWorkbenchLaw", name := "merged", desc := "(LMergeWorkbench;I[J)I" } : Jvm.MethodName)) ∈ lw_all := lw_g (lw_at lw_m13 107 rfl) rfl
theorem q3071 : (Jvm.Cond.static ({ cls := "MergeWorkbenchLaw", name := "merged", desc := "(LMergeWorkbench;I[J)I" } : Jvm.MethodName)) ∈ lw_all := lw_g (lw_at lw_m13 108 rfl) rfl
theorem q3072 : (Jvm.Cond.codeWith ({ cls := "MergeWorkbenchLaw", name := "merged", desc := "(LMergeWorkbench;I[J)I" } : Jvm.MethodName) method_29_code (4 : Nat) (Option.some Jvm.ClassFile.FieldType.int) [((0 : Nat), (9 : Nat), (12 : Nat), (15 : Nat)), ((0 : Nat), (9 : Nat), (15 : Nat), (21 : Nat))]) ∈ lw_all := lw_g (lw_at lw_m13 109 rfl) rfl
theorem q3073 : (Jvm.Cond.methodLink "MergeWorkbenchLaw" (104 : Nat) ({ cls := "MergeWorkbench", name := "merged", desc := "(I)I" } : Jvm.MethodName)) ∈ lw_all := lw_g (lw_at lw_m13 110 rfl) rfl
theorem q3077 : (Jvm.Cond.methodLink "MergeWorkbenchLaw" (232 : Nat) ({ cls := "MergeWorkbenchLaw", name := "accept", desc := "(LMergeWorkbench;I[J)I" } : Jvm.MethodName)) ∈ lw_all := lw_g (lw_at lw_m13 114 rfl) rfl
theorem q3078 : (Jvm.Cond.static ({ cls := "MergeWorkbenchLaw", name := "accept", desc := "(LMergeWorkbench;I[J)I" } : Jvm.MethodName)) ∈ lw_all := lw_g (lw_at lw_m13 115 rfl) rfl
theorem q3079 : (Jvm.Cond.codeWith ({ cls := "MergeWorkbenchLaw", name := "accept", desc := "(LMergeWorkbench;I[J)I" } : Jvm.MethodName) method_30_code (4 : Nat) (Option.some Jvm.ClassFile.FieldType.int) [((0 : Nat), (9 : Nat), (12 : Nat), (13 : Nat)), ((0 : Nat), (9 : Nat), (15 : Nat), (15 : Nat)), ((0 : Nat), (9 : Nat), (18 : Nat), (110 : Nat))]) ∈ lw_all := lw_g (lw_at lw_m13 116 rfl) rfl
theorem q3080 : (Jvm.Cond.classLink "MergeWorkbenchLaw" (110 : Nat) "java/lang/UnsupportedOperationException") ∈ lw_all := lw_g (lw_at lw_m13 117 rfl) rfl
theorem q3081 : (Jvm.Cond.methodLink "MergeWorkbenchLaw" (107 : Nat) ({ cls := "MergeWorkbench", name := "accept", desc := "(I)I" } : Jvm.MethodName)) ∈ lw_all := lw_g (lw_at lw_m13 118 rfl) rfl
theorem q3087 : (Jvm.Cond.methodLink "MergeWorkbenchLaw" (235 : Nat) ({ cls := "MergeWorkbenchLaw", name := "makePatch", desc := "(LMergeWorkbench;I[J)I" } : Jvm.MethodName)) ∈ lw_all := lw_g (lw_at lw_m13 124 rfl) rfl
theorem q3088 : (Jvm.Cond.static ({ cls := "MergeWorkbenchLaw", name := "makePatch", desc := "(LMergeWorkbench;I[J)I" } : Jvm.MethodName)) ∈ lw_all := lw_g (lw_at lw_m13 125 rfl) rfl
theorem q3089 : (Jvm.Cond.codeWith ({ cls := "MergeWorkbenchLaw", name := "makePatch", desc := "(LMergeWorkbench;I[J)I" } : Jvm.MethodName) method_31_code (4 : Nat) (Option.some Jvm.ClassFile.FieldType.int) [((0 : Nat), (9 : Nat), (12 : Nat), (13 : Nat)), ((0 : Nat), (9 : Nat), (15 : Nat), (15 : Nat))]) ∈ lw_all := lw_g (lw_at lw_m13 126 rfl) rfl
theorem q3090 : (Jvm.Cond.methodLink "MergeWorkbenchLaw" (112 : Nat) ({ cls := "MergeWorkbench", name := "makePatch", desc := "(I)I" } : Jvm.MethodName)) ∈ lw_all := lw_g (lw_at lw_m13 127 rfl) rfl
theorem q3145 : (Jvm.Cond.methodLink "MergeWorkbenchLaw" (238 : Nat) ({ cls := "MergeWorkbenchLaw", name := "hunk", desc := "(LMergeWorkbench;II[J)I" } : Jvm.MethodName)) ∈ lw_all := lw_g (lw_at lw_m13 182 rfl) rfl
theorem q3146 : (Jvm.Cond.static ({ cls := "MergeWorkbenchLaw", name := "hunk", desc := "(LMergeWorkbench;II[J)I" } : Jvm.MethodName)) ∈ lw_all := lw_g (lw_at lw_m13 183 rfl) rfl
theorem q3147 : (Jvm.Cond.codeWith ({ cls := "MergeWorkbenchLaw", name := "hunk", desc := "(LMergeWorkbench;II[J)I" } : Jvm.MethodName) method_32_code (5 : Nat) (Option.some Jvm.ClassFile.FieldType.int) [((0 : Nat), (10 : Nat), (13 : Nat), (15 : Nat)), ((0 : Nat), (10 : Nat), (17 : Nat), (21 : Nat)), ((0 : Nat), (10 : Nat), (21 : Nat), (13 : Nat))]) ∈ lw_all := lw_g (lw_at lw_m13 184 rfl) rfl
theorem q3148 : (Jvm.Cond.methodLink "MergeWorkbenchLaw" (115 : Nat) ({ cls := "MergeWorkbench", name := "hunk", desc := "(II)I" } : Jvm.MethodName)) ∈ lw_all := lw_g (lw_at lw_m13 185 rfl) rfl
theorem q3162 : (Jvm.Cond.methodLink "MergeWorkbenchLaw" (241 : Nat) ({ cls := "MergeWorkbenchLaw", name := "apply", desc := "(LMergeWorkbench;IIZ[J)I" } : Jvm.MethodName)) ∈ lw_all := lw_g (lw_at lw_m13 199 rfl) rfl
theorem q3163 : (Jvm.Cond.static ({ cls := "MergeWorkbenchLaw", name := "apply", desc := "(LMergeWorkbench;IIZ[J)I" } : Jvm.MethodName)) ∈ lw_all := lw_g (lw_at lw_m13 200 rfl) rfl
theorem q3164 : (Jvm.Cond.codeWith ({ cls := "MergeWorkbenchLaw", name := "apply", desc := "(LMergeWorkbench;IIZ[J)I" } : Jvm.MethodName) method_33_code (6 : Nat) (Option.some Jvm.ClassFile.FieldType.int) [((0 : Nat), (12 : Nat), (15 : Nat), (13 : Nat)), ((0 : Nat), (12 : Nat), (19 : Nat), (15 : Nat)), ((0 : Nat), (12 : Nat), (23 : Nat), (110 : Nat))]) ∈ lw_all := lw_g (lw_at lw_m13 201 rfl) rfl
theorem q3165 : (Jvm.Cond.methodLink "MergeWorkbenchLaw" (118 : Nat) ({ cls := "MergeWorkbench", name := "apply", desc := "(IIZ)I" } : Jvm.MethodName)) ∈ lw_all := lw_g (lw_at lw_m13 202 rfl) rfl
theorem q3266 : (Jvm.Cond.methodLink "MergeWorkbenchLaw" (245 : Nat) ({ cls := "MergeWorkbenchLaw", name := "outcome", desc := "(LMergeWorkbench;II[J)I" } : Jvm.MethodName)) ∈ lw_all := lw_g (lw_at lw_m14 63 rfl) rfl
theorem q3267 : (Jvm.Cond.static ({ cls := "MergeWorkbenchLaw", name := "outcome", desc := "(LMergeWorkbench;II[J)I" } : Jvm.MethodName)) ∈ lw_all := lw_g (lw_at lw_m14 64 rfl) rfl
theorem q3268 : (Jvm.Cond.codeWith ({ cls := "MergeWorkbenchLaw", name := "outcome", desc := "(LMergeWorkbench;II[J)I" } : Jvm.MethodName) method_34_code (5 : Nat) (Option.some Jvm.ClassFile.FieldType.int) [((0 : Nat), (10 : Nat), (13 : Nat), (72 : Nat)), ((0 : Nat), (10 : Nat), (17 : Nat), (13 : Nat))]) ∈ lw_all := lw_g (lw_at lw_m14 65 rfl) rfl
theorem q3269 : (Jvm.Cond.methodLink "MergeWorkbenchLaw" (122 : Nat) ({ cls := "MergeWorkbench", name := "outcome", desc := "(II)I" } : Jvm.MethodName)) ∈ lw_all := lw_g (lw_at lw_m14 66 rfl) rfl
theorem q3274 : (Jvm.Cond.methodLink "MergeWorkbenchLaw" (248 : Nat) ({ cls := "MergeWorkbenchLaw", name := "undo", desc := "(LMergeWorkbench;[J)I" } : Jvm.MethodName)) ∈ lw_all := lw_g (lw_at lw_m14 71 rfl) rfl
theorem q3275 : (Jvm.Cond.static ({ cls := "MergeWorkbenchLaw", name := "undo", desc := "(LMergeWorkbench;[J)I" } : Jvm.MethodName)) ∈ lw_all := lw_g (lw_at lw_m14 72 rfl) rfl
theorem q3276 : (Jvm.Cond.codeWith ({ cls := "MergeWorkbenchLaw", name := "undo", desc := "(LMergeWorkbench;[J)I" } : Jvm.MethodName) method_35_code (3 : Nat) (Option.some Jvm.ClassFile.FieldType.int) [((0 : Nat), (8 : Nat), (11 : Nat), (15 : Nat))]) ∈ lw_all := lw_g (lw_at lw_m14 73 rfl) rfl
theorem q3277 : (Jvm.Cond.methodLink "MergeWorkbenchLaw" (125 : Nat) ({ cls := "MergeWorkbench", name := "undo", desc := "()I" } : Jvm.MethodName)) ∈ lw_all := lw_g (lw_at lw_m14 74 rfl) rfl
theorem q3301 : (Jvm.Cond.methodLink "MergeWorkbenchLaw" (255 : Nat) ({ cls := "MergeWorkbenchLaw", name := "restore", desc := "(LMergeWorkbench;[J)I" } : Jvm.MethodName)) ∈ lw_all := lw_g (lw_at lw_m14 98 rfl) rfl
theorem q3302 : (Jvm.Cond.static ({ cls := "MergeWorkbenchLaw", name := "restore", desc := "(LMergeWorkbench;[J)I" } : Jvm.MethodName)) ∈ lw_all := lw_g (lw_at lw_m14 99 rfl) rfl
theorem q3303 : (Jvm.Cond.codeWith ({ cls := "MergeWorkbenchLaw", name := "restore", desc := "(LMergeWorkbench;[J)I" } : Jvm.MethodName) method_36_code (3 : Nat) (Option.some Jvm.ClassFile.FieldType.int) [((0 : Nat), (8 : Nat), (11 : Nat), (15 : Nat))]) ∈ lw_all := lw_g (lw_at lw_m14 100 rfl) rfl
theorem q3304 : (Jvm.Cond.methodLink "MergeWorkbenchLaw" (128 : Nat) ({ cls := "MergeWorkbench", name := "restore", desc := "()I" } : Jvm.MethodName)) ∈ lw_all := lw_g (lw_at lw_m14 101 rfl) rfl
theorem q3368 : (Jvm.Cond.classLink "MergeWorkbenchLaw" (132 : Nat) "MergeWorkbenchModel") ∈ lw_all := lw_g (lw_at lw_m14 165 rfl) rfl
theorem q3370 : (Jvm.Cond.methodLink "MergeWorkbenchLaw" (134 : Nat) ({ cls := "MergeWorkbenchModel", name := "<init>", desc := "()V" } : Jvm.MethodName)) ∈ lw_all := lw_g (lw_at lw_m14 167 rfl) rfl
theorem q3559 : (Jvm.Cond.methodLink "MergeWorkbenchLaw" (141 : Nat) ({ cls := "MergeWorkbenchModel", name := "thrown", desc := "()I" } : Jvm.MethodName)) ∈ lw_all := lw_g (lw_at lw_m15 116 rfl) rfl
theorem q3563 : (Jvm.Cond.methodLink "MergeWorkbenchLaw" (140 : Nat) ({ cls := "MergeWorkbenchModel", name := "append", desc := "(II)I" } : Jvm.MethodName)) ∈ lw_all := lw_g (lw_at lw_m15 120 rfl) rfl
theorem q3585 : (Jvm.Cond.methodLink "MergeWorkbenchLaw" (147 : Nat) ({ cls := "MergeWorkbenchModel", name := "insert", desc := "(III)I" } : Jvm.MethodName)) ∈ lw_all := lw_g (lw_at lw_m15 142 rfl) rfl
theorem q3589 : (Jvm.Cond.methodLink "MergeWorkbenchLaw" (150 : Nat) ({ cls := "MergeWorkbenchModel", name := "delete", desc := "(II)I" } : Jvm.MethodName)) ∈ lw_all := lw_g (lw_at lw_m15 146 rfl) rfl
theorem q3593 : (Jvm.Cond.methodLink "MergeWorkbenchLaw" (154 : Nat) ({ cls := "MergeWorkbenchModel", name := "length", desc := "(I)I" } : Jvm.MethodName)) ∈ lw_all := lw_g (lw_at lw_m15 150 rfl) rfl
theorem q3597 : (Jvm.Cond.methodLink "MergeWorkbenchLaw" (157 : Nat) ({ cls := "MergeWorkbenchModel", name := "line", desc := "(II)I" } : Jvm.MethodName)) ∈ lw_all := lw_g (lw_at lw_m15 154 rfl) rfl
theorem q3601 : (Jvm.Cond.methodLink "MergeWorkbenchLaw" (160 : Nat) ({ cls := "MergeWorkbenchModel", name := "copy", desc := "(II)I" } : Jvm.MethodName)) ∈ lw_all := lw_g (lw_at lw_m15 158 rfl) rfl
theorem q3609 : (Jvm.Cond.methodLink "MergeWorkbenchLaw" (163 : Nat) ({ cls := "MergeWorkbenchModel", name := "isSame", desc := "(II)Z" } : Jvm.MethodName)) ∈ lw_all := lw_g (lw_at lw_m15 166 rfl) rfl
theorem q3621 : (Jvm.Cond.methodLink "MergeWorkbenchLaw" (170 : Nat) ({ cls := "MergeWorkbenchModel", name := "feed", desc := "(C)I" } : Jvm.MethodName)) ∈ lw_all := lw_g (lw_at lw_m15 178 rfl) rfl
theorem q3625 : (Jvm.Cond.methodLink "MergeWorkbenchLaw" (173 : Nat) ({ cls := "MergeWorkbenchModel", name := "readDocument", desc := "(I)I" } : Jvm.MethodName)) ∈ lw_all := lw_g (lw_at lw_m15 182 rfl) rfl
theorem q3644 : (Jvm.Cond.methodLink "MergeWorkbenchLaw" (166 : Nat) ({ cls := "MergeWorkbenchModel", name := "distance", desc := "(II)I" } : Jvm.MethodName)) ∈ lw_all := lw_g (lw_at lw_m15 201 rfl) rfl
theorem q3663 : (Jvm.Cond.methodLink "MergeWorkbenchLaw" (176 : Nat) ({ cls := "MergeWorkbenchModel", name := "setMode", desc := "(I)I" } : Jvm.MethodName)) ∈ lw_all := lw_g (lw_at lw_m15 220 rfl) rfl
theorem q3667 : (Jvm.Cond.methodLink "MergeWorkbenchLaw" (179 : Nat) ({ cls := "MergeWorkbenchModel", name := "compare", desc := "(II)I" } : Jvm.MethodName)) ∈ lw_all := lw_g (lw_at lw_m15 224 rfl) rfl
theorem q3694 : (Jvm.Cond.methodLink "MergeWorkbenchLaw" (182 : Nat) ({ cls := "MergeWorkbenchModel", name := "partner", desc := "(I)I" } : Jvm.MethodName)) ∈ lw_all := lw_g (lw_at lw_m16 11 rfl) rfl
theorem q3698 : (Jvm.Cond.methodLink "MergeWorkbenchLaw" (186 : Nat) ({ cls := "MergeWorkbenchModel", name := "anchors", desc := "()I" } : Jvm.MethodName)) ∈ lw_all := lw_g (lw_at lw_m16 15 rfl) rfl
theorem q3702 : (Jvm.Cond.methodLink "MergeWorkbenchLaw" (189 : Nat) ({ cls := "MergeWorkbenchModel", name := "differences", desc := "()I" } : Jvm.MethodName)) ∈ lw_all := lw_g (lw_at lw_m16 19 rfl) rfl
theorem q3706 : (Jvm.Cond.methodLink "MergeWorkbenchLaw" (192 : Nat) ({ cls := "MergeWorkbenchModel", name := "difference", desc := "(II)I" } : Jvm.MethodName)) ∈ lw_all := lw_g (lw_at lw_m16 23 rfl) rfl
theorem q3710 : (Jvm.Cond.methodLink "MergeWorkbenchLaw" (195 : Nat) ({ cls := "MergeWorkbenchModel", name := "step", desc := "(I)I" } : Jvm.MethodName)) ∈ lw_all := lw_g (lw_at lw_m16 27 rfl) rfl
theorem q3714 : (Jvm.Cond.methodLink "MergeWorkbenchLaw" (199 : Nat) ({ cls := "MergeWorkbenchModel", name := "similarity", desc := "()D" } : Jvm.MethodName)) ∈ lw_all := lw_g (lw_at lw_m16 31 rfl) rfl
theorem q3718 : (Jvm.Cond.methodLink "MergeWorkbenchLaw" (202 : Nat) ({ cls := "MergeWorkbenchModel", name := "findMoves", desc := "(I)I" } : Jvm.MethodName)) ∈ lw_all := lw_g (lw_at lw_m16 35 rfl) rfl
theorem q3730 : (Jvm.Cond.methodLink "MergeWorkbenchLaw" (205 : Nat) ({ cls := "MergeWorkbenchModel", name := "move", desc := "(II)I" } : Jvm.MethodName)) ∈ lw_all := lw_g (lw_at lw_m16 47 rfl) rfl
theorem q3734 : (Jvm.Cond.methodLink "MergeWorkbenchLaw" (210 : Nat) ({ cls := "MergeWorkbenchModel", name := "setShrinking", desc := "(Z)Z" } : Jvm.MethodName)) ∈ lw_all := lw_g (lw_at lw_m16 51 rfl) rfl
theorem q3738 : (Jvm.Cond.methodLink "MergeWorkbenchLaw" (213 : Nat) ({ cls := "MergeWorkbenchModel", name := "merge", desc := "(III)I" } : Jvm.MethodName)) ∈ lw_all := lw_g (lw_at lw_m16 55 rfl) rfl
theorem q3757 : (Jvm.Cond.methodLink "MergeWorkbenchLaw" (216 : Nat) ({ cls := "MergeWorkbenchModel", name := "chunks", desc := "()I" } : Jvm.MethodName)) ∈ lw_all := lw_g (lw_at lw_m16 74 rfl) rfl
theorem q3761 : (Jvm.Cond.methodLink "MergeWorkbenchLaw" (219 : Nat) ({ cls := "MergeWorkbenchModel", name := "chunk", desc := "(II)I" } : Jvm.MethodName)) ∈ lw_all := lw_g (lw_at lw_m16 78 rfl) rfl
theorem q3765 : (Jvm.Cond.methodLink "MergeWorkbenchLaw" (222 : Nat) ({ cls := "MergeWorkbenchModel", name := "resolve", desc := "(II)I" } : Jvm.MethodName)) ∈ lw_all := lw_g (lw_at lw_m16 82 rfl) rfl
theorem q3781 : (Jvm.Cond.methodLink "MergeWorkbenchLaw" (225 : Nat) ({ cls := "MergeWorkbenchModel", name := "unresolved", desc := "()I" } : Jvm.MethodName)) ∈ lw_all := lw_g (lw_at lw_m16 98 rfl) rfl
theorem q3789 : (Jvm.Cond.methodLink "MergeWorkbenchLaw" (228 : Nat) ({ cls := "MergeWorkbenchModel", name := "mergedLength", desc := "()I" } : Jvm.MethodName)) ∈ lw_all := lw_g (lw_at lw_m16 106 rfl) rfl
theorem q3797 : (Jvm.Cond.methodLink "MergeWorkbenchLaw" (231 : Nat) ({ cls := "MergeWorkbenchModel", name := "merged", desc := "(I)I" } : Jvm.MethodName)) ∈ lw_all := lw_g (lw_at lw_m16 114 rfl) rfl
theorem q3801 : (Jvm.Cond.methodLink "MergeWorkbenchLaw" (234 : Nat) ({ cls := "MergeWorkbenchModel", name := "accept", desc := "(I)I" } : Jvm.MethodName)) ∈ lw_all := lw_g (lw_at lw_m16 118 rfl) rfl
theorem q3805 : (Jvm.Cond.methodLink "MergeWorkbenchLaw" (237 : Nat) ({ cls := "MergeWorkbenchModel", name := "makePatch", desc := "(I)I" } : Jvm.MethodName)) ∈ lw_all := lw_g (lw_at lw_m16 122 rfl) rfl
theorem q3812 : (Jvm.Cond.methodLink "MergeWorkbenchLaw" (240 : Nat) ({ cls := "MergeWorkbenchModel", name := "hunk", desc := "(II)I" } : Jvm.MethodName)) ∈ lw_all := lw_g (lw_at lw_m16 129 rfl) rfl
theorem q3816 : (Jvm.Cond.methodLink "MergeWorkbenchLaw" (244 : Nat) ({ cls := "MergeWorkbenchModel", name := "apply", desc := "(IIZ)I" } : Jvm.MethodName)) ∈ lw_all := lw_g (lw_at lw_m16 133 rfl) rfl
theorem q3832 : (Jvm.Cond.methodLink "MergeWorkbenchLaw" (247 : Nat) ({ cls := "MergeWorkbenchModel", name := "outcome", desc := "(II)I" } : Jvm.MethodName)) ∈ lw_all := lw_g (lw_at lw_m16 149 rfl) rfl
theorem q3836 : (Jvm.Cond.methodLink "MergeWorkbenchLaw" (250 : Nat) ({ cls := "MergeWorkbenchModel", name := "undo", desc := "()I" } : Jvm.MethodName)) ∈ lw_all := lw_g (lw_at lw_m16 153 rfl) rfl
theorem q3840 : (Jvm.Cond.methodLink "MergeWorkbenchLaw" (254 : Nat) ({ cls := "MergeWorkbenchModel", name := "save", desc := "()I" } : Jvm.MethodName)) ∈ lw_all := lw_g (lw_at lw_m16 157 rfl) rfl
theorem q3848 : (Jvm.Cond.methodLink "MergeWorkbenchLaw" (257 : Nat) ({ cls := "MergeWorkbenchModel", name := "restore", desc := "()I" } : Jvm.MethodName)) ∈ lw_all := lw_g (lw_at lw_m16 165 rfl) rfl

/-! MergeWorkbench -/
set_option maxRecDepth 100000
def RX1 : String := "MergeWorkbench"
def TX1 : u_T := fun k => match k with
  | 0 => ("MergeWorkbench", "documents", "Ljava/util/List;", true)
  | 1 => ("MergeWorkbench", "history", "LMergeWorkbench$History;", true)
  | 2 => ("MergeWorkbench", "input", "Ljava/lang/StringBuilder;", true)
  | 3 => ("MergeWorkbench", "mode", "I", false)
  | 4 => ("MergeWorkbench", "shrinks", "Z", false)
  | 5 => ("MergeWorkbench", "comparison", "LMergeWorkbench$Comparison;", false)
  | 6 => ("MergeWorkbench", "merge", "LMergeWorkbench$Merge;", false)
  | 7 => ("MergeWorkbench", "patch", "LMergeWorkbench$Patch;", false)
  | 8 => ("MergeWorkbench", "saved", "Ljava/util/List;", false)
  | _ => ("MergeWorkbench", "savedMode", "I", false)
def tyX1 : Nat → FieldType := fun k => match k with
  | 0 => .object "java/util/List"
  | 1 => .object "MergeWorkbench$History"
  | 2 => .object "java/lang/StringBuilder"
  | 3 => .int
  | 4 => .boolean
  | 5 => .object "MergeWorkbench$Comparison"
  | 6 => .object "MergeWorkbench$Merge"
  | 7 => .object "MergeWorkbench$Patch"
  | 8 => .object "java/util/List"
  | _ => .int
abbrev wsX10 : List Cond := u_ws RX1 TX1 10
theorem nmX1 : ∀ a, a < 10 → ∀ b, b < 10 → a ≠ b → (TX1 a).2.1 ≠ (TX1 b).2.1 := by decide +kernel
theorem tyX1_ok : ∀ k, k < 10 → parseFieldDescriptor (TX1 k).2.2.1 = some (tyX1 k) := by decide +kernel
abbrev cX1_init : ByteArray := prog_1_method_6_code
def yX1_init : MethodName := ⟨RX1, "<init>", "()V"⟩
def dkwX1_init_3 : List UInt8 := [167, 255, 231, 177]
abbrev dktX1_init_3 : List UInt8 := dkwX1_init_3 ++ []
def dkwX1_init_2 : List UInt8 := [162, 0, 26, 42, 180, 0, 25, 187, 0, 22, 89, 183, 0, 24, 185, 0, 47, 2, 0, 87, 132, 1, 1]
abbrev dktX1_init_2 : List UInt8 := dkwX1_init_2 ++ dktX1_init_3
def dkwX1_init_1 : List UInt8 := [181, 0, 32, 42, 187, 0, 36, 89, 183, 0, 38, 181, 0, 39, 42, 4, 181, 0, 43, 3, 60, 27, 7]
abbrev dktX1_init_1 : List UInt8 := dkwX1_init_1 ++ dktX1_init_2
def dkwX1_init_0 : List UInt8 := [42, 183, 0, 19, 42, 187, 0, 22, 89, 183, 0, 24, 181, 0, 25, 42, 187, 0, 29, 89, 183, 0, 31]
abbrev dktX1_init_0 : List UInt8 := dkwX1_init_0 ++ dktX1_init_1
theorem dksX1_init_0 : cX1_init.data.toList.drop 0 = dktX1_init_0 := by decide +kernel
theorem dksX1_init_1 : cX1_init.data.toList.drop 23 = dktX1_init_1 := dk_seg dksX1_init_0 23 rfl rfl
theorem dksX1_init_2 : cX1_init.data.toList.drop 46 = dktX1_init_2 := dk_seg dksX1_init_1 23 rfl rfl
theorem dksX1_init_3 : cX1_init.data.toList.drop 69 = dktX1_init_3 := dk_seg dksX1_init_2 23 rfl rfl
theorem dX1_init_0 : decode cX1_init 0 = .ok (.aload_n 0, 1) := dk_42 (dk_at dksX1_init_0 0 rfl rfl)
theorem dX1_init_1 : decode cX1_init 1 = .ok (.invokespecial 19, 3) := dk_183 0 19 (dk_at dksX1_init_0 1 rfl rfl)
theorem dX1_init_4 : decode cX1_init 4 = .ok (.aload_n 0, 1) := dk_42 (dk_at dksX1_init_0 4 rfl rfl)
theorem dX1_init_5 : decode cX1_init 5 = .ok (.new 22, 3) := dk_187 0 22 (dk_at dksX1_init_0 5 rfl rfl)
theorem dX1_init_8 : decode cX1_init 8 = .ok (.dup, 1) := dk_89 (dk_at dksX1_init_0 8 rfl rfl)
theorem dX1_init_9 : decode cX1_init 9 = .ok (.invokespecial 24, 3) := dk_183 0 24 (dk_at dksX1_init_0 9 rfl rfl)
theorem dX1_init_12 : decode cX1_init 12 = .ok (.putfield 25, 3) := dk_181 0 25 (dk_at dksX1_init_0 12 rfl rfl)
theorem dX1_init_15 : decode cX1_init 15 = .ok (.aload_n 0, 1) := dk_42 (dk_at dksX1_init_0 15 rfl rfl)
theorem dX1_init_16 : decode cX1_init 16 = .ok (.new 29, 3) := dk_187 0 29 (dk_at dksX1_init_0 16 rfl rfl)
theorem dX1_init_19 : decode cX1_init 19 = .ok (.dup, 1) := dk_89 (dk_at dksX1_init_0 19 rfl rfl)
theorem dX1_init_20 : decode cX1_init 20 = .ok (.invokespecial 31, 3) := dk_183 0 31 (dk_at dksX1_init_0 20 rfl rfl)
theorem dX1_init_23 : decode cX1_init 23 = .ok (.putfield 32, 3) := dk_181 0 32 (dk_at dksX1_init_1 0 rfl rfl)
theorem dX1_init_26 : decode cX1_init 26 = .ok (.aload_n 0, 1) := dk_42 (dk_at dksX1_init_1 3 rfl rfl)
theorem dX1_init_27 : decode cX1_init 27 = .ok (.new 36, 3) := dk_187 0 36 (dk_at dksX1_init_1 4 rfl rfl)
theorem dX1_init_30 : decode cX1_init 30 = .ok (.dup, 1) := dk_89 (dk_at dksX1_init_1 7 rfl rfl)
theorem dX1_init_31 : decode cX1_init 31 = .ok (.invokespecial 38, 3) := dk_183 0 38 (dk_at dksX1_init_1 8 rfl rfl)
theorem dX1_init_34 : decode cX1_init 34 = .ok (.putfield 39, 3) := dk_181 0 39 (dk_at dksX1_init_1 11 rfl rfl)
theorem dX1_init_37 : decode cX1_init 37 = .ok (.aload_n 0, 1) := dk_42 (dk_at dksX1_init_1 14 rfl rfl)
theorem dX1_init_38 : decode cX1_init 38 = .ok (.iconst 1, 1) := dk_4 (dk_at dksX1_init_1 15 rfl rfl)
theorem dX1_init_39 : decode cX1_init 39 = .ok (.putfield 43, 3) := dk_181 0 43 (dk_at dksX1_init_1 16 rfl rfl)
theorem dX1_init_42 : decode cX1_init 42 = .ok (.iconst 0, 1) := dk_3 (dk_at dksX1_init_1 19 rfl rfl)
theorem dX1_init_43 : decode cX1_init 43 = .ok (.istore_n 1, 1) := dk_60 (dk_at dksX1_init_1 20 rfl rfl)
theorem dX1_init_44 : decode cX1_init 44 = .ok (.iload_n 1, 1) := dk_27 (dk_at dksX1_init_1 21 rfl rfl)
theorem dX1_init_45 : decode cX1_init 45 = .ok (.iconst 4, 1) := dk_7 (dk_at dksX1_init_1 22 rfl rfl)
theorem dX1_init_46 : decode cX1_init 46 = .ok (.if_icmp .ge 26, 3) := dk_162 0 26 (dk_at dksX1_init_2 0 rfl rfl)
theorem dX1_init_49 : decode cX1_init 49 = .ok (.aload_n 0, 1) := dk_42 (dk_at dksX1_init_2 3 rfl rfl)
theorem dX1_init_50 : decode cX1_init 50 = .ok (.getfield 25, 3) := dk_180 0 25 (dk_at dksX1_init_2 4 rfl rfl)
theorem dX1_init_53 : decode cX1_init 53 = .ok (.new 22, 3) := dk_187 0 22 (dk_at dksX1_init_2 7 rfl rfl)
theorem dX1_init_56 : decode cX1_init 56 = .ok (.dup, 1) := dk_89 (dk_at dksX1_init_2 10 rfl rfl)
theorem dX1_init_57 : decode cX1_init 57 = .ok (.invokespecial 24, 3) := dk_183 0 24 (dk_at dksX1_init_2 11 rfl rfl)
theorem dX1_init_60 : decode cX1_init 60 = .ok (.invokeinterface 47 2, 5) := by decide +kernel
theorem dX1_init_65 : decode cX1_init 65 = .ok (.pop, 1) := dk_87 (dk_at dksX1_init_2 19 rfl rfl)
theorem dX1_init_66 : decode cX1_init 66 = .ok (.iinc 1 1, 3) := dk_132 1 1 (dk_at dksX1_init_2 20 rfl rfl)
theorem dX1_init_69 : decode cX1_init 69 = .ok (.goto (-25), 3) := dk_167 255 231 (dk_at dksX1_init_3 0 rfl rfl)
theorem dX1_init_72 : decode cX1_init 72 = .ok (.return_, 1) := dk_177 (dk_at dksX1_init_3 3 rfl rfl)
abbrev cX1_setShrinking : ByteArray := prog_1_method_30_code
def yX1_setShrinking : MethodName := ⟨RX1, "setShrinking", "(Z)Z"⟩
def dkwX1_setShrinking_0 : List UInt8 := [42, 180, 0, 43, 61, 42, 27, 181, 0, 43, 28, 172]
abbrev dktX1_setShrinking_0 : List UInt8 := dkwX1_setShrinking_0 ++ []
theorem dksX1_setShrinking_0 : cX1_setShrinking.data.toList.drop 0 = dktX1_setShrinking_0 := by decide +kernel
theorem dX1_setShrinking_0 : decode cX1_setShrinking 0 = .ok (.aload_n 0, 1) := dk_42 (dk_at dksX1_setShrinking_0 0 rfl rfl)
theorem dX1_setShrinking_1 : decode cX1_setShrinking 1 = .ok (.getfield 43, 3) := dk_180 0 43 (dk_at dksX1_setShrinking_0 1 rfl rfl)
theorem dX1_setShrinking_4 : decode cX1_setShrinking 4 = .ok (.istore_n 2, 1) := dk_61 (dk_at dksX1_setShrinking_0 4 rfl rfl)
theorem dX1_setShrinking_5 : decode cX1_setShrinking 5 = .ok (.aload_n 0, 1) := dk_42 (dk_at dksX1_setShrinking_0 5 rfl rfl)
theorem dX1_setShrinking_6 : decode cX1_setShrinking 6 = .ok (.iload_n 1, 1) := dk_27 (dk_at dksX1_setShrinking_0 6 rfl rfl)
theorem dX1_setShrinking_7 : decode cX1_setShrinking 7 = .ok (.putfield 43, 3) := dk_181 0 43 (dk_at dksX1_setShrinking_0 7 rfl rfl)
theorem dX1_setShrinking_10 : decode cX1_setShrinking 10 = .ok (.iload_n 2, 1) := dk_28 (dk_at dksX1_setShrinking_0 10 rfl rfl)
theorem dX1_setShrinking_11 : decode cX1_setShrinking 11 = .ok (.ireturn, 1) := dk_172 (dk_at dksX1_setShrinking_0 11 rfl rfl)
abbrev cX1_save : ByteArray := prog_1_method_47_code
def yX1_save : MethodName := ⟨RX1, "save", "()I"⟩
def dkwX1_save_1 : List UInt8 := [182, 1, 55, 172]
abbrev dktX1_save_1 : List UInt8 := dkwX1_save_1 ++ []
def dkwX1_save_0 : List UInt8 := [42, 187, 0, 22, 89, 42, 180, 0, 25, 183, 0, 83, 181, 1, 49, 42, 42, 180, 0, 147, 181, 1, 52, 42]
abbrev dktX1_save_0 : List UInt8 := dkwX1_save_0 ++ dktX1_save_1
theorem dksX1_save_0 : cX1_save.data.toList.drop 0 = dktX1_save_0 := by decide +kernel
theorem dksX1_save_1 : cX1_save.data.toList.drop 24 = dktX1_save_1 := dk_seg dksX1_save_0 24 rfl rfl
theorem dX1_save_0 : decode cX1_save 0 = .ok (.aload_n 0, 1) := dk_42 (dk_at dksX1_save_0 0 rfl rfl)
theorem dX1_save_1 : decode cX1_save 1 = .ok (.new 22, 3) := dk_187 0 22 (dk_at dksX1_save_0 1 rfl rfl)
theorem dX1_save_4 : decode cX1_save 4 = .ok (.dup, 1) := dk_89 (dk_at dksX1_save_0 4 rfl rfl)
theorem dX1_save_5 : decode cX1_save 5 = .ok (.aload_n 0, 1) := dk_42 (dk_at dksX1_save_0 5 rfl rfl)
theorem dX1_save_6 : decode cX1_save 6 = .ok (.getfield 25, 3) := dk_180 0 25 (dk_at dksX1_save_0 6 rfl rfl)
theorem dX1_save_9 : decode cX1_save 9 = .ok (.invokespecial 83, 3) := dk_183 0 83 (dk_at dksX1_save_0 9 rfl rfl)
theorem dX1_save_12 : decode cX1_save 12 = .ok (.putfield 305, 3) := dk_181 1 49 (dk_at dksX1_save_0 12 rfl rfl)
theorem dX1_save_15 : decode cX1_save 15 = .ok (.aload_n 0, 1) := dk_42 (dk_at dksX1_save_0 15 rfl rfl)
theorem dX1_save_16 : decode cX1_save 16 = .ok (.aload_n 0, 1) := dk_42 (dk_at dksX1_save_0 16 rfl rfl)
theorem dX1_save_17 : decode cX1_save 17 = .ok (.getfield 147, 3) := dk_180 0 147 (dk_at dksX1_save_0 17 rfl rfl)
theorem dX1_save_20 : decode cX1_save 20 = .ok (.putfield 308, 3) := dk_181 1 52 (dk_at dksX1_save_0 20 rfl rfl)
theorem dX1_save_23 : decode cX1_save 23 = .ok (.aload_n 0, 1) := dk_42 (dk_at dksX1_save_0 23 rfl rfl)
theorem dX1_save_24 : decode cX1_save 24 = .ok (.invokevirtual 311, 3) := dk_182 1 55 (dk_at dksX1_save_1 0 rfl rfl)
theorem dX1_save_27 : decode cX1_save 27 = .ok (.ireturn, 1) := dk_172 (dk_at dksX1_save_1 3 rfl rfl)
abbrev cX1_allLines : ByteArray := prog_1_method_46_code
def yX1_allLines : MethodName := ⟨RX1, "allLines", "()I"⟩
def dkwX1_allLines_1 : List UInt8 := [185, 0, 193, 1, 0, 192, 0, 48, 78, 27, 45, 185, 0, 76, 1, 0, 96, 60, 167, 255, 228, 27, 172]
abbrev dktX1_allLines_1 : List UInt8 := dkwX1_allLines_1 ++ []
def dkwX1_allLines_0 : List UInt8 := [3, 60, 42, 180, 0, 25, 185, 1, 48, 1, 0, 77, 44, 185, 0, 187, 1, 0, 153, 0, 25, 44]
abbrev dktX1_allLines_0 : List UInt8 := dkwX1_allLines_0 ++ dktX1_allLines_1
theorem dksX1_allLines_0 : cX1_allLines.data.toList.drop 0 = dktX1_allLines_0 := by decide +kernel
theorem dksX1_allLines_1 : cX1_allLines.data.toList.drop 22 = dktX1_allLines_1 := dk_seg dksX1_allLines_0 22 rfl rfl
theorem dX1_allLines_0 : decode cX1_allLines 0 = .ok (.iconst 0, 1) := dk_3 (dk_at dksX1_allLines_0 0 rfl rfl)
theorem dX1_allLines_1 : decode cX1_allLines 1 = .ok (.istore_n 1, 1) := dk_60 (dk_at dksX1_allLines_0 1 rfl rfl)
theorem dX1_allLines_2 : decode cX1_allLines 2 = .ok (.aload_n 0, 1) := dk_42 (dk_at dksX1_allLines_0 2 rfl rfl)
theorem dX1_allLines_3 : decode cX1_allLines 3 = .ok (.getfield 25, 3) := dk_180 0 25 (dk_at dksX1_allLines_0 3 rfl rfl)
theorem dX1_allLines_6 : decode cX1_allLines 6 = .ok (.invokeinterface 304 1, 5) := by decide +kernel
theorem dX1_allLines_11 : decode cX1_allLines 11 = .ok (.astore_n 2, 1) := dk_77 (dk_at dksX1_allLines_0 11 rfl rfl)
theorem dX1_allLines_12 : decode cX1_allLines 12 = .ok (.aload_n 2, 1) := dk_44 (dk_at dksX1_allLines_0 12 rfl rfl)
theorem dX1_allLines_13 : decode cX1_allLines 13 = .ok (.invokeinterface 187 1, 5) := by decide +kernel
theorem dX1_allLines_18 : decode cX1_allLines 18 = .ok (.ifCond .eq 25, 3) := dk_153 0 25 (dk_at dksX1_allLines_0 18 rfl rfl)
theorem dX1_allLines_21 : decode cX1_allLines 21 = .ok (.aload_n 2, 1) := dk_44 (dk_at dksX1_allLines_0 21 rfl rfl)
theorem dX1_allLines_22 : decode cX1_allLines 22 = .ok (.invokeinterface 193 1, 5) := by decide +kernel
theorem dX1_allLines_27 : decode cX1_allLines 27 = .ok (.checkcast 48, 3) := dk_192 0 48 (dk_at dksX1_allLines_1 5 rfl rfl)
theorem dX1_allLines_30 : decode cX1_allLines 30 = .ok (.astore_n 3, 1) := dk_78 (dk_at dksX1_allLines_1 8 rfl rfl)
theorem dX1_allLines_31 : decode cX1_allLines 31 = .ok (.iload_n 1, 1) := dk_27 (dk_at dksX1_allLines_1 9 rfl rfl)
theorem dX1_allLines_32 : decode cX1_allLines 32 = .ok (.aload_n 3, 1) := dk_45 (dk_at dksX1_allLines_1 10 rfl rfl)
theorem dX1_allLines_33 : decode cX1_allLines 33 = .ok (.invokeinterface 76 1, 5) := by decide +kernel
theorem dX1_allLines_38 : decode cX1_allLines 38 = .ok (.iadd, 1) := dk_96 (dk_at dksX1_allLines_1 16 rfl rfl)
theorem dX1_allLines_39 : decode cX1_allLines 39 = .ok (.istore_n 1, 1) := dk_60 (dk_at dksX1_allLines_1 17 rfl rfl)
theorem dX1_allLines_40 : decode cX1_allLines 40 = .ok (.goto (-28), 3) := dk_167 255 228 (dk_at dksX1_allLines_1 18 rfl rfl)
theorem dX1_allLines_43 : decode cX1_allLines 43 = .ok (.iload_n 1, 1) := dk_27 (dk_at dksX1_allLines_1 21 rfl rfl)
theorem dX1_allLines_44 : decode cX1_allLines 44 = .ok (.ireturn, 1) := dk_172 (dk_at dksX1_allLines_1 22 rfl rfl)
abbrev cX1_append : ByteArray := prog_1_method_9_code
def yX1_append : MethodName := ⟨RX1, "append", "(II)I"⟩
def dkwX1_append_2 : List UInt8 := [184, 0, 86, 185, 0, 47, 2, 0, 87, 42, 27, 25, 4, 182, 0, 92, 25, 4, 185, 0, 76, 1, 0, 172]
abbrev dktX1_append_2 : List UInt8 := dkwX1_append_2 ++ []
def dkwX1_append_1 : List UInt8 := [162, 0, 7, 4, 167, 0, 4, 3, 184, 0, 80, 187, 0, 22, 89, 45, 183, 0, 83, 58, 4, 25, 4, 28]
abbrev dktX1_append_1 : List UInt8 := dkwX1_append_1 ++ dktX1_append_2
def dkwX1_append_0 : List UInt8 := [42, 27, 182, 0, 72, 78, 28, 3, 16, 25, 184, 0, 10, 184, 0, 57, 45, 185, 0, 76, 1, 0, 16, 24]
abbrev dktX1_append_0 : List UInt8 := dkwX1_append_0 ++ dktX1_append_1
theorem dksX1_append_0 : cX1_append.data.toList.drop 0 = dktX1_append_0 := by decide +kernel
theorem dksX1_append_1 : cX1_append.data.toList.drop 24 = dktX1_append_1 := dk_seg dksX1_append_0 24 rfl rfl
theorem dksX1_append_2 : cX1_append.data.toList.drop 48 = dktX1_append_2 := dk_seg dksX1_append_1 24 rfl rfl
theorem dX1_append_0 : decode cX1_append 0 = .ok (.aload_n 0, 1) := dk_42 (dk_at dksX1_append_0 0 rfl rfl)
theorem dX1_append_1 : decode cX1_append 1 = .ok (.iload_n 1, 1) := dk_27 (dk_at dksX1_append_0 1 rfl rfl)
theorem dX1_append_2 : decode cX1_append 2 = .ok (.invokevirtual 72, 3) := dk_182 0 72 (dk_at dksX1_append_0 2 rfl rfl)
theorem dX1_append_5 : decode cX1_append 5 = .ok (.astore_n 3, 1) := dk_78 (dk_at dksX1_append_0 5 rfl rfl)
theorem dX1_append_6 : decode cX1_append 6 = .ok (.iload_n 2, 1) := dk_28 (dk_at dksX1_append_0 6 rfl rfl)
theorem dX1_append_7 : decode cX1_append 7 = .ok (.iconst 0, 1) := dk_3 (dk_at dksX1_append_0 7 rfl rfl)
theorem dX1_append_8 : decode cX1_append 8 = .ok (.bipush 25, 2) := dk_16 25 (dk_at dksX1_append_0 8 rfl rfl)
theorem dX1_append_10 : decode cX1_append 10 = .ok (.invokestatic 10, 3) := dk_184 0 10 (dk_at dksX1_append_0 10 rfl rfl)
theorem dX1_append_13 : decode cX1_append 13 = .ok (.invokestatic 57, 3) := dk_184 0 57 (dk_at dksX1_append_0 13 rfl rfl)
theorem dX1_append_16 : decode cX1_append 16 = .ok (.aload_n 3, 1) := dk_45 (dk_at dksX1_append_0 16 rfl rfl)
theorem dX1_append_17 : decode cX1_append 17 = .ok (.invokeinterface 76 1, 5) := by decide +kernel
theorem dX1_append_22 : decode cX1_append 22 = .ok (.bipush 24, 2) := dk_16 24 (dk_at dksX1_append_0 22 rfl rfl)
theorem dX1_append_24 : decode cX1_append 24 = .ok (.if_icmp .ge 7, 3) := dk_162 0 7 (dk_at dksX1_append_1 0 rfl rfl)
theorem dX1_append_27 : decode cX1_append 27 = .ok (.iconst 1, 1) := dk_4 (dk_at dksX1_append_1 3 rfl rfl)
theorem dX1_append_28 : decode cX1_append 28 = .ok (.goto 4, 3) := dk_167 0 4 (dk_at dksX1_append_1 4 rfl rfl)
theorem dX1_append_31 : decode cX1_append 31 = .ok (.iconst 0, 1) := dk_3 (dk_at dksX1_append_1 7 rfl rfl)
theorem dX1_append_32 : decode cX1_append 32 = .ok (.invokestatic 80, 3) := dk_184 0 80 (dk_at dksX1_append_1 8 rfl rfl)
theorem dX1_append_35 : decode cX1_append 35 = .ok (.new 22, 3) := dk_187 0 22 (dk_at dksX1_append_1 11 rfl rfl)
theorem dX1_append_38 : decode cX1_append 38 = .ok (.dup, 1) := dk_89 (dk_at dksX1_append_1 14 rfl rfl)
theorem dX1_append_39 : decode cX1_append 39 = .ok (.aload_n 3, 1) := dk_45 (dk_at dksX1_append_1 15 rfl rfl)
theorem dX1_append_40 : decode cX1_append 40 = .ok (.invokespecial 83, 3) := dk_183 0 83 (dk_at dksX1_append_1 16 rfl rfl)
theorem dX1_append_43 : decode cX1_append 43 = .ok (.astore 4, 2) := dk_58 4 (dk_at dksX1_append_1 19 rfl rfl)
theorem dX1_append_45 : decode cX1_append 45 = .ok (.aload 4, 2) := dk_25 4 (dk_at dksX1_append_1 21 rfl rfl)
theorem dX1_append_47 : decode cX1_append 47 = .ok (.iload_n 2, 1) := dk_28 (dk_at dksX1_append_1 23 rfl rfl)
theorem dX1_append_48 : decode cX1_append 48 = .ok (.invokestatic 86, 3) := dk_184 0 86 (dk_at dksX1_append_2 0 rfl rfl)
theorem dX1_append_51 : decode cX1_append 51 = .ok (.invokeinterface 47 2, 5) := by decide +kernel
theorem dX1_append_56 : decode cX1_append 56 = .ok (.pop, 1) := dk_87 (dk_at dksX1_append_2 8 rfl rfl)
theorem dX1_append_57 : decode cX1_append 57 = .ok (.aload_n 0, 1) := dk_42 (dk_at dksX1_append_2 9 rfl rfl)
theorem dX1_append_58 : decode cX1_append 58 = .ok (.iload_n 1, 1) := dk_27 (dk_at dksX1_append_2 10 rfl rfl)
theorem dX1_append_59 : decode cX1_append 59 = .ok (.aload 4, 2) := dk_25 4 (dk_at dksX1_append_2 11 rfl rfl)
theorem dX1_append_61 : decode cX1_append 61 = .ok (.invokevirtual 92, 3) := dk_182 0 92 (dk_at dksX1_append_2 13 rfl rfl)
theorem dX1_append_64 : decode cX1_append 64 = .ok (.aload 4, 2) := dk_25 4 (dk_at dksX1_append_2 16 rfl rfl)
theorem dX1_append_66 : decode cX1_append 66 = .ok (.invokeinterface 76 1, 5) := by decide +kernel
theorem dX1_append_71 : decode cX1_append 71 = .ok (.ireturn, 1) := dk_172 (dk_at dksX1_append_2 23 rfl rfl)
abbrev cX1_document : ByteArray := prog_1_method_7_code
def yX1_document : MethodName := ⟨RX1, "document", "(I)Ljava/util/List;"⟩
def dkwX1_document_0 : List UInt8 := [27, 184, 0, 53, 184, 0, 57, 42, 180, 0, 25, 27, 185, 0, 61, 2, 0, 192, 0, 48, 176]
abbrev dktX1_document_0 : List UInt8 := dkwX1_document_0 ++ []
theorem dksX1_document_0 : cX1_document.data.toList.drop 0 = dktX1_document_0 := by decide +kernel
theorem dX1_document_0 : decode cX1_document 0 = .ok (.iload_n 1, 1) := dk_27 (dk_at dksX1_document_0 0 rfl rfl)
theorem dX1_document_1 : decode cX1_document 1 = .ok (.invokestatic 53, 3) := dk_184 0 53 (dk_at dksX1_document_0 1 rfl rfl)
theorem dX1_document_4 : decode cX1_document 4 = .ok (.invokestatic 57, 3) := dk_184 0 57 (dk_at dksX1_document_0 4 rfl rfl)
theorem dX1_document_7 : decode cX1_document 7 = .ok (.aload_n 0, 1) := dk_42 (dk_at dksX1_document_0 7 rfl rfl)
theorem dX1_document_8 : decode cX1_document 8 = .ok (.getfield 25, 3) := dk_180 0 25 (dk_at dksX1_document_0 8 rfl rfl)
theorem dX1_document_11 : decode cX1_document 11 = .ok (.iload_n 1, 1) := dk_27 (dk_at dksX1_document_0 11 rfl rfl)
theorem dX1_document_12 : decode cX1_document 12 = .ok (.invokeinterface 61 2, 5) := by decide +kernel
theorem dX1_document_17 : decode cX1_document 17 = .ok (.checkcast 48, 3) := dk_192 0 48 (dk_at dksX1_document_0 17 rfl rfl)
theorem dX1_document_20 : decode cX1_document 20 = .ok (.areturn, 1) := dk_176 (dk_at dksX1_document_0 20 rfl rfl)
abbrev cX1_isRegister : ByteArray := prog_1_method_5_code
def yX1_isRegister : MethodName := ⟨RX1, "isRegister", "(I)Z"⟩
def dkwX1_isRegister_0 : List UInt8 := [26, 3, 6, 184, 0, 10, 172]
abbrev dktX1_isRegister_0 : List UInt8 := dkwX1_isRegister_0 ++ []
theorem dksX1_isRegister_0 : cX1_isRegister.data.toList.drop 0 = dktX1_isRegister_0 := by decide +kernel
theorem dX1_isRegister_0 : decode cX1_isRegister 0 = .ok (.iload_n 0, 1) := dk_26 (dk_at dksX1_isRegister_0 0 rfl rfl)
theorem dX1_isRegister_1 : decode cX1_isRegister 1 = .ok (.iconst 0, 1) := dk_3 (dk_at dksX1_isRegister_0 1 rfl rfl)
theorem dX1_isRegister_2 : decode cX1_isRegister 2 = .ok (.iconst 3, 1) := dk_6 (dk_at dksX1_isRegister_0 2 rfl rfl)
theorem dX1_isRegister_3 : decode cX1_isRegister 3 = .ok (.invokestatic 10, 3) := dk_184 0 10 (dk_at dksX1_isRegister_0 3 rfl rfl)
theorem dX1_isRegister_6 : decode cX1_isRegister 6 = .ok (.ireturn, 1) := dk_172 (dk_at dksX1_isRegister_0 6 rfl rfl)
abbrev cX1_isBetween : ByteArray := prog_1_method_1_code
def yX1_isBetween : MethodName := ⟨RX1, "isBetween", "(III)Z"⟩
def dkwX1_isBetween_0 : List UInt8 := [27, 26, 163, 0, 12, 26, 28, 163, 0, 7, 4, 167, 0, 4, 3, 172]
abbrev dktX1_isBetween_0 : List UInt8 := dkwX1_isBetween_0 ++ []
theorem dksX1_isBetween_0 : cX1_isBetween.data.toList.drop 0 = dktX1_isBetween_0 := by decide +kernel
theorem dX1_isBetween_0 : decode cX1_isBetween 0 = .ok (.iload_n 1, 1) := dk_27 (dk_at dksX1_isBetween_0 0 rfl rfl)
theorem dX1_isBetween_1 : decode cX1_isBetween 1 = .ok (.iload_n 0, 1) := dk_26 (dk_at dksX1_isBetween_0 1 rfl rfl)
theorem dX1_isBetween_2 : decode cX1_isBetween 2 = .ok (.if_icmp .gt 12, 3) := dk_163 0 12 (dk_at dksX1_isBetween_0 2 rfl rfl)
theorem dX1_isBetween_5 : decode cX1_isBetween 5 = .ok (.iload_n 0, 1) := dk_26 (dk_at dksX1_isBetween_0 5 rfl rfl)
theorem dX1_isBetween_6 : decode cX1_isBetween 6 = .ok (.iload_n 2, 1) := dk_28 (dk_at dksX1_isBetween_0 6 rfl rfl)
theorem dX1_isBetween_7 : decode cX1_isBetween 7 = .ok (.if_icmp .gt 7, 3) := dk_163 0 7 (dk_at dksX1_isBetween_0 7 rfl rfl)
theorem dX1_isBetween_10 : decode cX1_isBetween 10 = .ok (.iconst 1, 1) := dk_4 (dk_at dksX1_isBetween_0 10 rfl rfl)
theorem dX1_isBetween_11 : decode cX1_isBetween 11 = .ok (.goto 4, 3) := dk_167 0 4 (dk_at dksX1_isBetween_0 11 rfl rfl)
theorem dX1_isBetween_14 : decode cX1_isBetween 14 = .ok (.iconst 0, 1) := dk_3 (dk_at dksX1_isBetween_0 14 rfl rfl)
theorem dX1_isBetween_15 : decode cX1_isBetween 15 = .ok (.ireturn, 1) := dk_172 (dk_at dksX1_isBetween_0 15 rfl rfl)
abbrev cX1_require : ByteArray := prog_1_method_2_code
def yX1_require : MethodName := ⟨RX1, "require", "(Z)V"⟩
def dkwX1_require_0 : List UInt8 := [26, 154, 0, 11, 187, 0, 1, 89, 183, 0, 3, 191, 177]
abbrev dktX1_require_0 : List UInt8 := dkwX1_require_0 ++ []
theorem dksX1_require_0 : cX1_require.data.toList.drop 0 = dktX1_require_0 := by decide +kernel
theorem dX1_require_0 : decode cX1_require 0 = .ok (.iload_n 0, 1) := dk_26 (dk_at dksX1_require_0 0 rfl rfl)
theorem dX1_require_1 : decode cX1_require 1 = .ok (.ifCond .ne 11, 3) := dk_154 0 11 (dk_at dksX1_require_0 1 rfl rfl)
theorem dX1_require_4 : decode cX1_require 4 = .ok (.new 1, 3) := dk_187 0 1 (dk_at dksX1_require_0 4 rfl rfl)
theorem dX1_require_7 : decode cX1_require 7 = .ok (.dup, 1) := dk_89 (dk_at dksX1_require_0 7 rfl rfl)
theorem dX1_require_8 : decode cX1_require 8 = .ok (.invokespecial 3, 3) := dk_183 0 3 (dk_at dksX1_require_0 8 rfl rfl)
theorem dX1_require_11 : decode cX1_require 11 = .ok (.athrow, 1) := dk_191 (dk_at dksX1_require_0 11 rfl rfl)
theorem dX1_require_12 : decode cX1_require 12 = .ok (.return_, 1) := dk_177 (dk_at dksX1_require_0 12 rfl rfl)
abbrev cX1_requireState : ByteArray := prog_1_method_3_code
def yX1_requireState : MethodName := ⟨RX1, "requireState", "(Z)V"⟩
def dkwX1_requireState_0 : List UInt8 := [26, 154, 0, 11, 187, 0, 7, 89, 183, 0, 9, 191, 177]
abbrev dktX1_requireState_0 : List UInt8 := dkwX1_requireState_0 ++ []
theorem dksX1_requireState_0 : cX1_requireState.data.toList.drop 0 = dktX1_requireState_0 := by decide +kernel
theorem dX1_requireState_0 : decode cX1_requireState 0 = .ok (.iload_n 0, 1) := dk_26 (dk_at dksX1_requireState_0 0 rfl rfl)
theorem dX1_requireState_1 : decode cX1_requireState 1 = .ok (.ifCond .ne 11, 3) := dk_154 0 11 (dk_at dksX1_requireState_0 1 rfl rfl)
theorem dX1_requireState_4 : decode cX1_requireState 4 = .ok (.new 7, 3) := dk_187 0 7 (dk_at dksX1_requireState_0 4 rfl rfl)
theorem dX1_requireState_7 : decode cX1_requireState 7 = .ok (.dup, 1) := dk_89 (dk_at dksX1_requireState_0 7 rfl rfl)
theorem dX1_requireState_8 : decode cX1_requireState 8 = .ok (.invokespecial 9, 3) := dk_183 0 9 (dk_at dksX1_requireState_0 8 rfl rfl)
theorem dX1_requireState_11 : decode cX1_requireState 11 = .ok (.athrow, 1) := dk_191 (dk_at dksX1_requireState_0 11 rfl rfl)
theorem dX1_requireState_12 : decode cX1_requireState 12 = .ok (.return_, 1) := dk_177 (dk_at dksX1_requireState_0 12 rfl rfl)
abbrev cX1_change : ByteArray := prog_1_method_8_code
def yX1_change : MethodName := ⟨RX1, "change", "(ILjava/util/List;)V"⟩
def dkwX1_change_0 : List UInt8 := [42, 180, 0, 32, 27, 42, 180, 0, 25, 27, 44, 185, 0, 65, 3, 0, 192, 0, 48, 182, 0, 69, 177]
abbrev dktX1_change_0 : List UInt8 := dkwX1_change_0 ++ []
theorem dksX1_change_0 : cX1_change.data.toList.drop 0 = dktX1_change_0 := by decide +kernel
theorem dX1_change_0 : decode cX1_change 0 = .ok (.aload_n 0, 1) := dk_42 (dk_at dksX1_change_0 0 rfl rfl)
theorem dX1_change_1 : decode cX1_change 1 = .ok (.getfield 32, 3) := dk_180 0 32 (dk_at dksX1_change_0 1 rfl rfl)
theorem dX1_change_4 : decode cX1_change 4 = .ok (.iload_n 1, 1) := dk_27 (dk_at dksX1_change_0 4 rfl rfl)
theorem dX1_change_5 : decode cX1_change 5 = .ok (.aload_n 0, 1) := dk_42 (dk_at dksX1_change_0 5 rfl rfl)
theorem dX1_change_6 : decode cX1_change 6 = .ok (.getfield 25, 3) := dk_180 0 25 (dk_at dksX1_change_0 6 rfl rfl)
theorem dX1_change_9 : decode cX1_change 9 = .ok (.iload_n 1, 1) := dk_27 (dk_at dksX1_change_0 9 rfl rfl)
theorem dX1_change_10 : decode cX1_change 10 = .ok (.aload_n 2, 1) := dk_44 (dk_at dksX1_change_0 10 rfl rfl)
theorem dX1_change_11 : decode cX1_change 11 = .ok (.invokeinterface 65 3, 5) := by decide +kernel
theorem dX1_change_16 : decode cX1_change 16 = .ok (.checkcast 48, 3) := dk_192 0 48 (dk_at dksX1_change_0 16 rfl rfl)
theorem dX1_change_19 : decode cX1_change 19 = .ok (.invokevirtual 69, 3) := dk_182 0 69 (dk_at dksX1_change_0 19 rfl rfl)
theorem dX1_change_22 : decode cX1_change 22 = .ok (.return_, 1) := dk_177 (dk_at dksX1_change_0 22 rfl rfl)
abbrev cX1_insert : ByteArray := prog_1_method_10_code
def yX1_insert : MethodName := ⟨RX1, "insert", "(III)I"⟩
def dkwX1_insert_3 : List UInt8 := [185, 0, 100, 3, 0, 42, 27, 25, 5, 182, 0, 92, 25, 5, 185, 0, 76, 1, 0, 172]
abbrev dktX1_insert_3 : List UInt8 := dkwX1_insert_3 ++ []
def dkwX1_insert_2 : List UInt8 := [184, 0, 96, 187, 0, 22, 89, 25, 4, 183, 0, 83, 58, 5, 25, 5, 28, 29, 184, 0, 86]
abbrev dktX1_insert_2 : List UInt8 := dkwX1_insert_2 ++ dktX1_insert_3
def dkwX1_insert_1 : List UInt8 := [16, 24, 162, 0, 7, 4, 167, 0, 4, 3, 184, 0, 80, 28, 25, 4, 185, 0, 76, 1, 0, 4, 96]
abbrev dktX1_insert_1 : List UInt8 := dkwX1_insert_1 ++ dktX1_insert_2
def dkwX1_insert_0 : List UInt8 := [42, 27, 182, 0, 72, 58, 4, 29, 3, 16, 25, 184, 0, 10, 184, 0, 57, 25, 4, 185, 0, 76, 1, 0]
abbrev dktX1_insert_0 : List UInt8 := dkwX1_insert_0 ++ dktX1_insert_1
theorem dksX1_insert_0 : cX1_insert.data.toList.drop 0 = dktX1_insert_0 := by decide +kernel
theorem dksX1_insert_1 : cX1_insert.data.toList.drop 24 = dktX1_insert_1 := dk_seg dksX1_insert_0 24 rfl rfl
theorem dksX1_insert_2 : cX1_insert.data.toList.drop 47 = dktX1_insert_2 := dk_seg dksX1_insert_1 23 rfl rfl
theorem dksX1_insert_3 : cX1_insert.data.toList.drop 68 = dktX1_insert_3 := dk_seg dksX1_insert_2 21 rfl rfl
theorem dX1_insert_0 : decode cX1_insert 0 = .ok (.aload_n 0, 1) := dk_42 (dk_at dksX1_insert_0 0 rfl rfl)
theorem dX1_insert_1 : decode cX1_insert 1 = .ok (.iload_n 1, 1) := dk_27 (dk_at dksX1_insert_0 1 rfl rfl)
theorem dX1_insert_2 : decode cX1_insert 2 = .ok (.invokevirtual 72, 3) := dk_182 0 72 (dk_at dksX1_insert_0 2 rfl rfl)
theorem dX1_insert_5 : decode cX1_insert 5 = .ok (.astore 4, 2) := dk_58 4 (dk_at dksX1_insert_0 5 rfl rfl)
theorem dX1_insert_7 : decode cX1_insert 7 = .ok (.iload_n 3, 1) := dk_29 (dk_at dksX1_insert_0 7 rfl rfl)
theorem dX1_insert_8 : decode cX1_insert 8 = .ok (.iconst 0, 1) := dk_3 (dk_at dksX1_insert_0 8 rfl rfl)
theorem dX1_insert_9 : decode cX1_insert 9 = .ok (.bipush 25, 2) := dk_16 25 (dk_at dksX1_insert_0 9 rfl rfl)
theorem dX1_insert_11 : decode cX1_insert 11 = .ok (.invokestatic 10, 3) := dk_184 0 10 (dk_at dksX1_insert_0 11 rfl rfl)
theorem dX1_insert_14 : decode cX1_insert 14 = .ok (.invokestatic 57, 3) := dk_184 0 57 (dk_at dksX1_insert_0 14 rfl rfl)
theorem dX1_insert_17 : decode cX1_insert 17 = .ok (.aload 4, 2) := dk_25 4 (dk_at dksX1_insert_0 17 rfl rfl)
theorem dX1_insert_19 : decode cX1_insert 19 = .ok (.invokeinterface 76 1, 5) := by decide +kernel
theorem dX1_insert_24 : decode cX1_insert 24 = .ok (.bipush 24, 2) := dk_16 24 (dk_at dksX1_insert_1 0 rfl rfl)
theorem dX1_insert_26 : decode cX1_insert 26 = .ok (.if_icmp .ge 7, 3) := dk_162 0 7 (dk_at dksX1_insert_1 2 rfl rfl)
theorem dX1_insert_29 : decode cX1_insert 29 = .ok (.iconst 1, 1) := dk_4 (dk_at dksX1_insert_1 5 rfl rfl)
theorem dX1_insert_30 : decode cX1_insert 30 = .ok (.goto 4, 3) := dk_167 0 4 (dk_at dksX1_insert_1 6 rfl rfl)
theorem dX1_insert_33 : decode cX1_insert 33 = .ok (.iconst 0, 1) := dk_3 (dk_at dksX1_insert_1 9 rfl rfl)
theorem dX1_insert_34 : decode cX1_insert 34 = .ok (.invokestatic 80, 3) := dk_184 0 80 (dk_at dksX1_insert_1 10 rfl rfl)
theorem dX1_insert_37 : decode cX1_insert 37 = .ok (.iload_n 2, 1) := dk_28 (dk_at dksX1_insert_1 13 rfl rfl)
theorem dX1_insert_38 : decode cX1_insert 38 = .ok (.aload 4, 2) := dk_25 4 (dk_at dksX1_insert_1 14 rfl rfl)
theorem dX1_insert_40 : decode cX1_insert 40 = .ok (.invokeinterface 76 1, 5) := by decide +kernel
theorem dX1_insert_45 : decode cX1_insert 45 = .ok (.iconst 1, 1) := dk_4 (dk_at dksX1_insert_1 21 rfl rfl)
theorem dX1_insert_46 : decode cX1_insert 46 = .ok (.iadd, 1) := dk_96 (dk_at dksX1_insert_1 22 rfl rfl)
theorem dX1_insert_47 : decode cX1_insert 47 = .ok (.invokestatic 96, 3) := dk_184 0 96 (dk_at dksX1_insert_2 0 rfl rfl)
theorem dX1_insert_50 : decode cX1_insert 50 = .ok (.new 22, 3) := dk_187 0 22 (dk_at dksX1_insert_2 3 rfl rfl)
theorem dX1_insert_53 : decode cX1_insert 53 = .ok (.dup, 1) := dk_89 (dk_at dksX1_insert_2 6 rfl rfl)
theorem dX1_insert_54 : decode cX1_insert 54 = .ok (.aload 4, 2) := dk_25 4 (dk_at dksX1_insert_2 7 rfl rfl)
theorem dX1_insert_56 : decode cX1_insert 56 = .ok (.invokespecial 83, 3) := dk_183 0 83 (dk_at dksX1_insert_2 9 rfl rfl)
theorem dX1_insert_59 : decode cX1_insert 59 = .ok (.astore 5, 2) := dk_58 5 (dk_at dksX1_insert_2 12 rfl rfl)
theorem dX1_insert_61 : decode cX1_insert 61 = .ok (.aload 5, 2) := dk_25 5 (dk_at dksX1_insert_2 14 rfl rfl)
theorem dX1_insert_63 : decode cX1_insert 63 = .ok (.iload_n 2, 1) := dk_28 (dk_at dksX1_insert_2 16 rfl rfl)
theorem dX1_insert_64 : decode cX1_insert 64 = .ok (.iload_n 3, 1) := dk_29 (dk_at dksX1_insert_2 17 rfl rfl)
theorem dX1_insert_65 : decode cX1_insert 65 = .ok (.invokestatic 86, 3) := dk_184 0 86 (dk_at dksX1_insert_2 18 rfl rfl)
theorem dX1_insert_68 : decode cX1_insert 68 = .ok (.invokeinterface 100 3, 5) := by decide +kernel
theorem dX1_insert_73 : decode cX1_insert 73 = .ok (.aload_n 0, 1) := dk_42 (dk_at dksX1_insert_3 5 rfl rfl)
theorem dX1_insert_74 : decode cX1_insert 74 = .ok (.iload_n 1, 1) := dk_27 (dk_at dksX1_insert_3 6 rfl rfl)
theorem dX1_insert_75 : decode cX1_insert 75 = .ok (.aload 5, 2) := dk_25 5 (dk_at dksX1_insert_3 7 rfl rfl)
theorem dX1_insert_77 : decode cX1_insert 77 = .ok (.invokevirtual 92, 3) := dk_182 0 92 (dk_at dksX1_insert_3 9 rfl rfl)
theorem dX1_insert_80 : decode cX1_insert 80 = .ok (.aload 5, 2) := dk_25 5 (dk_at dksX1_insert_3 12 rfl rfl)
theorem dX1_insert_82 : decode cX1_insert 82 = .ok (.invokeinterface 76 1, 5) := by decide +kernel
theorem dX1_insert_87 : decode cX1_insert 87 = .ok (.ireturn, 1) := dk_172 (dk_at dksX1_insert_3 19 rfl rfl)
abbrev cX1_requireIndex : ByteArray := prog_1_method_4_code
def yX1_requireIndex : MethodName := ⟨RX1, "requireIndex", "(II)V"⟩
def dkwX1_requireIndex_0 : List UInt8 := [26, 3, 27, 4, 100, 184, 0, 10, 154, 0, 11, 187, 0, 16, 89, 183, 0, 18, 191, 177]
abbrev dktX1_requireIndex_0 : List UInt8 := dkwX1_requireIndex_0 ++ []
theorem dksX1_requireIndex_0 : cX1_requireIndex.data.toList.drop 0 = dktX1_requireIndex_0 := by decide +kernel
theorem dX1_requireIndex_0 : decode cX1_requireIndex 0 = .ok (.iload_n 0, 1) := dk_26 (dk_at dksX1_requireIndex_0 0 rfl rfl)
theorem dX1_requireIndex_1 : decode cX1_requireIndex 1 = .ok (.iconst 0, 1) := dk_3 (dk_at dksX1_requireIndex_0 1 rfl rfl)
theorem dX1_requireIndex_2 : decode cX1_requireIndex 2 = .ok (.iload_n 1, 1) := dk_27 (dk_at dksX1_requireIndex_0 2 rfl rfl)
theorem dX1_requireIndex_3 : decode cX1_requireIndex 3 = .ok (.iconst 1, 1) := dk_4 (dk_at dksX1_requireIndex_0 3 rfl rfl)
theorem dX1_requireIndex_4 : decode cX1_requireIndex 4 = .ok (.isub, 1) := dk_100 (dk_at dksX1_requireIndex_0 4 rfl rfl)
theorem dX1_requireIndex_5 : decode cX1_requireIndex 5 = .ok (.invokestatic 10, 3) := dk_184 0 10 (dk_at dksX1_requireIndex_0 5 rfl rfl)
theorem dX1_requireIndex_8 : decode cX1_requireIndex 8 = .ok (.ifCond .ne 11, 3) := dk_154 0 11 (dk_at dksX1_requireIndex_0 8 rfl rfl)
theorem dX1_requireIndex_11 : decode cX1_requireIndex 11 = .ok (.new 16, 3) := dk_187 0 16 (dk_at dksX1_requireIndex_0 11 rfl rfl)
theorem dX1_requireIndex_14 : decode cX1_requireIndex 14 = .ok (.dup, 1) := dk_89 (dk_at dksX1_requireIndex_0 14 rfl rfl)
theorem dX1_requireIndex_15 : decode cX1_requireIndex 15 = .ok (.invokespecial 18, 3) := dk_183 0 18 (dk_at dksX1_requireIndex_0 15 rfl rfl)
theorem dX1_requireIndex_18 : decode cX1_requireIndex 18 = .ok (.athrow, 1) := dk_191 (dk_at dksX1_requireIndex_0 18 rfl rfl)
theorem dX1_requireIndex_19 : decode cX1_requireIndex 19 = .ok (.return_, 1) := dk_177 (dk_at dksX1_requireIndex_0 19 rfl rfl)
abbrev cX1_delete : ByteArray := prog_1_method_11_code
def yX1_delete : MethodName := ⟨RX1, "delete", "(II)I"⟩
def dkwX1_delete_2 : List UInt8 := [182, 0, 92, 21, 5, 172]
abbrev dktX1_delete_2 : List UInt8 := dkwX1_delete_2 ++ []
def dkwX1_delete_1 : List UInt8 := [58, 4, 25, 4, 28, 185, 0, 101, 2, 0, 192, 0, 87, 182, 0, 104, 54, 5, 42, 27, 25, 4]
abbrev dktX1_delete_1 : List UInt8 := dkwX1_delete_1 ++ dktX1_delete_2
def dkwX1_delete_0 : List UInt8 := [42, 27, 182, 0, 72, 78, 28, 45, 185, 0, 76, 1, 0, 184, 0, 96, 187, 0, 22, 89, 45, 183, 0, 83]
abbrev dktX1_delete_0 : List UInt8 := dkwX1_delete_0 ++ dktX1_delete_1
theorem dksX1_delete_0 : cX1_delete.data.toList.drop 0 = dktX1_delete_0 := by decide +kernel
theorem dksX1_delete_1 : cX1_delete.data.toList.drop 24 = dktX1_delete_1 := dk_seg dksX1_delete_0 24 rfl rfl
theorem dksX1_delete_2 : cX1_delete.data.toList.drop 46 = dktX1_delete_2 := dk_seg dksX1_delete_1 22 rfl rfl
theorem dX1_delete_0 : decode cX1_delete 0 = .ok (.aload_n 0, 1) := dk_42 (dk_at dksX1_delete_0 0 rfl rfl)
theorem dX1_delete_1 : decode cX1_delete 1 = .ok (.iload_n 1, 1) := dk_27 (dk_at dksX1_delete_0 1 rfl rfl)
theorem dX1_delete_2 : decode cX1_delete 2 = .ok (.invokevirtual 72, 3) := dk_182 0 72 (dk_at dksX1_delete_0 2 rfl rfl)
theorem dX1_delete_5 : decode cX1_delete 5 = .ok (.astore_n 3, 1) := dk_78 (dk_at dksX1_delete_0 5 rfl rfl)
theorem dX1_delete_6 : decode cX1_delete 6 = .ok (.iload_n 2, 1) := dk_28 (dk_at dksX1_delete_0 6 rfl rfl)
theorem dX1_delete_7 : decode cX1_delete 7 = .ok (.aload_n 3, 1) := dk_45 (dk_at dksX1_delete_0 7 rfl rfl)
theorem dX1_delete_8 : decode cX1_delete 8 = .ok (.invokeinterface 76 1, 5) := by decide +kernel
theorem dX1_delete_13 : decode cX1_delete 13 = .ok (.invokestatic 96, 3) := dk_184 0 96 (dk_at dksX1_delete_0 13 rfl rfl)
theorem dX1_delete_16 : decode cX1_delete 16 = .ok (.new 22, 3) := dk_187 0 22 (dk_at dksX1_delete_0 16 rfl rfl)
theorem dX1_delete_19 : decode cX1_delete 19 = .ok (.dup, 1) := dk_89 (dk_at dksX1_delete_0 19 rfl rfl)
theorem dX1_delete_20 : decode cX1_delete 20 = .ok (.aload_n 3, 1) := dk_45 (dk_at dksX1_delete_0 20 rfl rfl)
theorem dX1_delete_21 : decode cX1_delete 21 = .ok (.invokespecial 83, 3) := dk_183 0 83 (dk_at dksX1_delete_0 21 rfl rfl)
theorem dX1_delete_24 : decode cX1_delete 24 = .ok (.astore 4, 2) := dk_58 4 (dk_at dksX1_delete_1 0 rfl rfl)
theorem dX1_delete_26 : decode cX1_delete 26 = .ok (.aload 4, 2) := dk_25 4 (dk_at dksX1_delete_1 2 rfl rfl)
theorem dX1_delete_28 : decode cX1_delete 28 = .ok (.iload_n 2, 1) := dk_28 (dk_at dksX1_delete_1 4 rfl rfl)
theorem dX1_delete_29 : decode cX1_delete 29 = .ok (.invokeinterface 101 2, 5) := by decide +kernel
theorem dX1_delete_34 : decode cX1_delete 34 = .ok (.checkcast 87, 3) := dk_192 0 87 (dk_at dksX1_delete_1 10 rfl rfl)
theorem dX1_delete_37 : decode cX1_delete 37 = .ok (.invokevirtual 104, 3) := dk_182 0 104 (dk_at dksX1_delete_1 13 rfl rfl)
theorem dX1_delete_40 : decode cX1_delete 40 = .ok (.istore 5, 2) := dk_54 5 (dk_at dksX1_delete_1 16 rfl rfl)
theorem dX1_delete_42 : decode cX1_delete 42 = .ok (.aload_n 0, 1) := dk_42 (dk_at dksX1_delete_1 18 rfl rfl)
theorem dX1_delete_43 : decode cX1_delete 43 = .ok (.iload_n 1, 1) := dk_27 (dk_at dksX1_delete_1 19 rfl rfl)
theorem dX1_delete_44 : decode cX1_delete 44 = .ok (.aload 4, 2) := dk_25 4 (dk_at dksX1_delete_1 20 rfl rfl)
theorem dX1_delete_46 : decode cX1_delete 46 = .ok (.invokevirtual 92, 3) := dk_182 0 92 (dk_at dksX1_delete_2 0 rfl rfl)
theorem dX1_delete_49 : decode cX1_delete 49 = .ok (.iload 5, 2) := dk_21 5 (dk_at dksX1_delete_2 3 rfl rfl)
theorem dX1_delete_51 : decode cX1_delete 51 = .ok (.ireturn, 1) := dk_172 (dk_at dksX1_delete_2 5 rfl rfl)
abbrev cX1_length : ByteArray := prog_1_method_12_code
def yX1_length : MethodName := ⟨RX1, "length", "(I)I"⟩
def dkwX1_length_0 : List UInt8 := [42, 27, 182, 0, 72, 185, 0, 76, 1, 0, 172]
abbrev dktX1_length_0 : List UInt8 := dkwX1_length_0 ++ []
theorem dksX1_length_0 : cX1_length.data.toList.drop 0 = dktX1_length_0 := by decide +kernel
theorem dX1_length_0 : decode cX1_length 0 = .ok (.aload_n 0, 1) := dk_42 (dk_at dksX1_length_0 0 rfl rfl)
theorem dX1_length_1 : decode cX1_length 1 = .ok (.iload_n 1, 1) := dk_27 (dk_at dksX1_length_0 1 rfl rfl)
theorem dX1_length_2 : decode cX1_length 2 = .ok (.invokevirtual 72, 3) := dk_182 0 72 (dk_at dksX1_length_0 2 rfl rfl)
theorem dX1_length_5 : decode cX1_length 5 = .ok (.invokeinterface 76 1, 5) := by decide +kernel
theorem dX1_length_10 : decode cX1_length 10 = .ok (.ireturn, 1) := dk_172 (dk_at dksX1_length_0 10 rfl rfl)
abbrev cX1_line : ByteArray := prog_1_method_13_code
def yX1_line : MethodName := ⟨RX1, "line", "(II)I"⟩
def dkwX1_line_1 : List UInt8 := [192, 0, 87, 182, 0, 104, 172]
abbrev dktX1_line_1 : List UInt8 := dkwX1_line_1 ++ []
def dkwX1_line_0 : List UInt8 := [42, 27, 182, 0, 72, 78, 28, 45, 185, 0, 76, 1, 0, 184, 0, 96, 45, 28, 185, 0, 61, 2, 0]
abbrev dktX1_line_0 : List UInt8 := dkwX1_line_0 ++ dktX1_line_1
theorem dksX1_line_0 : cX1_line.data.toList.drop 0 = dktX1_line_0 := by decide +kernel
theorem dksX1_line_1 : cX1_line.data.toList.drop 23 = dktX1_line_1 := dk_seg dksX1_line_0 23 rfl rfl
theorem dX1_line_0 : decode cX1_line 0 = .ok (.aload_n 0, 1) := dk_42 (dk_at dksX1_line_0 0 rfl rfl)
theorem dX1_line_1 : decode cX1_line 1 = .ok (.iload_n 1, 1) := dk_27 (dk_at dksX1_line_0 1 rfl rfl)
theorem dX1_line_2 : decode cX1_line 2 = .ok (.invokevirtual 72, 3) := dk_182 0 72 (dk_at dksX1_line_0 2 rfl rfl)
theorem dX1_line_5 : decode cX1_line 5 = .ok (.astore_n 3, 1) := dk_78 (dk_at dksX1_line_0 5 rfl rfl)
theorem dX1_line_6 : decode cX1_line 6 = .ok (.iload_n 2, 1) := dk_28 (dk_at dksX1_line_0 6 rfl rfl)
theorem dX1_line_7 : decode cX1_line 7 = .ok (.aload_n 3, 1) := dk_45 (dk_at dksX1_line_0 7 rfl rfl)
theorem dX1_line_8 : decode cX1_line 8 = .ok (.invokeinterface 76 1, 5) := by decide +kernel
theorem dX1_line_13 : decode cX1_line 13 = .ok (.invokestatic 96, 3) := dk_184 0 96 (dk_at dksX1_line_0 13 rfl rfl)
theorem dX1_line_16 : decode cX1_line 16 = .ok (.aload_n 3, 1) := dk_45 (dk_at dksX1_line_0 16 rfl rfl)
theorem dX1_line_17 : decode cX1_line 17 = .ok (.iload_n 2, 1) := dk_28 (dk_at dksX1_line_0 17 rfl rfl)
theorem dX1_line_18 : decode cX1_line 18 = .ok (.invokeinterface 61 2, 5) := by decide +kernel
theorem dX1_line_23 : decode cX1_line 23 = .ok (.checkcast 87, 3) := dk_192 0 87 (dk_at dksX1_line_1 0 rfl rfl)
theorem dX1_line_26 : decode cX1_line 26 = .ok (.invokevirtual 104, 3) := dk_182 0 104 (dk_at dksX1_line_1 3 rfl rfl)
theorem dX1_line_29 : decode cX1_line 29 = .ok (.ireturn, 1) := dk_172 (dk_at dksX1_line_1 6 rfl rfl)
abbrev cX1_copy : ByteArray := prog_1_method_14_code
def yX1_copy : MethodName := ⟨RX1, "copy", "(II)I"⟩
def dkwX1_copy_1 : List UInt8 := [182, 0, 92, 45, 185, 0, 76, 1, 0, 172]
abbrev dktX1_copy_1 : List UInt8 := dkwX1_copy_1 ++ []
def dkwX1_copy_0 : List UInt8 := [42, 27, 182, 0, 72, 78, 42, 28, 182, 0, 72, 87, 42, 28, 187, 0, 22, 89, 45, 183, 0, 83]
abbrev dktX1_copy_0 : List UInt8 := dkwX1_copy_0 ++ dktX1_copy_1
theorem dksX1_copy_0 : cX1_copy.data.toList.drop 0 = dktX1_copy_0 := by decide +kernel
theorem dksX1_copy_1 : cX1_copy.data.toList.drop 22 = dktX1_copy_1 := dk_seg dksX1_copy_0 22 rfl rfl
theorem dX1_copy_0 : decode cX1_copy 0 = .ok (.aload_n 0, 1) := dk_42 (dk_at dksX1_copy_0 0 rfl rfl)
theorem dX1_copy_1 : decode cX1_copy 1 = .ok (.iload_n 1, 1) := dk_27 (dk_at dksX1_copy_0 1 rfl rfl)
theorem dX1_copy_2 : decode cX1_copy 2 = .ok (.invokevirtual 72, 3) := dk_182 0 72 (dk_at dksX1_copy_0 2 rfl rfl)
theorem dX1_copy_5 : decode cX1_copy 5 = .ok (.astore_n 3, 1) := dk_78 (dk_at dksX1_copy_0 5 rfl rfl)
theorem dX1_copy_6 : decode cX1_copy 6 = .ok (.aload_n 0, 1) := dk_42 (dk_at dksX1_copy_0 6 rfl rfl)
theorem dX1_copy_7 : decode cX1_copy 7 = .ok (.iload_n 2, 1) := dk_28 (dk_at dksX1_copy_0 7 rfl rfl)
theorem dX1_copy_8 : decode cX1_copy 8 = .ok (.invokevirtual 72, 3) := dk_182 0 72 (dk_at dksX1_copy_0 8 rfl rfl)
theorem dX1_copy_11 : decode cX1_copy 11 = .ok (.pop, 1) := dk_87 (dk_at dksX1_copy_0 11 rfl rfl)
theorem dX1_copy_12 : decode cX1_copy 12 = .ok (.aload_n 0, 1) := dk_42 (dk_at dksX1_copy_0 12 rfl rfl)
theorem dX1_copy_13 : decode cX1_copy 13 = .ok (.iload_n 2, 1) := dk_28 (dk_at dksX1_copy_0 13 rfl rfl)
theorem dX1_copy_14 : decode cX1_copy 14 = .ok (.new 22, 3) := dk_187 0 22 (dk_at dksX1_copy_0 14 rfl rfl)
theorem dX1_copy_17 : decode cX1_copy 17 = .ok (.dup, 1) := dk_89 (dk_at dksX1_copy_0 17 rfl rfl)
theorem dX1_copy_18 : decode cX1_copy 18 = .ok (.aload_n 3, 1) := dk_45 (dk_at dksX1_copy_0 18 rfl rfl)
theorem dX1_copy_19 : decode cX1_copy 19 = .ok (.invokespecial 83, 3) := dk_183 0 83 (dk_at dksX1_copy_0 19 rfl rfl)
theorem dX1_copy_22 : decode cX1_copy 22 = .ok (.invokevirtual 92, 3) := dk_182 0 92 (dk_at dksX1_copy_1 0 rfl rfl)
theorem dX1_copy_25 : decode cX1_copy 25 = .ok (.aload_n 3, 1) := dk_45 (dk_at dksX1_copy_1 3 rfl rfl)
theorem dX1_copy_26 : decode cX1_copy 26 = .ok (.invokeinterface 76 1, 5) := by decide +kernel
theorem dX1_copy_31 : decode cX1_copy 31 = .ok (.ireturn, 1) := dk_172 (dk_at dksX1_copy_1 9 rfl rfl)
abbrev cX1_isSame : ByteArray := prog_1_method_15_code
def yX1_isSame : MethodName := ⟨RX1, "isSame", "(II)Z"⟩
def dkwX1_isSame_0 : List UInt8 := [42, 27, 182, 0, 72, 42, 28, 182, 0, 72, 185, 0, 107, 2, 0, 172]
abbrev dktX1_isSame_0 : List UInt8 := dkwX1_isSame_0 ++ []
theorem dksX1_isSame_0 : cX1_isSame.data.toList.drop 0 = dktX1_isSame_0 := by decide +kernel
theorem dX1_isSame_0 : decode cX1_isSame 0 = .ok (.aload_n 0, 1) := dk_42 (dk_at dksX1_isSame_0 0 rfl rfl)
theorem dX1_isSame_1 : decode cX1_isSame 1 = .ok (.iload_n 1, 1) := dk_27 (dk_at dksX1_isSame_0 1 rfl rfl)
theorem dX1_isSame_2 : decode cX1_isSame 2 = .ok (.invokevirtual 72, 3) := dk_182 0 72 (dk_at dksX1_isSame_0 2 rfl rfl)
theorem dX1_isSame_5 : decode cX1_isSame 5 = .ok (.aload_n 0, 1) := dk_42 (dk_at dksX1_isSame_0 5 rfl rfl)
theorem dX1_isSame_6 : decode cX1_isSame 6 = .ok (.iload_n 2, 1) := dk_28 (dk_at dksX1_isSame_0 6 rfl rfl)
theorem dX1_isSame_7 : decode cX1_isSame 7 = .ok (.invokevirtual 72, 3) := dk_182 0 72 (dk_at dksX1_isSame_0 7 rfl rfl)
theorem dX1_isSame_10 : decode cX1_isSame 10 = .ok (.invokeinterface 107 2, 5) := by decide +kernel
theorem dX1_isSame_15 : decode cX1_isSame 15 = .ok (.ireturn, 1) := dk_172 (dk_at dksX1_isSame_0 15 rfl rfl)
abbrev cX1_distance : ByteArray := prog_1_method_16_code
def yX1_distance : MethodName := ⟨RX1, "distance", "(II)I"⟩
def dkwX1_distance_2 : List UInt8 := [185, 0, 76, 1, 0, 104, 100, 172]
abbrev dktX1_distance_2 : List UInt8 := dkwX1_distance_2 ++ []
def dkwX1_distance_1 : List UInt8 := [185, 0, 76, 1, 0, 96, 5, 187, 0, 110, 89, 45, 25, 4, 183, 0, 112, 182, 0, 115]
abbrev dktX1_distance_1 : List UInt8 := dkwX1_distance_1 ++ dktX1_distance_2
def dkwX1_distance_0 : List UInt8 := [42, 27, 182, 0, 72, 78, 42, 28, 182, 0, 72, 58, 4, 45, 185, 0, 76, 1, 0, 25, 4]
abbrev dktX1_distance_0 : List UInt8 := dkwX1_distance_0 ++ dktX1_distance_1
theorem dksX1_distance_0 : cX1_distance.data.toList.drop 0 = dktX1_distance_0 := by decide +kernel
theorem dksX1_distance_1 : cX1_distance.data.toList.drop 21 = dktX1_distance_1 := dk_seg dksX1_distance_0 21 rfl rfl
theorem dksX1_distance_2 : cX1_distance.data.toList.drop 41 = dktX1_distance_2 := dk_seg dksX1_distance_1 20 rfl rfl
theorem dX1_distance_0 : decode cX1_distance 0 = .ok (.aload_n 0, 1) := dk_42 (dk_at dksX1_distance_0 0 rfl rfl)
theorem dX1_distance_1 : decode cX1_distance 1 = .ok (.iload_n 1, 1) := dk_27 (dk_at dksX1_distance_0 1 rfl rfl)
theorem dX1_distance_2 : decode cX1_distance 2 = .ok (.invokevirtual 72, 3) := dk_182 0 72 (dk_at dksX1_distance_0 2 rfl rfl)
theorem dX1_distance_5 : decode cX1_distance 5 = .ok (.astore_n 3, 1) := dk_78 (dk_at dksX1_distance_0 5 rfl rfl)
theorem dX1_distance_6 : decode cX1_distance 6 = .ok (.aload_n 0, 1) := dk_42 (dk_at dksX1_distance_0 6 rfl rfl)
theorem dX1_distance_7 : decode cX1_distance 7 = .ok (.iload_n 2, 1) := dk_28 (dk_at dksX1_distance_0 7 rfl rfl)
theorem dX1_distance_8 : decode cX1_distance 8 = .ok (.invokevirtual 72, 3) := dk_182 0 72 (dk_at dksX1_distance_0 8 rfl rfl)
theorem dX1_distance_11 : decode cX1_distance 11 = .ok (.astore 4, 2) := dk_58 4 (dk_at dksX1_distance_0 11 rfl rfl)
theorem dX1_distance_13 : decode cX1_distance 13 = .ok (.aload_n 3, 1) := dk_45 (dk_at dksX1_distance_0 13 rfl rfl)
theorem dX1_distance_14 : decode cX1_distance 14 = .ok (.invokeinterface 76 1, 5) := by decide +kernel
theorem dX1_distance_19 : decode cX1_distance 19 = .ok (.aload 4, 2) := dk_25 4 (dk_at dksX1_distance_0 19 rfl rfl)
theorem dX1_distance_21 : decode cX1_distance 21 = .ok (.invokeinterface 76 1, 5) := by decide +kernel
theorem dX1_distance_26 : decode cX1_distance 26 = .ok (.iadd, 1) := dk_96 (dk_at dksX1_distance_1 5 rfl rfl)
theorem dX1_distance_27 : decode cX1_distance 27 = .ok (.iconst 2, 1) := dk_5 (dk_at dksX1_distance_1 6 rfl rfl)
theorem dX1_distance_28 : decode cX1_distance 28 = .ok (.new 110, 3) := dk_187 0 110 (dk_at dksX1_distance_1 7 rfl rfl)
theorem dX1_distance_31 : decode cX1_distance 31 = .ok (.dup, 1) := dk_89 (dk_at dksX1_distance_1 10 rfl rfl)
theorem dX1_distance_32 : decode cX1_distance 32 = .ok (.aload_n 3, 1) := dk_45 (dk_at dksX1_distance_1 11 rfl rfl)
theorem dX1_distance_33 : decode cX1_distance 33 = .ok (.aload 4, 2) := dk_25 4 (dk_at dksX1_distance_1 12 rfl rfl)
theorem dX1_distance_35 : decode cX1_distance 35 = .ok (.invokespecial 112, 3) := dk_183 0 112 (dk_at dksX1_distance_1 14 rfl rfl)
theorem dX1_distance_38 : decode cX1_distance 38 = .ok (.invokevirtual 115, 3) := dk_182 0 115 (dk_at dksX1_distance_1 17 rfl rfl)
theorem dX1_distance_41 : decode cX1_distance 41 = .ok (.invokeinterface 76 1, 5) := by decide +kernel
theorem dX1_distance_46 : decode cX1_distance 46 = .ok (.imul, 1) := dk_104 (dk_at dksX1_distance_2 5 rfl rfl)
theorem dX1_distance_47 : decode cX1_distance 47 = .ok (.isub, 1) := dk_100 (dk_at dksX1_distance_2 6 rfl rfl)
theorem dX1_distance_48 : decode cX1_distance 48 = .ok (.ireturn, 1) := dk_172 (dk_at dksX1_distance_2 7 rfl rfl)
abbrev cX1_feed : ByteArray := prog_1_method_17_code
def yX1_feed : MethodName := ⟨RX1, "feed", "(C)I"⟩
def dkwX1_feed_1 : List UInt8 := [27, 182, 0, 122, 87, 42, 180, 0, 39, 182, 0, 119, 172]
abbrev dktX1_feed_1 : List UInt8 := dkwX1_feed_1 ++ []
def dkwX1_feed_0 : List UInt8 := [42, 180, 0, 39, 182, 0, 119, 16, 50, 162, 0, 7, 4, 167, 0, 4, 3, 184, 0, 80, 42, 180, 0, 39]
abbrev dktX1_feed_0 : List UInt8 := dkwX1_feed_0 ++ dktX1_feed_1
theorem dksX1_feed_0 : cX1_feed.data.toList.drop 0 = dktX1_feed_0 := by decide +kernel
theorem dksX1_feed_1 : cX1_feed.data.toList.drop 24 = dktX1_feed_1 := dk_seg dksX1_feed_0 24 rfl rfl
theorem dX1_feed_0 : decode cX1_feed 0 = .ok (.aload_n 0, 1) := dk_42 (dk_at dksX1_feed_0 0 rfl rfl)
theorem dX1_feed_1 : decode cX1_feed 1 = .ok (.getfield 39, 3) := dk_180 0 39 (dk_at dksX1_feed_0 1 rfl rfl)
theorem dX1_feed_4 : decode cX1_feed 4 = .ok (.invokevirtual 119, 3) := dk_182 0 119 (dk_at dksX1_feed_0 4 rfl rfl)
theorem dX1_feed_7 : decode cX1_feed 7 = .ok (.bipush 50, 2) := dk_16 50 (dk_at dksX1_feed_0 7 rfl rfl)
theorem dX1_feed_9 : decode cX1_feed 9 = .ok (.if_icmp .ge 7, 3) := dk_162 0 7 (dk_at dksX1_feed_0 9 rfl rfl)
theorem dX1_feed_12 : decode cX1_feed 12 = .ok (.iconst 1, 1) := dk_4 (dk_at dksX1_feed_0 12 rfl rfl)
theorem dX1_feed_13 : decode cX1_feed 13 = .ok (.goto 4, 3) := dk_167 0 4 (dk_at dksX1_feed_0 13 rfl rfl)
theorem dX1_feed_16 : decode cX1_feed 16 = .ok (.iconst 0, 1) := dk_3 (dk_at dksX1_feed_0 16 rfl rfl)
theorem dX1_feed_17 : decode cX1_feed 17 = .ok (.invokestatic 80, 3) := dk_184 0 80 (dk_at dksX1_feed_0 17 rfl rfl)
theorem dX1_feed_20 : decode cX1_feed 20 = .ok (.aload_n 0, 1) := dk_42 (dk_at dksX1_feed_0 20 rfl rfl)
theorem dX1_feed_21 : decode cX1_feed 21 = .ok (.getfield 39, 3) := dk_180 0 39 (dk_at dksX1_feed_0 21 rfl rfl)
theorem dX1_feed_24 : decode cX1_feed 24 = .ok (.iload_n 1, 1) := dk_27 (dk_at dksX1_feed_1 0 rfl rfl)
theorem dX1_feed_25 : decode cX1_feed 25 = .ok (.invokevirtual 122, 3) := dk_182 0 122 (dk_at dksX1_feed_1 1 rfl rfl)
theorem dX1_feed_28 : decode cX1_feed 28 = .ok (.pop, 1) := dk_87 (dk_at dksX1_feed_1 4 rfl rfl)
theorem dX1_feed_29 : decode cX1_feed 29 = .ok (.aload_n 0, 1) := dk_42 (dk_at dksX1_feed_1 5 rfl rfl)
theorem dX1_feed_30 : decode cX1_feed 30 = .ok (.getfield 39, 3) := dk_180 0 39 (dk_at dksX1_feed_1 6 rfl rfl)
theorem dX1_feed_33 : decode cX1_feed 33 = .ok (.invokevirtual 119, 3) := dk_182 0 119 (dk_at dksX1_feed_1 9 rfl rfl)
theorem dX1_feed_36 : decode cX1_feed 36 = .ok (.ireturn, 1) := dk_172 (dk_at dksX1_feed_1 12 rfl rfl)
abbrev cX1_readDocument : ByteArray := prog_1_method_18_code
def yX1_readDocument : MethodName := ⟨RX1, "readDocument", "(I)I"⟩
def dkwX1_readDocument_4 : List UInt8 := [182, 0, 137, 25, 4, 191]
abbrev dktX1_readDocument_4 : List UInt8 := dkwX1_readDocument_4 ++ []
def dkwX1_readDocument_3 : List UInt8 := [180, 0, 143, 100, 62, 42, 180, 0, 39, 3, 182, 0, 137, 29, 172, 58, 4, 42, 180, 0, 39, 3]
abbrev dktX1_readDocument_3 : List UInt8 := dkwX1_readDocument_3 ++ dktX1_readDocument_4
def dkwX1_readDocument_2 : List UInt8 := [182, 0, 92, 44, 185, 0, 76, 1, 0, 62, 42, 180, 0, 39, 3, 182, 0, 137, 29, 172, 77, 16, 156, 44]
abbrev dktX1_readDocument_2 : List UInt8 := dkwX1_readDocument_2 ++ dktX1_readDocument_3
def dkwX1_readDocument_1 : List UInt8 := [44, 185, 0, 76, 1, 0, 16, 24, 163, 0, 7, 4, 167, 0, 4, 3, 184, 0, 80, 42, 27, 44]
abbrev dktX1_readDocument_1 : List UInt8 := dkwX1_readDocument_1 ++ dktX1_readDocument_2
def dkwX1_readDocument_0 : List UInt8 := [42, 27, 182, 0, 72, 87, 187, 0, 126, 89, 42, 180, 0, 39, 182, 0, 128, 183, 0, 132, 182, 0, 135, 77]
abbrev dktX1_readDocument_0 : List UInt8 := dkwX1_readDocument_0 ++ dktX1_readDocument_1
theorem dksX1_readDocument_0 : cX1_readDocument.data.toList.drop 0 = dktX1_readDocument_0 := by decide +kernel
theorem dksX1_readDocument_1 : cX1_readDocument.data.toList.drop 24 = dktX1_readDocument_1 := dk_seg dksX1_readDocument_0 24 rfl rfl
theorem dksX1_readDocument_2 : cX1_readDocument.data.toList.drop 46 = dktX1_readDocument_2 := dk_seg dksX1_readDocument_1 22 rfl rfl
theorem dksX1_readDocument_3 : cX1_readDocument.data.toList.drop 70 = dktX1_readDocument_3 := dk_seg dksX1_readDocument_2 24 rfl rfl
theorem dksX1_readDocument_4 : cX1_readDocument.data.toList.drop 92 = dktX1_readDocument_4 := dk_seg dksX1_readDocument_3 22 rfl rfl
theorem dX1_readDocument_0 : decode cX1_readDocument 0 = .ok (.aload_n 0, 1) := dk_42 (dk_at dksX1_readDocument_0 0 rfl rfl)
theorem dX1_readDocument_1 : decode cX1_readDocument 1 = .ok (.iload_n 1, 1) := dk_27 (dk_at dksX1_readDocument_0 1 rfl rfl)
theorem dX1_readDocument_2 : decode cX1_readDocument 2 = .ok (.invokevirtual 72, 3) := dk_182 0 72 (dk_at dksX1_readDocument_0 2 rfl rfl)
theorem dX1_readDocument_5 : decode cX1_readDocument 5 = .ok (.pop, 1) := dk_87 (dk_at dksX1_readDocument_0 5 rfl rfl)
theorem dX1_readDocument_6 : decode cX1_readDocument 6 = .ok (.new 126, 3) := dk_187 0 126 (dk_at dksX1_readDocument_0 6 rfl rfl)
theorem dX1_readDocument_9 : decode cX1_readDocument 9 = .ok (.dup, 1) := dk_89 (dk_at dksX1_readDocument_0 9 rfl rfl)
theorem dX1_readDocument_10 : decode cX1_readDocument 10 = .ok (.aload_n 0, 1) := dk_42 (dk_at dksX1_readDocument_0 10 rfl rfl)
theorem dX1_readDocument_11 : decode cX1_readDocument 11 = .ok (.getfield 39, 3) := dk_180 0 39 (dk_at dksX1_readDocument_0 11 rfl rfl)
theorem dX1_readDocument_14 : decode cX1_readDocument 14 = .ok (.invokevirtual 128, 3) := dk_182 0 128 (dk_at dksX1_readDocument_0 14 rfl rfl)
theorem dX1_readDocument_17 : decode cX1_readDocument 17 = .ok (.invokespecial 132, 3) := dk_183 0 132 (dk_at dksX1_readDocument_0 17 rfl rfl)
theorem dX1_readDocument_20 : decode cX1_readDocument 20 = .ok (.invokevirtual 135, 3) := dk_182 0 135 (dk_at dksX1_readDocument_0 20 rfl rfl)
theorem dX1_readDocument_23 : decode cX1_readDocument 23 = .ok (.astore_n 2, 1) := dk_77 (dk_at dksX1_readDocument_0 23 rfl rfl)
theorem dX1_readDocument_24 : decode cX1_readDocument 24 = .ok (.aload_n 2, 1) := dk_44 (dk_at dksX1_readDocument_1 0 rfl rfl)
theorem dX1_readDocument_25 : decode cX1_readDocument 25 = .ok (.invokeinterface 76 1, 5) := by decide +kernel
theorem dX1_readDocument_30 : decode cX1_readDocument 30 = .ok (.bipush 24, 2) := dk_16 24 (dk_at dksX1_readDocument_1 6 rfl rfl)
theorem dX1_readDocument_32 : decode cX1_readDocument 32 = .ok (.if_icmp .gt 7, 3) := dk_163 0 7 (dk_at dksX1_readDocument_1 8 rfl rfl)
theorem dX1_readDocument_35 : decode cX1_readDocument 35 = .ok (.iconst 1, 1) := dk_4 (dk_at dksX1_readDocument_1 11 rfl rfl)
theorem dX1_readDocument_36 : decode cX1_readDocument 36 = .ok (.goto 4, 3) := dk_167 0 4 (dk_at dksX1_readDocument_1 12 rfl rfl)
theorem dX1_readDocument_39 : decode cX1_readDocument 39 = .ok (.iconst 0, 1) := dk_3 (dk_at dksX1_readDocument_1 15 rfl rfl)
theorem dX1_readDocument_40 : decode cX1_readDocument 40 = .ok (.invokestatic 80, 3) := dk_184 0 80 (dk_at dksX1_readDocument_1 16 rfl rfl)
theorem dX1_readDocument_43 : decode cX1_readDocument 43 = .ok (.aload_n 0, 1) := dk_42 (dk_at dksX1_readDocument_1 19 rfl rfl)
theorem dX1_readDocument_44 : decode cX1_readDocument 44 = .ok (.iload_n 1, 1) := dk_27 (dk_at dksX1_readDocument_1 20 rfl rfl)
theorem dX1_readDocument_45 : decode cX1_readDocument 45 = .ok (.aload_n 2, 1) := dk_44 (dk_at dksX1_readDocument_1 21 rfl rfl)
theorem dX1_readDocument_46 : decode cX1_readDocument 46 = .ok (.invokevirtual 92, 3) := dk_182 0 92 (dk_at dksX1_readDocument_2 0 rfl rfl)
theorem dX1_readDocument_49 : decode cX1_readDocument 49 = .ok (.aload_n 2, 1) := dk_44 (dk_at dksX1_readDocument_2 3 rfl rfl)
theorem dX1_readDocument_50 : decode cX1_readDocument 50 = .ok (.invokeinterface 76 1, 5) := by decide +kernel
theorem dX1_readDocument_55 : decode cX1_readDocument 55 = .ok (.istore_n 3, 1) := dk_62 (dk_at dksX1_readDocument_2 9 rfl rfl)
theorem dX1_readDocument_56 : decode cX1_readDocument 56 = .ok (.aload_n 0, 1) := dk_42 (dk_at dksX1_readDocument_2 10 rfl rfl)
theorem dX1_readDocument_57 : decode cX1_readDocument 57 = .ok (.getfield 39, 3) := dk_180 0 39 (dk_at dksX1_readDocument_2 11 rfl rfl)
theorem dX1_readDocument_60 : decode cX1_readDocument 60 = .ok (.iconst 0, 1) := dk_3 (dk_at dksX1_readDocument_2 14 rfl rfl)
theorem dX1_readDocument_61 : decode cX1_readDocument 61 = .ok (.invokevirtual 137, 3) := dk_182 0 137 (dk_at dksX1_readDocument_2 15 rfl rfl)
theorem dX1_readDocument_64 : decode cX1_readDocument 64 = .ok (.iload_n 3, 1) := dk_29 (dk_at dksX1_readDocument_2 18 rfl rfl)
theorem dX1_readDocument_65 : decode cX1_readDocument 65 = .ok (.ireturn, 1) := dk_172 (dk_at dksX1_readDocument_2 19 rfl rfl)
theorem dX1_readDocument_66 : decode cX1_readDocument 66 = .ok (.astore_n 2, 1) := dk_77 (dk_at dksX1_readDocument_2 20 rfl rfl)
theorem dX1_readDocument_67 : decode cX1_readDocument 67 = .ok (.bipush (-100), 2) := dk_16 156 (dk_at dksX1_readDocument_2 21 rfl rfl)
theorem dX1_readDocument_69 : decode cX1_readDocument 69 = .ok (.aload_n 2, 1) := dk_44 (dk_at dksX1_readDocument_2 23 rfl rfl)
theorem dX1_readDocument_70 : decode cX1_readDocument 70 = .ok (.getfield 143, 3) := dk_180 0 143 (dk_at dksX1_readDocument_3 0 rfl rfl)
theorem dX1_readDocument_73 : decode cX1_readDocument 73 = .ok (.isub, 1) := dk_100 (dk_at dksX1_readDocument_3 3 rfl rfl)
theorem dX1_readDocument_74 : decode cX1_readDocument 74 = .ok (.istore_n 3, 1) := dk_62 (dk_at dksX1_readDocument_3 4 rfl rfl)
theorem dX1_readDocument_75 : decode cX1_readDocument 75 = .ok (.aload_n 0, 1) := dk_42 (dk_at dksX1_readDocument_3 5 rfl rfl)
theorem dX1_readDocument_76 : decode cX1_readDocument 76 = .ok (.getfield 39, 3) := dk_180 0 39 (dk_at dksX1_readDocument_3 6 rfl rfl)
theorem dX1_readDocument_79 : decode cX1_readDocument 79 = .ok (.iconst 0, 1) := dk_3 (dk_at dksX1_readDocument_3 9 rfl rfl)
theorem dX1_readDocument_80 : decode cX1_readDocument 80 = .ok (.invokevirtual 137, 3) := dk_182 0 137 (dk_at dksX1_readDocument_3 10 rfl rfl)
theorem dX1_readDocument_83 : decode cX1_readDocument 83 = .ok (.iload_n 3, 1) := dk_29 (dk_at dksX1_readDocument_3 13 rfl rfl)
theorem dX1_readDocument_84 : decode cX1_readDocument 84 = .ok (.ireturn, 1) := dk_172 (dk_at dksX1_readDocument_3 14 rfl rfl)
theorem dX1_readDocument_85 : decode cX1_readDocument 85 = .ok (.astore 4, 2) := dk_58 4 (dk_at dksX1_readDocument_3 15 rfl rfl)
theorem dX1_readDocument_87 : decode cX1_readDocument 87 = .ok (.aload_n 0, 1) := dk_42 (dk_at dksX1_readDocument_3 17 rfl rfl)
theorem dX1_readDocument_88 : decode cX1_readDocument 88 = .ok (.getfield 39, 3) := dk_180 0 39 (dk_at dksX1_readDocument_3 18 rfl rfl)
theorem dX1_readDocument_91 : decode cX1_readDocument 91 = .ok (.iconst 0, 1) := dk_3 (dk_at dksX1_readDocument_3 21 rfl rfl)
theorem dX1_readDocument_92 : decode cX1_readDocument 92 = .ok (.invokevirtual 137, 3) := dk_182 0 137 (dk_at dksX1_readDocument_4 0 rfl rfl)
theorem dX1_readDocument_95 : decode cX1_readDocument 95 = .ok (.aload 4, 2) := dk_25 4 (dk_at dksX1_readDocument_4 3 rfl rfl)
theorem dX1_readDocument_97 : decode cX1_readDocument 97 = .ok (.athrow, 1) := dk_191 (dk_at dksX1_readDocument_4 5 rfl rfl)
abbrev cX1_setMode : ByteArray := prog_1_method_19_code
def yX1_setMode : MethodName := ⟨RX1, "setMode", "(I)I"⟩
def dkwX1_setMode_0 : List UInt8 := [27, 3, 4, 184, 0, 10, 184, 0, 57, 42, 180, 0, 147, 61, 42, 27, 181, 0, 147, 28, 172]
abbrev dktX1_setMode_0 : List UInt8 := dkwX1_setMode_0 ++ []
theorem dksX1_setMode_0 : cX1_setMode.data.toList.drop 0 = dktX1_setMode_0 := by decide +kernel
theorem dX1_setMode_0 : decode cX1_setMode 0 = .ok (.iload_n 1, 1) := dk_27 (dk_at dksX1_setMode_0 0 rfl rfl)
theorem dX1_setMode_1 : decode cX1_setMode 1 = .ok (.iconst 0, 1) := dk_3 (dk_at dksX1_setMode_0 1 rfl rfl)
theorem dX1_setMode_2 : decode cX1_setMode 2 = .ok (.iconst 1, 1) := dk_4 (dk_at dksX1_setMode_0 2 rfl rfl)
theorem dX1_setMode_3 : decode cX1_setMode 3 = .ok (.invokestatic 10, 3) := dk_184 0 10 (dk_at dksX1_setMode_0 3 rfl rfl)
theorem dX1_setMode_6 : decode cX1_setMode 6 = .ok (.invokestatic 57, 3) := dk_184 0 57 (dk_at dksX1_setMode_0 6 rfl rfl)
theorem dX1_setMode_9 : decode cX1_setMode 9 = .ok (.aload_n 0, 1) := dk_42 (dk_at dksX1_setMode_0 9 rfl rfl)
theorem dX1_setMode_10 : decode cX1_setMode 10 = .ok (.getfield 147, 3) := dk_180 0 147 (dk_at dksX1_setMode_0 10 rfl rfl)
theorem dX1_setMode_13 : decode cX1_setMode 13 = .ok (.istore_n 2, 1) := dk_61 (dk_at dksX1_setMode_0 13 rfl rfl)
theorem dX1_setMode_14 : decode cX1_setMode 14 = .ok (.aload_n 0, 1) := dk_42 (dk_at dksX1_setMode_0 14 rfl rfl)
theorem dX1_setMode_15 : decode cX1_setMode 15 = .ok (.iload_n 1, 1) := dk_27 (dk_at dksX1_setMode_0 15 rfl rfl)
theorem dX1_setMode_16 : decode cX1_setMode 16 = .ok (.putfield 147, 3) := dk_181 0 147 (dk_at dksX1_setMode_0 16 rfl rfl)
theorem dX1_setMode_19 : decode cX1_setMode 19 = .ok (.iload_n 2, 1) := dk_28 (dk_at dksX1_setMode_0 19 rfl rfl)
theorem dX1_setMode_20 : decode cX1_setMode 20 = .ok (.ireturn, 1) := dk_172 (dk_at dksX1_setMode_0 20 rfl rfl)
abbrev cX1_compare : ByteArray := prog_1_method_20_code
def yX1_compare : MethodName := ⟨RX1, "compare", "(II)I"⟩
def dkwX1_compare_1 : List UInt8 := [181, 0, 155, 42, 180, 0, 155, 180, 0, 159, 185, 0, 76, 1, 0, 172]
abbrev dktX1_compare_1 : List UInt8 := dkwX1_compare_1 ++ []
def dkwX1_compare_0 : List UInt8 := [42, 187, 0, 150, 89, 42, 27, 182, 0, 72, 42, 28, 182, 0, 72, 42, 180, 0, 147, 183, 0, 152]
abbrev dktX1_compare_0 : List UInt8 := dkwX1_compare_0 ++ dktX1_compare_1
theorem dksX1_compare_0 : cX1_compare.data.toList.drop 0 = dktX1_compare_0 := by decide +kernel
theorem dksX1_compare_1 : cX1_compare.data.toList.drop 22 = dktX1_compare_1 := dk_seg dksX1_compare_0 22 rfl rfl
theorem dX1_compare_0 : decode cX1_compare 0 = .ok (.aload_n 0, 1) := dk_42 (dk_at dksX1_compare_0 0 rfl rfl)
theorem dX1_compare_1 : decode cX1_compare 1 = .ok (.new 150, 3) := dk_187 0 150 (dk_at dksX1_compare_0 1 rfl rfl)
theorem dX1_compare_4 : decode cX1_compare 4 = .ok (.dup, 1) := dk_89 (dk_at dksX1_compare_0 4 rfl rfl)
theorem dX1_compare_5 : decode cX1_compare 5 = .ok (.aload_n 0, 1) := dk_42 (dk_at dksX1_compare_0 5 rfl rfl)
theorem dX1_compare_6 : decode cX1_compare 6 = .ok (.iload_n 1, 1) := dk_27 (dk_at dksX1_compare_0 6 rfl rfl)
theorem dX1_compare_7 : decode cX1_compare 7 = .ok (.invokevirtual 72, 3) := dk_182 0 72 (dk_at dksX1_compare_0 7 rfl rfl)
theorem dX1_compare_10 : decode cX1_compare 10 = .ok (.aload_n 0, 1) := dk_42 (dk_at dksX1_compare_0 10 rfl rfl)
theorem dX1_compare_11 : decode cX1_compare 11 = .ok (.iload_n 2, 1) := dk_28 (dk_at dksX1_compare_0 11 rfl rfl)
theorem dX1_compare_12 : decode cX1_compare 12 = .ok (.invokevirtual 72, 3) := dk_182 0 72 (dk_at dksX1_compare_0 12 rfl rfl)
theorem dX1_compare_15 : decode cX1_compare 15 = .ok (.aload_n 0, 1) := dk_42 (dk_at dksX1_compare_0 15 rfl rfl)
theorem dX1_compare_16 : decode cX1_compare 16 = .ok (.getfield 147, 3) := dk_180 0 147 (dk_at dksX1_compare_0 16 rfl rfl)
theorem dX1_compare_19 : decode cX1_compare 19 = .ok (.invokespecial 152, 3) := dk_183 0 152 (dk_at dksX1_compare_0 19 rfl rfl)
theorem dX1_compare_22 : decode cX1_compare 22 = .ok (.putfield 155, 3) := dk_181 0 155 (dk_at dksX1_compare_1 0 rfl rfl)
theorem dX1_compare_25 : decode cX1_compare 25 = .ok (.aload_n 0, 1) := dk_42 (dk_at dksX1_compare_1 3 rfl rfl)
theorem dX1_compare_26 : decode cX1_compare 26 = .ok (.getfield 155, 3) := dk_180 0 155 (dk_at dksX1_compare_1 4 rfl rfl)
theorem dX1_compare_29 : decode cX1_compare 29 = .ok (.getfield 159, 3) := dk_180 0 159 (dk_at dksX1_compare_1 7 rfl rfl)
theorem dX1_compare_32 : decode cX1_compare 32 = .ok (.invokeinterface 76 1, 5) := by decide +kernel
theorem dX1_compare_37 : decode cX1_compare 37 = .ok (.ireturn, 1) := dk_172 (dk_at dksX1_compare_1 15 rfl rfl)
abbrev cX1_partner : ByteArray := prog_1_method_22_code
def yX1_partner : MethodName := ⟨RX1, "partner", "(I)I"⟩
def dkwX1_partner_1 : List UInt8 := [172]
abbrev dktX1_partner_1 : List UInt8 := dkwX1_partner_1 ++ []
def dkwX1_partner_0 : List UInt8 := [27, 42, 182, 0, 162, 180, 0, 165, 185, 0, 76, 1, 0, 184, 0, 96, 42, 180, 0, 155, 27, 182, 0, 168]
abbrev dktX1_partner_0 : List UInt8 := dkwX1_partner_0 ++ dktX1_partner_1
theorem dksX1_partner_0 : cX1_partner.data.toList.drop 0 = dktX1_partner_0 := by decide +kernel
theorem dksX1_partner_1 : cX1_partner.data.toList.drop 24 = dktX1_partner_1 := dk_seg dksX1_partner_0 24 rfl rfl
theorem dX1_partner_0 : decode cX1_partner 0 = .ok (.iload_n 1, 1) := dk_27 (dk_at dksX1_partner_0 0 rfl rfl)
theorem dX1_partner_1 : decode cX1_partner 1 = .ok (.aload_n 0, 1) := dk_42 (dk_at dksX1_partner_0 1 rfl rfl)
theorem dX1_partner_2 : decode cX1_partner 2 = .ok (.invokevirtual 162, 3) := dk_182 0 162 (dk_at dksX1_partner_0 2 rfl rfl)
theorem dX1_partner_5 : decode cX1_partner 5 = .ok (.getfield 165, 3) := dk_180 0 165 (dk_at dksX1_partner_0 5 rfl rfl)
theorem dX1_partner_8 : decode cX1_partner 8 = .ok (.invokeinterface 76 1, 5) := by decide +kernel
theorem dX1_partner_13 : decode cX1_partner 13 = .ok (.invokestatic 96, 3) := dk_184 0 96 (dk_at dksX1_partner_0 13 rfl rfl)
theorem dX1_partner_16 : decode cX1_partner 16 = .ok (.aload_n 0, 1) := dk_42 (dk_at dksX1_partner_0 16 rfl rfl)
theorem dX1_partner_17 : decode cX1_partner 17 = .ok (.getfield 155, 3) := dk_180 0 155 (dk_at dksX1_partner_0 17 rfl rfl)
theorem dX1_partner_20 : decode cX1_partner 20 = .ok (.iload_n 1, 1) := dk_27 (dk_at dksX1_partner_0 20 rfl rfl)
theorem dX1_partner_21 : decode cX1_partner 21 = .ok (.invokevirtual 168, 3) := dk_182 0 168 (dk_at dksX1_partner_0 21 rfl rfl)
theorem dX1_partner_24 : decode cX1_partner 24 = .ok (.ireturn, 1) := dk_172 (dk_at dksX1_partner_1 0 rfl rfl)
abbrev cX1_comparison : ByteArray := prog_1_method_21_code
def yX1_comparison : MethodName := ⟨RX1, "comparison", "()LMergeWorkbench$Comparison;"⟩
def dkwX1_comparison_0 : List UInt8 := [42, 180, 0, 155, 198, 0, 7, 4, 167, 0, 4, 3, 184, 0, 80, 42, 180, 0, 155, 176]
abbrev dktX1_comparison_0 : List UInt8 := dkwX1_comparison_0 ++ []
theorem dksX1_comparison_0 : cX1_comparison.data.toList.drop 0 = dktX1_comparison_0 := by decide +kernel
theorem dX1_comparison_0 : decode cX1_comparison 0 = .ok (.aload_n 0, 1) := dk_42 (dk_at dksX1_comparison_0 0 rfl rfl)
theorem dX1_comparison_1 : decode cX1_comparison 1 = .ok (.getfield 155, 3) := dk_180 0 155 (dk_at dksX1_comparison_0 1 rfl rfl)
theorem dX1_comparison_4 : decode cX1_comparison 4 = .ok (.ifnull 7, 3) := dk_198 0 7 (dk_at dksX1_comparison_0 4 rfl rfl)
theorem dX1_comparison_7 : decode cX1_comparison 7 = .ok (.iconst 1, 1) := dk_4 (dk_at dksX1_comparison_0 7 rfl rfl)
theorem dX1_comparison_8 : decode cX1_comparison 8 = .ok (.goto 4, 3) := dk_167 0 4 (dk_at dksX1_comparison_0 8 rfl rfl)
theorem dX1_comparison_11 : decode cX1_comparison 11 = .ok (.iconst 0, 1) := dk_3 (dk_at dksX1_comparison_0 11 rfl rfl)
theorem dX1_comparison_12 : decode cX1_comparison 12 = .ok (.invokestatic 80, 3) := dk_184 0 80 (dk_at dksX1_comparison_0 12 rfl rfl)
theorem dX1_comparison_15 : decode cX1_comparison 15 = .ok (.aload_n 0, 1) := dk_42 (dk_at dksX1_comparison_0 15 rfl rfl)
theorem dX1_comparison_16 : decode cX1_comparison 16 = .ok (.getfield 155, 3) := dk_180 0 155 (dk_at dksX1_comparison_0 16 rfl rfl)
theorem dX1_comparison_19 : decode cX1_comparison 19 = .ok (.areturn, 1) := dk_176 (dk_at dksX1_comparison_0 19 rfl rfl)
abbrev cX1_anchors : ByteArray := prog_1_method_23_code
def yX1_anchors : MethodName := ⟨RX1, "anchors", "()I"⟩
def dkwX1_anchors_0 : List UInt8 := [42, 182, 0, 162, 180, 0, 172, 172]
abbrev dktX1_anchors_0 : List UInt8 := dkwX1_anchors_0 ++ []
theorem dksX1_anchors_0 : cX1_anchors.data.toList.drop 0 = dktX1_anchors_0 := by decide +kernel
theorem dX1_anchors_0 : decode cX1_anchors 0 = .ok (.aload_n 0, 1) := dk_42 (dk_at dksX1_anchors_0 0 rfl rfl)
theorem dX1_anchors_1 : decode cX1_anchors 1 = .ok (.invokevirtual 162, 3) := dk_182 0 162 (dk_at dksX1_anchors_0 1 rfl rfl)
theorem dX1_anchors_4 : decode cX1_anchors 4 = .ok (.getfield 172, 3) := dk_180 0 172 (dk_at dksX1_anchors_0 4 rfl rfl)
theorem dX1_anchors_7 : decode cX1_anchors 7 = .ok (.ireturn, 1) := dk_172 (dk_at dksX1_anchors_0 7 rfl rfl)
abbrev cX1_differences : ByteArray := prog_1_method_24_code
def yX1_differences : MethodName := ⟨RX1, "differences", "()I"⟩
def dkwX1_differences_0 : List UInt8 := [42, 182, 0, 162, 180, 0, 175, 185, 0, 76, 1, 0, 172]
abbrev dktX1_differences_0 : List UInt8 := dkwX1_differences_0 ++ []
theorem dksX1_differences_0 : cX1_differences.data.toList.drop 0 = dktX1_differences_0 := by decide +kernel
theorem dX1_differences_0 : decode cX1_differences 0 = .ok (.aload_n 0, 1) := dk_42 (dk_at dksX1_differences_0 0 rfl rfl)
theorem dX1_differences_1 : decode cX1_differences 1 = .ok (.invokevirtual 162, 3) := dk_182 0 162 (dk_at dksX1_differences_0 1 rfl rfl)
theorem dX1_differences_4 : decode cX1_differences 4 = .ok (.getfield 175, 3) := dk_180 0 175 (dk_at dksX1_differences_0 4 rfl rfl)
theorem dX1_differences_7 : decode cX1_differences 7 = .ok (.invokeinterface 76 1, 5) := by decide +kernel
theorem dX1_differences_12 : decode cX1_differences 12 = .ok (.ireturn, 1) := dk_172 (dk_at dksX1_differences_0 12 rfl rfl)
abbrev cX1_difference : ByteArray := prog_1_method_25_code
def yX1_difference : MethodName := ⟨RX1, "difference", "(II)I"⟩
def dkwX1_difference_1 : List UInt8 := [184, 0, 57, 42, 180, 0, 155, 180, 0, 175, 27, 185, 0, 61, 2, 0, 192, 0, 178, 28, 182, 0, 180, 172]
abbrev dktX1_difference_1 : List UInt8 := dkwX1_difference_1 ++ []
def dkwX1_difference_0 : List UInt8 := [27, 42, 182, 0, 162, 180, 0, 175, 185, 0, 76, 1, 0, 184, 0, 96, 28, 3, 6, 184, 0, 10]
abbrev dktX1_difference_0 : List UInt8 := dkwX1_difference_0 ++ dktX1_difference_1
theorem dksX1_difference_0 : cX1_difference.data.toList.drop 0 = dktX1_difference_0 := by decide +kernel
theorem dksX1_difference_1 : cX1_difference.data.toList.drop 22 = dktX1_difference_1 := dk_seg dksX1_difference_0 22 rfl rfl
theorem dX1_difference_0 : decode cX1_difference 0 = .ok (.iload_n 1, 1) := dk_27 (dk_at dksX1_difference_0 0 rfl rfl)
theorem dX1_difference_1 : decode cX1_difference 1 = .ok (.aload_n 0, 1) := dk_42 (dk_at dksX1_difference_0 1 rfl rfl)
theorem dX1_difference_2 : decode cX1_difference 2 = .ok (.invokevirtual 162, 3) := dk_182 0 162 (dk_at dksX1_difference_0 2 rfl rfl)
theorem dX1_difference_5 : decode cX1_difference 5 = .ok (.getfield 175, 3) := dk_180 0 175 (dk_at dksX1_difference_0 5 rfl rfl)
theorem dX1_difference_8 : decode cX1_difference 8 = .ok (.invokeinterface 76 1, 5) := by decide +kernel
theorem dX1_difference_13 : decode cX1_difference 13 = .ok (.invokestatic 96, 3) := dk_184 0 96 (dk_at dksX1_difference_0 13 rfl rfl)
theorem dX1_difference_16 : decode cX1_difference 16 = .ok (.iload_n 2, 1) := dk_28 (dk_at dksX1_difference_0 16 rfl rfl)
theorem dX1_difference_17 : decode cX1_difference 17 = .ok (.iconst 0, 1) := dk_3 (dk_at dksX1_difference_0 17 rfl rfl)
theorem dX1_difference_18 : decode cX1_difference 18 = .ok (.iconst 3, 1) := dk_6 (dk_at dksX1_difference_0 18 rfl rfl)
theorem dX1_difference_19 : decode cX1_difference 19 = .ok (.invokestatic 10, 3) := dk_184 0 10 (dk_at dksX1_difference_0 19 rfl rfl)
theorem dX1_difference_22 : decode cX1_difference 22 = .ok (.invokestatic 57, 3) := dk_184 0 57 (dk_at dksX1_difference_1 0 rfl rfl)
theorem dX1_difference_25 : decode cX1_difference 25 = .ok (.aload_n 0, 1) := dk_42 (dk_at dksX1_difference_1 3 rfl rfl)
theorem dX1_difference_26 : decode cX1_difference 26 = .ok (.getfield 155, 3) := dk_180 0 155 (dk_at dksX1_difference_1 4 rfl rfl)
theorem dX1_difference_29 : decode cX1_difference 29 = .ok (.getfield 175, 3) := dk_180 0 175 (dk_at dksX1_difference_1 7 rfl rfl)
theorem dX1_difference_32 : decode cX1_difference 32 = .ok (.iload_n 1, 1) := dk_27 (dk_at dksX1_difference_1 10 rfl rfl)
theorem dX1_difference_33 : decode cX1_difference 33 = .ok (.invokeinterface 61 2, 5) := by decide +kernel
theorem dX1_difference_38 : decode cX1_difference 38 = .ok (.checkcast 178, 3) := dk_192 0 178 (dk_at dksX1_difference_1 16 rfl rfl)
theorem dX1_difference_41 : decode cX1_difference 41 = .ok (.iload_n 2, 1) := dk_28 (dk_at dksX1_difference_1 19 rfl rfl)
theorem dX1_difference_42 : decode cX1_difference 42 = .ok (.invokevirtual 180, 3) := dk_182 0 180 (dk_at dksX1_difference_1 20 rfl rfl)
theorem dX1_difference_45 : decode cX1_difference 45 = .ok (.ireturn, 1) := dk_172 (dk_at dksX1_difference_1 23 rfl rfl)
abbrev cX1_step : ByteArray := prog_1_method_26_code
def yX1_step : MethodName := ⟨RX1, "step", "(I)I"⟩
def dkwX1_step_2 : List UInt8 := [191, 44, 185, 0, 193, 1, 0, 192, 0, 87, 182, 0, 104, 172]
abbrev dktX1_step_2 : List UInt8 := dkwX1_step_2 ++ []
def dkwX1_step_1 : List UInt8 := [44, 185, 0, 193, 1, 0, 87, 132, 3, 1, 167, 255, 232, 27, 156, 0, 11, 187, 0, 197, 89, 183, 0, 199]
abbrev dktX1_step_1 : List UInt8 := dkwX1_step_1 ++ dktX1_step_2
def dkwX1_step_0 : List UInt8 := [42, 182, 0, 162, 182, 0, 183, 77, 3, 62, 29, 27, 162, 0, 25, 44, 185, 0, 187, 1, 0, 153, 0, 16]
abbrev dktX1_step_0 : List UInt8 := dkwX1_step_0 ++ dktX1_step_1
theorem dksX1_step_0 : cX1_step.data.toList.drop 0 = dktX1_step_0 := by decide +kernel
theorem dksX1_step_1 : cX1_step.data.toList.drop 24 = dktX1_step_1 := dk_seg dksX1_step_0 24 rfl rfl
theorem dksX1_step_2 : cX1_step.data.toList.drop 48 = dktX1_step_2 := dk_seg dksX1_step_1 24 rfl rfl
theorem dX1_step_0 : decode cX1_step 0 = .ok (.aload_n 0, 1) := dk_42 (dk_at dksX1_step_0 0 rfl rfl)
theorem dX1_step_1 : decode cX1_step 1 = .ok (.invokevirtual 162, 3) := dk_182 0 162 (dk_at dksX1_step_0 1 rfl rfl)
theorem dX1_step_4 : decode cX1_step 4 = .ok (.invokevirtual 183, 3) := dk_182 0 183 (dk_at dksX1_step_0 4 rfl rfl)
theorem dX1_step_7 : decode cX1_step 7 = .ok (.astore_n 2, 1) := dk_77 (dk_at dksX1_step_0 7 rfl rfl)
theorem dX1_step_8 : decode cX1_step 8 = .ok (.iconst 0, 1) := dk_3 (dk_at dksX1_step_0 8 rfl rfl)
theorem dX1_step_9 : decode cX1_step 9 = .ok (.istore_n 3, 1) := dk_62 (dk_at dksX1_step_0 9 rfl rfl)
theorem dX1_step_10 : decode cX1_step 10 = .ok (.iload_n 3, 1) := dk_29 (dk_at dksX1_step_0 10 rfl rfl)
theorem dX1_step_11 : decode cX1_step 11 = .ok (.iload_n 1, 1) := dk_27 (dk_at dksX1_step_0 11 rfl rfl)
theorem dX1_step_12 : decode cX1_step 12 = .ok (.if_icmp .ge 25, 3) := dk_162 0 25 (dk_at dksX1_step_0 12 rfl rfl)
theorem dX1_step_15 : decode cX1_step 15 = .ok (.aload_n 2, 1) := dk_44 (dk_at dksX1_step_0 15 rfl rfl)
theorem dX1_step_16 : decode cX1_step 16 = .ok (.invokeinterface 187 1, 5) := by decide +kernel
theorem dX1_step_21 : decode cX1_step 21 = .ok (.ifCond .eq 16, 3) := dk_153 0 16 (dk_at dksX1_step_0 21 rfl rfl)
theorem dX1_step_24 : decode cX1_step 24 = .ok (.aload_n 2, 1) := dk_44 (dk_at dksX1_step_1 0 rfl rfl)
theorem dX1_step_25 : decode cX1_step 25 = .ok (.invokeinterface 193 1, 5) := by decide +kernel
theorem dX1_step_30 : decode cX1_step 30 = .ok (.pop, 1) := dk_87 (dk_at dksX1_step_1 6 rfl rfl)
theorem dX1_step_31 : decode cX1_step 31 = .ok (.iinc 3 1, 3) := dk_132 3 1 (dk_at dksX1_step_1 7 rfl rfl)
theorem dX1_step_34 : decode cX1_step 34 = .ok (.goto (-24), 3) := dk_167 255 232 (dk_at dksX1_step_1 10 rfl rfl)
theorem dX1_step_37 : decode cX1_step 37 = .ok (.iload_n 1, 1) := dk_27 (dk_at dksX1_step_1 13 rfl rfl)
theorem dX1_step_38 : decode cX1_step 38 = .ok (.ifCond .ge 11, 3) := dk_156 0 11 (dk_at dksX1_step_1 14 rfl rfl)
theorem dX1_step_41 : decode cX1_step 41 = .ok (.new 197, 3) := dk_187 0 197 (dk_at dksX1_step_1 17 rfl rfl)
theorem dX1_step_44 : decode cX1_step 44 = .ok (.dup, 1) := dk_89 (dk_at dksX1_step_1 20 rfl rfl)
theorem dX1_step_45 : decode cX1_step 45 = .ok (.invokespecial 199, 3) := dk_183 0 199 (dk_at dksX1_step_1 21 rfl rfl)
theorem dX1_step_48 : decode cX1_step 48 = .ok (.athrow, 1) := dk_191 (dk_at dksX1_step_2 0 rfl rfl)
theorem dX1_step_49 : decode cX1_step 49 = .ok (.aload_n 2, 1) := dk_44 (dk_at dksX1_step_2 1 rfl rfl)
theorem dX1_step_50 : decode cX1_step 50 = .ok (.invokeinterface 193 1, 5) := by decide +kernel
theorem dX1_step_55 : decode cX1_step 55 = .ok (.checkcast 87, 3) := dk_192 0 87 (dk_at dksX1_step_2 7 rfl rfl)
theorem dX1_step_58 : decode cX1_step 58 = .ok (.invokevirtual 104, 3) := dk_182 0 104 (dk_at dksX1_step_2 10 rfl rfl)
theorem dX1_step_61 : decode cX1_step 61 = .ok (.ireturn, 1) := dk_172 (dk_at dksX1_step_2 13 rfl rfl)
abbrev cX1_similarity : ByteArray := prog_1_method_27_code
def yX1_similarity : MethodName := ⟨RX1, "similarity", "()D"⟩
def dkwX1_similarity_2 : List UInt8 := [185, 0, 76, 1, 0, 104, 135, 27, 135, 111, 175]
abbrev dktX1_similarity_2 : List UInt8 := dkwX1_similarity_2 ++ []
def dkwX1_similarity_1 : List UInt8 := [96, 60, 27, 154, 0, 11, 187, 0, 203, 89, 183, 0, 205, 191, 5, 42, 180, 0, 155, 180, 0, 159]
abbrev dktX1_similarity_1 : List UInt8 := dkwX1_similarity_1 ++ dktX1_similarity_2
def dkwX1_similarity_0 : List UInt8 := [42, 182, 0, 162, 180, 0, 165, 185, 0, 76, 1, 0, 42, 180, 0, 155, 180, 0, 200, 185, 0, 76, 1, 0]
abbrev dktX1_similarity_0 : List UInt8 := dkwX1_similarity_0 ++ dktX1_similarity_1
theorem dksX1_similarity_0 : cX1_similarity.data.toList.drop 0 = dktX1_similarity_0 := by decide +kernel
theorem dksX1_similarity_1 : cX1_similarity.data.toList.drop 24 = dktX1_similarity_1 := dk_seg dksX1_similarity_0 24 rfl rfl
theorem dksX1_similarity_2 : cX1_similarity.data.toList.drop 46 = dktX1_similarity_2 := dk_seg dksX1_similarity_1 22 rfl rfl
theorem dX1_similarity_0 : decode cX1_similarity 0 = .ok (.aload_n 0, 1) := dk_42 (dk_at dksX1_similarity_0 0 rfl rfl)
theorem dX1_similarity_1 : decode cX1_similarity 1 = .ok (.invokevirtual 162, 3) := dk_182 0 162 (dk_at dksX1_similarity_0 1 rfl rfl)
theorem dX1_similarity_4 : decode cX1_similarity 4 = .ok (.getfield 165, 3) := dk_180 0 165 (dk_at dksX1_similarity_0 4 rfl rfl)
theorem dX1_similarity_7 : decode cX1_similarity 7 = .ok (.invokeinterface 76 1, 5) := by decide +kernel
theorem dX1_similarity_12 : decode cX1_similarity 12 = .ok (.aload_n 0, 1) := dk_42 (dk_at dksX1_similarity_0 12 rfl rfl)
theorem dX1_similarity_13 : decode cX1_similarity 13 = .ok (.getfield 155, 3) := dk_180 0 155 (dk_at dksX1_similarity_0 13 rfl rfl)
theorem dX1_similarity_16 : decode cX1_similarity 16 = .ok (.getfield 200, 3) := dk_180 0 200 (dk_at dksX1_similarity_0 16 rfl rfl)
theorem dX1_similarity_19 : decode cX1_similarity 19 = .ok (.invokeinterface 76 1, 5) := by decide +kernel
theorem dX1_similarity_24 : decode cX1_similarity 24 = .ok (.iadd, 1) := dk_96 (dk_at dksX1_similarity_1 0 rfl rfl)
theorem dX1_similarity_25 : decode cX1_similarity 25 = .ok (.istore_n 1, 1) := dk_60 (dk_at dksX1_similarity_1 1 rfl rfl)
theorem dX1_similarity_26 : decode cX1_similarity 26 = .ok (.iload_n 1, 1) := dk_27 (dk_at dksX1_similarity_1 2 rfl rfl)
theorem dX1_similarity_27 : decode cX1_similarity 27 = .ok (.ifCond .ne 11, 3) := dk_154 0 11 (dk_at dksX1_similarity_1 3 rfl rfl)
theorem dX1_similarity_30 : decode cX1_similarity 30 = .ok (.new 203, 3) := dk_187 0 203 (dk_at dksX1_similarity_1 6 rfl rfl)
theorem dX1_similarity_33 : decode cX1_similarity 33 = .ok (.dup, 1) := dk_89 (dk_at dksX1_similarity_1 9 rfl rfl)
theorem dX1_similarity_34 : decode cX1_similarity 34 = .ok (.invokespecial 205, 3) := dk_183 0 205 (dk_at dksX1_similarity_1 10 rfl rfl)
theorem dX1_similarity_37 : decode cX1_similarity 37 = .ok (.athrow, 1) := dk_191 (dk_at dksX1_similarity_1 13 rfl rfl)
theorem dX1_similarity_38 : decode cX1_similarity 38 = .ok (.iconst 2, 1) := dk_5 (dk_at dksX1_similarity_1 14 rfl rfl)
theorem dX1_similarity_39 : decode cX1_similarity 39 = .ok (.aload_n 0, 1) := dk_42 (dk_at dksX1_similarity_1 15 rfl rfl)
theorem dX1_similarity_40 : decode cX1_similarity 40 = .ok (.getfield 155, 3) := dk_180 0 155 (dk_at dksX1_similarity_1 16 rfl rfl)
theorem dX1_similarity_43 : decode cX1_similarity 43 = .ok (.getfield 159, 3) := dk_180 0 159 (dk_at dksX1_similarity_1 19 rfl rfl)
theorem dX1_similarity_46 : decode cX1_similarity 46 = .ok (.invokeinterface 76 1, 5) := by decide +kernel
theorem dX1_similarity_51 : decode cX1_similarity 51 = .ok (.imul, 1) := dk_104 (dk_at dksX1_similarity_2 5 rfl rfl)
theorem dX1_similarity_52 : decode cX1_similarity 52 = .ok (.i2d, 1) := dk_135 (dk_at dksX1_similarity_2 6 rfl rfl)
theorem dX1_similarity_53 : decode cX1_similarity 53 = .ok (.iload_n 1, 1) := dk_27 (dk_at dksX1_similarity_2 7 rfl rfl)
theorem dX1_similarity_54 : decode cX1_similarity 54 = .ok (.i2d, 1) := dk_135 (dk_at dksX1_similarity_2 8 rfl rfl)
theorem dX1_similarity_55 : decode cX1_similarity 55 = .ok (.ddiv, 1) := dk_111 (dk_at dksX1_similarity_2 9 rfl rfl)
theorem dX1_similarity_56 : decode cX1_similarity 56 = .ok (.dreturn, 1) := dk_175 (dk_at dksX1_similarity_2 10 rfl rfl)
abbrev cX1_findMoves : ByteArray := prog_1_method_28_code
def yX1_findMoves : MethodName := ⟨RX1, "findMoves", "(I)I"⟩
def dkwX1_findMoves_0 : List UInt8 := [27, 4, 16, 9, 184, 0, 10, 184, 0, 57, 42, 182, 0, 162, 27, 182, 0, 206, 172]
abbrev dktX1_findMoves_0 : List UInt8 := dkwX1_findMoves_0 ++ []
theorem dksX1_findMoves_0 : cX1_findMoves.data.toList.drop 0 = dktX1_findMoves_0 := by decide +kernel
theorem dX1_findMoves_0 : decode cX1_findMoves 0 = .ok (.iload_n 1, 1) := dk_27 (dk_at dksX1_findMoves_0 0 rfl rfl)
theorem dX1_findMoves_1 : decode cX1_findMoves 1 = .ok (.iconst 1, 1) := dk_4 (dk_at dksX1_findMoves_0 1 rfl rfl)
theorem dX1_findMoves_2 : decode cX1_findMoves 2 = .ok (.bipush 9, 2) := dk_16 9 (dk_at dksX1_findMoves_0 2 rfl rfl)
theorem dX1_findMoves_4 : decode cX1_findMoves 4 = .ok (.invokestatic 10, 3) := dk_184 0 10 (dk_at dksX1_findMoves_0 4 rfl rfl)
theorem dX1_findMoves_7 : decode cX1_findMoves 7 = .ok (.invokestatic 57, 3) := dk_184 0 57 (dk_at dksX1_findMoves_0 7 rfl rfl)
theorem dX1_findMoves_10 : decode cX1_findMoves 10 = .ok (.aload_n 0, 1) := dk_42 (dk_at dksX1_findMoves_0 10 rfl rfl)
theorem dX1_findMoves_11 : decode cX1_findMoves 11 = .ok (.invokevirtual 162, 3) := dk_182 0 162 (dk_at dksX1_findMoves_0 11 rfl rfl)
theorem dX1_findMoves_14 : decode cX1_findMoves 14 = .ok (.iload_n 1, 1) := dk_27 (dk_at dksX1_findMoves_0 14 rfl rfl)
theorem dX1_findMoves_15 : decode cX1_findMoves 15 = .ok (.invokevirtual 206, 3) := dk_182 0 206 (dk_at dksX1_findMoves_0 15 rfl rfl)
theorem dX1_findMoves_18 : decode cX1_findMoves 18 = .ok (.ireturn, 1) := dk_172 (dk_at dksX1_findMoves_0 18 rfl rfl)
abbrev cX1_move : ByteArray := prog_1_method_29_code
def yX1_move : MethodName := ⟨RX1, "move", "(II)I"⟩
def dkwX1_move_2 : List UInt8 := [185, 0, 61, 2, 0, 192, 0, 212, 28, 182, 0, 214, 172]
abbrev dktX1_move_2 : List UInt8 := dkwX1_move_2 ++ []
def dkwX1_move_1 : List UInt8 := [184, 0, 96, 28, 3, 5, 184, 0, 10, 184, 0, 57, 42, 180, 0, 155, 180, 0, 209, 27]
abbrev dktX1_move_1 : List UInt8 := dkwX1_move_1 ++ dktX1_move_2
def dkwX1_move_0 : List UInt8 := [27, 42, 180, 0, 155, 199, 0, 7, 3, 167, 0, 15, 42, 180, 0, 155, 180, 0, 209, 185, 0, 76, 1, 0]
abbrev dktX1_move_0 : List UInt8 := dkwX1_move_0 ++ dktX1_move_1
theorem dksX1_move_0 : cX1_move.data.toList.drop 0 = dktX1_move_0 := by decide +kernel
theorem dksX1_move_1 : cX1_move.data.toList.drop 24 = dktX1_move_1 := dk_seg dksX1_move_0 24 rfl rfl
theorem dksX1_move_2 : cX1_move.data.toList.drop 44 = dktX1_move_2 := dk_seg dksX1_move_1 20 rfl rfl
theorem dX1_move_0 : decode cX1_move 0 = .ok (.iload_n 1, 1) := dk_27 (dk_at dksX1_move_0 0 rfl rfl)
theorem dX1_move_1 : decode cX1_move 1 = .ok (.aload_n 0, 1) := dk_42 (dk_at dksX1_move_0 1 rfl rfl)
theorem dX1_move_2 : decode cX1_move 2 = .ok (.getfield 155, 3) := dk_180 0 155 (dk_at dksX1_move_0 2 rfl rfl)
theorem dX1_move_5 : decode cX1_move 5 = .ok (.ifnonnull 7, 3) := dk_199 0 7 (dk_at dksX1_move_0 5 rfl rfl)
theorem dX1_move_8 : decode cX1_move 8 = .ok (.iconst 0, 1) := dk_3 (dk_at dksX1_move_0 8 rfl rfl)
theorem dX1_move_9 : decode cX1_move 9 = .ok (.goto 15, 3) := dk_167 0 15 (dk_at dksX1_move_0 9 rfl rfl)
theorem dX1_move_12 : decode cX1_move 12 = .ok (.aload_n 0, 1) := dk_42 (dk_at dksX1_move_0 12 rfl rfl)
theorem dX1_move_13 : decode cX1_move 13 = .ok (.getfield 155, 3) := dk_180 0 155 (dk_at dksX1_move_0 13 rfl rfl)
theorem dX1_move_16 : decode cX1_move 16 = .ok (.getfield 209, 3) := dk_180 0 209 (dk_at dksX1_move_0 16 rfl rfl)
theorem dX1_move_19 : decode cX1_move 19 = .ok (.invokeinterface 76 1, 5) := by decide +kernel
theorem dX1_move_24 : decode cX1_move 24 = .ok (.invokestatic 96, 3) := dk_184 0 96 (dk_at dksX1_move_1 0 rfl rfl)
theorem dX1_move_27 : decode cX1_move 27 = .ok (.iload_n 2, 1) := dk_28 (dk_at dksX1_move_1 3 rfl rfl)
theorem dX1_move_28 : decode cX1_move 28 = .ok (.iconst 0, 1) := dk_3 (dk_at dksX1_move_1 4 rfl rfl)
theorem dX1_move_29 : decode cX1_move 29 = .ok (.iconst 2, 1) := dk_5 (dk_at dksX1_move_1 5 rfl rfl)
theorem dX1_move_30 : decode cX1_move 30 = .ok (.invokestatic 10, 3) := dk_184 0 10 (dk_at dksX1_move_1 6 rfl rfl)
theorem dX1_move_33 : decode cX1_move 33 = .ok (.invokestatic 57, 3) := dk_184 0 57 (dk_at dksX1_move_1 9 rfl rfl)
theorem dX1_move_36 : decode cX1_move 36 = .ok (.aload_n 0, 1) := dk_42 (dk_at dksX1_move_1 12 rfl rfl)
theorem dX1_move_37 : decode cX1_move 37 = .ok (.getfield 155, 3) := dk_180 0 155 (dk_at dksX1_move_1 13 rfl rfl)
theorem dX1_move_40 : decode cX1_move 40 = .ok (.getfield 209, 3) := dk_180 0 209 (dk_at dksX1_move_1 16 rfl rfl)
theorem dX1_move_43 : decode cX1_move 43 = .ok (.iload_n 1, 1) := dk_27 (dk_at dksX1_move_1 19 rfl rfl)
theorem dX1_move_44 : decode cX1_move 44 = .ok (.invokeinterface 61 2, 5) := by decide +kernel
theorem dX1_move_49 : decode cX1_move 49 = .ok (.checkcast 212, 3) := dk_192 0 212 (dk_at dksX1_move_2 5 rfl rfl)
theorem dX1_move_52 : decode cX1_move 52 = .ok (.iload_n 2, 1) := dk_28 (dk_at dksX1_move_2 8 rfl rfl)
theorem dX1_move_53 : decode cX1_move 53 = .ok (.invokevirtual 214, 3) := dk_182 0 214 (dk_at dksX1_move_2 9 rfl rfl)
theorem dX1_move_56 : decode cX1_move 56 = .ok (.ireturn, 1) := dk_172 (dk_at dksX1_move_2 12 rfl rfl)
abbrev cX1_merge : ByteArray := prog_1_method_31_code
def yX1_merge : MethodName := ⟨RX1, "merge", "(III)I"⟩
def dkwX1_merge_3 : List UInt8 := [180, 0, 222, 180, 0, 226, 185, 0, 76, 1, 0, 172]
abbrev dktX1_merge_3 : List UInt8 := dkwX1_merge_3 ++ []
def dkwX1_merge_2 : List UInt8 := [25, 4, 25, 6, 42, 180, 0, 147, 183, 0, 152, 42, 180, 0, 43, 183, 0, 219, 181, 0, 222, 42]
abbrev dktX1_merge_2 : List UInt8 := dkwX1_merge_2 ++ dktX1_merge_3
def dkwX1_merge_1 : List UInt8 := [187, 0, 217, 89, 187, 0, 150, 89, 25, 4, 25, 5, 42, 180, 0, 147, 183, 0, 152, 187, 0, 150, 89]
abbrev dktX1_merge_1 : List UInt8 := dkwX1_merge_1 ++ dktX1_merge_2
def dkwX1_merge_0 : List UInt8 := [42, 27, 182, 0, 72, 58, 4, 42, 28, 182, 0, 72, 58, 5, 42, 29, 182, 0, 72, 58, 6, 42]
abbrev dktX1_merge_0 : List UInt8 := dkwX1_merge_0 ++ dktX1_merge_1
theorem dksX1_merge_0 : cX1_merge.data.toList.drop 0 = dktX1_merge_0 := by decide +kernel
theorem dksX1_merge_1 : cX1_merge.data.toList.drop 22 = dktX1_merge_1 := dk_seg dksX1_merge_0 22 rfl rfl
theorem dksX1_merge_2 : cX1_merge.data.toList.drop 45 = dktX1_merge_2 := dk_seg dksX1_merge_1 23 rfl rfl
theorem dksX1_merge_3 : cX1_merge.data.toList.drop 67 = dktX1_merge_3 := dk_seg dksX1_merge_2 22 rfl rfl
theorem dX1_merge_0 : decode cX1_merge 0 = .ok (.aload_n 0, 1) := dk_42 (dk_at dksX1_merge_0 0 rfl rfl)
theorem dX1_merge_1 : decode cX1_merge 1 = .ok (.iload_n 1, 1) := dk_27 (dk_at dksX1_merge_0 1 rfl rfl)
theorem dX1_merge_2 : decode cX1_merge 2 = .ok (.invokevirtual 72, 3) := dk_182 0 72 (dk_at dksX1_merge_0 2 rfl rfl)
theorem dX1_merge_5 : decode cX1_merge 5 = .ok (.astore 4, 2) := dk_58 4 (dk_at dksX1_merge_0 5 rfl rfl)
theorem dX1_merge_7 : decode cX1_merge 7 = .ok (.aload_n 0, 1) := dk_42 (dk_at dksX1_merge_0 7 rfl rfl)
theorem dX1_merge_8 : decode cX1_merge 8 = .ok (.iload_n 2, 1) := dk_28 (dk_at dksX1_merge_0 8 rfl rfl)
theorem dX1_merge_9 : decode cX1_merge 9 = .ok (.invokevirtual 72, 3) := dk_182 0 72 (dk_at dksX1_merge_0 9 rfl rfl)
theorem dX1_merge_12 : decode cX1_merge 12 = .ok (.astore 5, 2) := dk_58 5 (dk_at dksX1_merge_0 12 rfl rfl)
theorem dX1_merge_14 : decode cX1_merge 14 = .ok (.aload_n 0, 1) := dk_42 (dk_at dksX1_merge_0 14 rfl rfl)
theorem dX1_merge_15 : decode cX1_merge 15 = .ok (.iload_n 3, 1) := dk_29 (dk_at dksX1_merge_0 15 rfl rfl)
theorem dX1_merge_16 : decode cX1_merge 16 = .ok (.invokevirtual 72, 3) := dk_182 0 72 (dk_at dksX1_merge_0 16 rfl rfl)
theorem dX1_merge_19 : decode cX1_merge 19 = .ok (.astore 6, 2) := dk_58 6 (dk_at dksX1_merge_0 19 rfl rfl)
theorem dX1_merge_21 : decode cX1_merge 21 = .ok (.aload_n 0, 1) := dk_42 (dk_at dksX1_merge_0 21 rfl rfl)
theorem dX1_merge_22 : decode cX1_merge 22 = .ok (.new 217, 3) := dk_187 0 217 (dk_at dksX1_merge_1 0 rfl rfl)
theorem dX1_merge_25 : decode cX1_merge 25 = .ok (.dup, 1) := dk_89 (dk_at dksX1_merge_1 3 rfl rfl)
theorem dX1_merge_26 : decode cX1_merge 26 = .ok (.new 150, 3) := dk_187 0 150 (dk_at dksX1_merge_1 4 rfl rfl)
theorem dX1_merge_29 : decode cX1_merge 29 = .ok (.dup, 1) := dk_89 (dk_at dksX1_merge_1 7 rfl rfl)
theorem dX1_merge_30 : decode cX1_merge 30 = .ok (.aload 4, 2) := dk_25 4 (dk_at dksX1_merge_1 8 rfl rfl)
theorem dX1_merge_32 : decode cX1_merge 32 = .ok (.aload 5, 2) := dk_25 5 (dk_at dksX1_merge_1 10 rfl rfl)
theorem dX1_merge_34 : decode cX1_merge 34 = .ok (.aload_n 0, 1) := dk_42 (dk_at dksX1_merge_1 12 rfl rfl)
theorem dX1_merge_35 : decode cX1_merge 35 = .ok (.getfield 147, 3) := dk_180 0 147 (dk_at dksX1_merge_1 13 rfl rfl)
theorem dX1_merge_38 : decode cX1_merge 38 = .ok (.invokespecial 152, 3) := dk_183 0 152 (dk_at dksX1_merge_1 16 rfl rfl)
theorem dX1_merge_41 : decode cX1_merge 41 = .ok (.new 150, 3) := dk_187 0 150 (dk_at dksX1_merge_1 19 rfl rfl)
theorem dX1_merge_44 : decode cX1_merge 44 = .ok (.dup, 1) := dk_89 (dk_at dksX1_merge_1 22 rfl rfl)
theorem dX1_merge_45 : decode cX1_merge 45 = .ok (.aload 4, 2) := dk_25 4 (dk_at dksX1_merge_2 0 rfl rfl)
theorem dX1_merge_47 : decode cX1_merge 47 = .ok (.aload 6, 2) := dk_25 6 (dk_at dksX1_merge_2 2 rfl rfl)
theorem dX1_merge_49 : decode cX1_merge 49 = .ok (.aload_n 0, 1) := dk_42 (dk_at dksX1_merge_2 4 rfl rfl)
theorem dX1_merge_50 : decode cX1_merge 50 = .ok (.getfield 147, 3) := dk_180 0 147 (dk_at dksX1_merge_2 5 rfl rfl)
theorem dX1_merge_53 : decode cX1_merge 53 = .ok (.invokespecial 152, 3) := dk_183 0 152 (dk_at dksX1_merge_2 8 rfl rfl)
theorem dX1_merge_56 : decode cX1_merge 56 = .ok (.aload_n 0, 1) := dk_42 (dk_at dksX1_merge_2 11 rfl rfl)
theorem dX1_merge_57 : decode cX1_merge 57 = .ok (.getfield 43, 3) := dk_180 0 43 (dk_at dksX1_merge_2 12 rfl rfl)
theorem dX1_merge_60 : decode cX1_merge 60 = .ok (.invokespecial 219, 3) := dk_183 0 219 (dk_at dksX1_merge_2 15 rfl rfl)
theorem dX1_merge_63 : decode cX1_merge 63 = .ok (.putfield 222, 3) := dk_181 0 222 (dk_at dksX1_merge_2 18 rfl rfl)
theorem dX1_merge_66 : decode cX1_merge 66 = .ok (.aload_n 0, 1) := dk_42 (dk_at dksX1_merge_2 21 rfl rfl)
theorem dX1_merge_67 : decode cX1_merge 67 = .ok (.getfield 222, 3) := dk_180 0 222 (dk_at dksX1_merge_3 0 rfl rfl)
theorem dX1_merge_70 : decode cX1_merge 70 = .ok (.getfield 226, 3) := dk_180 0 226 (dk_at dksX1_merge_3 3 rfl rfl)
theorem dX1_merge_73 : decode cX1_merge 73 = .ok (.invokeinterface 76 1, 5) := by decide +kernel
theorem dX1_merge_78 : decode cX1_merge 78 = .ok (.ireturn, 1) := dk_172 (dk_at dksX1_merge_3 11 rfl rfl)
abbrev cX1_chunks : ByteArray := prog_1_method_33_code
def yX1_chunks : MethodName := ⟨RX1, "chunks", "()I"⟩
def dkwX1_chunks_0 : List UInt8 := [42, 182, 0, 229, 180, 0, 232, 185, 0, 76, 1, 0, 172]
abbrev dktX1_chunks_0 : List UInt8 := dkwX1_chunks_0 ++ []
theorem dksX1_chunks_0 : cX1_chunks.data.toList.drop 0 = dktX1_chunks_0 := by decide +kernel
theorem dX1_chunks_0 : decode cX1_chunks 0 = .ok (.aload_n 0, 1) := dk_42 (dk_at dksX1_chunks_0 0 rfl rfl)
theorem dX1_chunks_1 : decode cX1_chunks 1 = .ok (.invokevirtual 229, 3) := dk_182 0 229 (dk_at dksX1_chunks_0 1 rfl rfl)
theorem dX1_chunks_4 : decode cX1_chunks 4 = .ok (.getfield 232, 3) := dk_180 0 232 (dk_at dksX1_chunks_0 4 rfl rfl)
theorem dX1_chunks_7 : decode cX1_chunks 7 = .ok (.invokeinterface 76 1, 5) := by decide +kernel
theorem dX1_chunks_12 : decode cX1_chunks 12 = .ok (.ireturn, 1) := dk_172 (dk_at dksX1_chunks_0 12 rfl rfl)
abbrev cX1_merge_2 : ByteArray := prog_1_method_32_code
def yX1_merge_2 : MethodName := ⟨RX1, "merge", "()LMergeWorkbench$Merge;"⟩
def dkwX1_merge_2_0 : List UInt8 := [42, 180, 0, 222, 198, 0, 7, 4, 167, 0, 4, 3, 184, 0, 80, 42, 180, 0, 222, 176]
abbrev dktX1_merge_2_0 : List UInt8 := dkwX1_merge_2_0 ++ []
theorem dksX1_merge_2_0 : cX1_merge_2.data.toList.drop 0 = dktX1_merge_2_0 := by decide +kernel
theorem dX1_merge_2_0 : decode cX1_merge_2 0 = .ok (.aload_n 0, 1) := dk_42 (dk_at dksX1_merge_2_0 0 rfl rfl)
theorem dX1_merge_2_1 : decode cX1_merge_2 1 = .ok (.getfield 222, 3) := dk_180 0 222 (dk_at dksX1_merge_2_0 1 rfl rfl)
theorem dX1_merge_2_4 : decode cX1_merge_2 4 = .ok (.ifnull 7, 3) := dk_198 0 7 (dk_at dksX1_merge_2_0 4 rfl rfl)
theorem dX1_merge_2_7 : decode cX1_merge_2 7 = .ok (.iconst 1, 1) := dk_4 (dk_at dksX1_merge_2_0 7 rfl rfl)
theorem dX1_merge_2_8 : decode cX1_merge_2 8 = .ok (.goto 4, 3) := dk_167 0 4 (dk_at dksX1_merge_2_0 8 rfl rfl)
theorem dX1_merge_2_11 : decode cX1_merge_2 11 = .ok (.iconst 0, 1) := dk_3 (dk_at dksX1_merge_2_0 11 rfl rfl)
theorem dX1_merge_2_12 : decode cX1_merge_2 12 = .ok (.invokestatic 80, 3) := dk_184 0 80 (dk_at dksX1_merge_2_0 12 rfl rfl)
theorem dX1_merge_2_15 : decode cX1_merge_2 15 = .ok (.aload_n 0, 1) := dk_42 (dk_at dksX1_merge_2_0 15 rfl rfl)
theorem dX1_merge_2_16 : decode cX1_merge_2 16 = .ok (.getfield 222, 3) := dk_180 0 222 (dk_at dksX1_merge_2_0 16 rfl rfl)
theorem dX1_merge_2_19 : decode cX1_merge_2 19 = .ok (.areturn, 1) := dk_176 (dk_at dksX1_merge_2_0 19 rfl rfl)
abbrev cX1_chunk : ByteArray := prog_1_method_34_code
def yX1_chunk : MethodName := ⟨RX1, "chunk", "(II)I"⟩
def dkwX1_chunk_1 : List UInt8 := [184, 0, 57, 42, 180, 0, 222, 180, 0, 232, 27, 185, 0, 61, 2, 0, 192, 0, 235, 28, 182, 0, 237, 172]
abbrev dktX1_chunk_1 : List UInt8 := dkwX1_chunk_1 ++ []
def dkwX1_chunk_0 : List UInt8 := [27, 42, 182, 0, 229, 180, 0, 232, 185, 0, 76, 1, 0, 184, 0, 96, 28, 3, 16, 6, 184, 0, 10]
abbrev dktX1_chunk_0 : List UInt8 := dkwX1_chunk_0 ++ dktX1_chunk_1
theorem dksX1_chunk_0 : cX1_chunk.data.toList.drop 0 = dktX1_chunk_0 := by decide +kernel
theorem dksX1_chunk_1 : cX1_chunk.data.toList.drop 23 = dktX1_chunk_1 := dk_seg dksX1_chunk_0 23 rfl rfl
theorem dX1_chunk_0 : decode cX1_chunk 0 = .ok (.iload_n 1, 1) := dk_27 (dk_at dksX1_chunk_0 0 rfl rfl)
theorem dX1_chunk_1 : decode cX1_chunk 1 = .ok (.aload_n 0, 1) := dk_42 (dk_at dksX1_chunk_0 1 rfl rfl)
theorem dX1_chunk_2 : decode cX1_chunk 2 = .ok (.invokevirtual 229, 3) := dk_182 0 229 (dk_at dksX1_chunk_0 2 rfl rfl)
theorem dX1_chunk_5 : decode cX1_chunk 5 = .ok (.getfield 232, 3) := dk_180 0 232 (dk_at dksX1_chunk_0 5 rfl rfl)
theorem dX1_chunk_8 : decode cX1_chunk 8 = .ok (.invokeinterface 76 1, 5) := by decide +kernel
theorem dX1_chunk_13 : decode cX1_chunk 13 = .ok (.invokestatic 96, 3) := dk_184 0 96 (dk_at dksX1_chunk_0 13 rfl rfl)
theorem dX1_chunk_16 : decode cX1_chunk 16 = .ok (.iload_n 2, 1) := dk_28 (dk_at dksX1_chunk_0 16 rfl rfl)
theorem dX1_chunk_17 : decode cX1_chunk 17 = .ok (.iconst 0, 1) := dk_3 (dk_at dksX1_chunk_0 17 rfl rfl)
theorem dX1_chunk_18 : decode cX1_chunk 18 = .ok (.bipush 6, 2) := dk_16 6 (dk_at dksX1_chunk_0 18 rfl rfl)
theorem dX1_chunk_20 : decode cX1_chunk 20 = .ok (.invokestatic 10, 3) := dk_184 0 10 (dk_at dksX1_chunk_0 20 rfl rfl)
theorem dX1_chunk_23 : decode cX1_chunk 23 = .ok (.invokestatic 57, 3) := dk_184 0 57 (dk_at dksX1_chunk_1 0 rfl rfl)
theorem dX1_chunk_26 : decode cX1_chunk 26 = .ok (.aload_n 0, 1) := dk_42 (dk_at dksX1_chunk_1 3 rfl rfl)
theorem dX1_chunk_27 : decode cX1_chunk 27 = .ok (.getfield 222, 3) := dk_180 0 222 (dk_at dksX1_chunk_1 4 rfl rfl)
theorem dX1_chunk_30 : decode cX1_chunk 30 = .ok (.getfield 232, 3) := dk_180 0 232 (dk_at dksX1_chunk_1 7 rfl rfl)
theorem dX1_chunk_33 : decode cX1_chunk 33 = .ok (.iload_n 1, 1) := dk_27 (dk_at dksX1_chunk_1 10 rfl rfl)
theorem dX1_chunk_34 : decode cX1_chunk 34 = .ok (.invokeinterface 61 2, 5) := by decide +kernel
theorem dX1_chunk_39 : decode cX1_chunk 39 = .ok (.checkcast 235, 3) := dk_192 0 235 (dk_at dksX1_chunk_1 16 rfl rfl)
theorem dX1_chunk_42 : decode cX1_chunk 42 = .ok (.iload_n 2, 1) := dk_28 (dk_at dksX1_chunk_1 19 rfl rfl)
theorem dX1_chunk_43 : decode cX1_chunk 43 = .ok (.invokevirtual 237, 3) := dk_182 0 237 (dk_at dksX1_chunk_1 20 rfl rfl)
theorem dX1_chunk_46 : decode cX1_chunk 46 = .ok (.ireturn, 1) := dk_172 (dk_at dksX1_chunk_1 23 rfl rfl)
abbrev cX1_resolve : ByteArray := prog_1_method_35_code
def yX1_resolve : MethodName := ⟨RX1, "resolve", "(II)I"⟩
def dkwX1_resolve_3 : List UInt8 := [45, 25, 4, 182, 0, 241, 25, 4, 185, 0, 76, 1, 0, 172]
abbrev dktX1_resolve_3 : List UInt8 := dkwX1_resolve_3 ++ []
def dkwX1_resolve_2 : List UInt8 := [27, 185, 0, 61, 2, 0, 192, 0, 235, 78, 45, 28, 181, 0, 238, 187, 0, 22, 89, 183, 0, 24, 58, 4]
abbrev dktX1_resolve_2 : List UInt8 := dkwX1_resolve_2 ++ dktX1_resolve_3
def dkwX1_resolve_1 : List UInt8 := [187, 0, 197, 89, 183, 0, 199, 191, 28, 3, 7, 184, 0, 10, 184, 0, 57, 42, 180, 0, 222, 180, 0, 226]
abbrev dktX1_resolve_1 : List UInt8 := dkwX1_resolve_1 ++ dktX1_resolve_2
def dkwX1_resolve_0 : List UInt8 := [27, 3, 42, 182, 0, 229, 180, 0, 226, 185, 0, 76, 1, 0, 4, 100, 184, 0, 10, 154, 0, 11]
abbrev dktX1_resolve_0 : List UInt8 := dkwX1_resolve_0 ++ dktX1_resolve_1
theorem dksX1_resolve_0 : cX1_resolve.data.toList.drop 0 = dktX1_resolve_0 := by decide +kernel
theorem dksX1_resolve_1 : cX1_resolve.data.toList.drop 22 = dktX1_resolve_1 := dk_seg dksX1_resolve_0 22 rfl rfl
theorem dksX1_resolve_2 : cX1_resolve.data.toList.drop 46 = dktX1_resolve_2 := dk_seg dksX1_resolve_1 24 rfl rfl
theorem dksX1_resolve_3 : cX1_resolve.data.toList.drop 70 = dktX1_resolve_3 := dk_seg dksX1_resolve_2 24 rfl rfl
theorem dX1_resolve_0 : decode cX1_resolve 0 = .ok (.iload_n 1, 1) := dk_27 (dk_at dksX1_resolve_0 0 rfl rfl)
theorem dX1_resolve_1 : decode cX1_resolve 1 = .ok (.iconst 0, 1) := dk_3 (dk_at dksX1_resolve_0 1 rfl rfl)
theorem dX1_resolve_2 : decode cX1_resolve 2 = .ok (.aload_n 0, 1) := dk_42 (dk_at dksX1_resolve_0 2 rfl rfl)
theorem dX1_resolve_3 : decode cX1_resolve 3 = .ok (.invokevirtual 229, 3) := dk_182 0 229 (dk_at dksX1_resolve_0 3 rfl rfl)
theorem dX1_resolve_6 : decode cX1_resolve 6 = .ok (.getfield 226, 3) := dk_180 0 226 (dk_at dksX1_resolve_0 6 rfl rfl)
theorem dX1_resolve_9 : decode cX1_resolve 9 = .ok (.invokeinterface 76 1, 5) := by decide +kernel
theorem dX1_resolve_14 : decode cX1_resolve 14 = .ok (.iconst 1, 1) := dk_4 (dk_at dksX1_resolve_0 14 rfl rfl)
theorem dX1_resolve_15 : decode cX1_resolve 15 = .ok (.isub, 1) := dk_100 (dk_at dksX1_resolve_0 15 rfl rfl)
theorem dX1_resolve_16 : decode cX1_resolve 16 = .ok (.invokestatic 10, 3) := dk_184 0 10 (dk_at dksX1_resolve_0 16 rfl rfl)
theorem dX1_resolve_19 : decode cX1_resolve 19 = .ok (.ifCond .ne 11, 3) := dk_154 0 11 (dk_at dksX1_resolve_0 19 rfl rfl)
theorem dX1_resolve_22 : decode cX1_resolve 22 = .ok (.new 197, 3) := dk_187 0 197 (dk_at dksX1_resolve_1 0 rfl rfl)
theorem dX1_resolve_25 : decode cX1_resolve 25 = .ok (.dup, 1) := dk_89 (dk_at dksX1_resolve_1 3 rfl rfl)
theorem dX1_resolve_26 : decode cX1_resolve 26 = .ok (.invokespecial 199, 3) := dk_183 0 199 (dk_at dksX1_resolve_1 4 rfl rfl)
theorem dX1_resolve_29 : decode cX1_resolve 29 = .ok (.athrow, 1) := dk_191 (dk_at dksX1_resolve_1 7 rfl rfl)
theorem dX1_resolve_30 : decode cX1_resolve 30 = .ok (.iload_n 2, 1) := dk_28 (dk_at dksX1_resolve_1 8 rfl rfl)
theorem dX1_resolve_31 : decode cX1_resolve 31 = .ok (.iconst 0, 1) := dk_3 (dk_at dksX1_resolve_1 9 rfl rfl)
theorem dX1_resolve_32 : decode cX1_resolve 32 = .ok (.iconst 4, 1) := dk_7 (dk_at dksX1_resolve_1 10 rfl rfl)
theorem dX1_resolve_33 : decode cX1_resolve 33 = .ok (.invokestatic 10, 3) := dk_184 0 10 (dk_at dksX1_resolve_1 11 rfl rfl)
theorem dX1_resolve_36 : decode cX1_resolve 36 = .ok (.invokestatic 57, 3) := dk_184 0 57 (dk_at dksX1_resolve_1 14 rfl rfl)
theorem dX1_resolve_39 : decode cX1_resolve 39 = .ok (.aload_n 0, 1) := dk_42 (dk_at dksX1_resolve_1 17 rfl rfl)
theorem dX1_resolve_40 : decode cX1_resolve 40 = .ok (.getfield 222, 3) := dk_180 0 222 (dk_at dksX1_resolve_1 18 rfl rfl)
theorem dX1_resolve_43 : decode cX1_resolve 43 = .ok (.getfield 226, 3) := dk_180 0 226 (dk_at dksX1_resolve_1 21 rfl rfl)
theorem dX1_resolve_46 : decode cX1_resolve 46 = .ok (.iload_n 1, 1) := dk_27 (dk_at dksX1_resolve_2 0 rfl rfl)
theorem dX1_resolve_47 : decode cX1_resolve 47 = .ok (.invokeinterface 61 2, 5) := by decide +kernel
theorem dX1_resolve_52 : decode cX1_resolve 52 = .ok (.checkcast 235, 3) := dk_192 0 235 (dk_at dksX1_resolve_2 6 rfl rfl)
theorem dX1_resolve_55 : decode cX1_resolve 55 = .ok (.astore_n 3, 1) := dk_78 (dk_at dksX1_resolve_2 9 rfl rfl)
theorem dX1_resolve_56 : decode cX1_resolve 56 = .ok (.aload_n 3, 1) := dk_45 (dk_at dksX1_resolve_2 10 rfl rfl)
theorem dX1_resolve_57 : decode cX1_resolve 57 = .ok (.iload_n 2, 1) := dk_28 (dk_at dksX1_resolve_2 11 rfl rfl)
theorem dX1_resolve_58 : decode cX1_resolve 58 = .ok (.putfield 238, 3) := dk_181 0 238 (dk_at dksX1_resolve_2 12 rfl rfl)
theorem dX1_resolve_61 : decode cX1_resolve 61 = .ok (.new 22, 3) := dk_187 0 22 (dk_at dksX1_resolve_2 15 rfl rfl)
theorem dX1_resolve_64 : decode cX1_resolve 64 = .ok (.dup, 1) := dk_89 (dk_at dksX1_resolve_2 18 rfl rfl)
theorem dX1_resolve_65 : decode cX1_resolve 65 = .ok (.invokespecial 24, 3) := dk_183 0 24 (dk_at dksX1_resolve_2 19 rfl rfl)
theorem dX1_resolve_68 : decode cX1_resolve 68 = .ok (.astore 4, 2) := dk_58 4 (dk_at dksX1_resolve_2 22 rfl rfl)
theorem dX1_resolve_70 : decode cX1_resolve 70 = .ok (.aload_n 3, 1) := dk_45 (dk_at dksX1_resolve_3 0 rfl rfl)
theorem dX1_resolve_71 : decode cX1_resolve 71 = .ok (.aload 4, 2) := dk_25 4 (dk_at dksX1_resolve_3 1 rfl rfl)
theorem dX1_resolve_73 : decode cX1_resolve 73 = .ok (.invokevirtual 241, 3) := dk_182 0 241 (dk_at dksX1_resolve_3 3 rfl rfl)
theorem dX1_resolve_76 : decode cX1_resolve 76 = .ok (.aload 4, 2) := dk_25 4 (dk_at dksX1_resolve_3 6 rfl rfl)
theorem dX1_resolve_78 : decode cX1_resolve 78 = .ok (.invokeinterface 76 1, 5) := by decide +kernel
theorem dX1_resolve_83 : decode cX1_resolve 83 = .ok (.ireturn, 1) := dk_172 (dk_at dksX1_resolve_3 13 rfl rfl)
abbrev cX1_unresolved : ByteArray := prog_1_method_36_code
def yX1_unresolved : MethodName := ⟨RX1, "unresolved", "()I"⟩
def dkwX1_unresolved_0 : List UInt8 := [42, 182, 0, 229, 182, 0, 245, 172]
abbrev dktX1_unresolved_0 : List UInt8 := dkwX1_unresolved_0 ++ []
theorem dksX1_unresolved_0 : cX1_unresolved.data.toList.drop 0 = dktX1_unresolved_0 := by decide +kernel
theorem dX1_unresolved_0 : decode cX1_unresolved 0 = .ok (.aload_n 0, 1) := dk_42 (dk_at dksX1_unresolved_0 0 rfl rfl)
theorem dX1_unresolved_1 : decode cX1_unresolved 1 = .ok (.invokevirtual 229, 3) := dk_182 0 229 (dk_at dksX1_unresolved_0 1 rfl rfl)
theorem dX1_unresolved_4 : decode cX1_unresolved 4 = .ok (.invokevirtual 245, 3) := dk_182 0 245 (dk_at dksX1_unresolved_0 4 rfl rfl)
theorem dX1_unresolved_7 : decode cX1_unresolved 7 = .ok (.ireturn, 1) := dk_172 (dk_at dksX1_unresolved_0 7 rfl rfl)
abbrev cX1_mergedLength : ByteArray := prog_1_method_37_code
def yX1_mergedLength : MethodName := ⟨RX1, "mergedLength", "()I"⟩
def dkwX1_mergedLength_0 : List UInt8 := [42, 182, 0, 229, 182, 0, 248, 185, 0, 76, 1, 0, 172]
abbrev dktX1_mergedLength_0 : List UInt8 := dkwX1_mergedLength_0 ++ []
theorem dksX1_mergedLength_0 : cX1_mergedLength.data.toList.drop 0 = dktX1_mergedLength_0 := by decide +kernel
theorem dX1_mergedLength_0 : decode cX1_mergedLength 0 = .ok (.aload_n 0, 1) := dk_42 (dk_at dksX1_mergedLength_0 0 rfl rfl)
theorem dX1_mergedLength_1 : decode cX1_mergedLength 1 = .ok (.invokevirtual 229, 3) := dk_182 0 229 (dk_at dksX1_mergedLength_0 1 rfl rfl)
theorem dX1_mergedLength_4 : decode cX1_mergedLength 4 = .ok (.invokevirtual 248, 3) := dk_182 0 248 (dk_at dksX1_mergedLength_0 4 rfl rfl)
theorem dX1_mergedLength_7 : decode cX1_mergedLength 7 = .ok (.invokeinterface 76 1, 5) := by decide +kernel
theorem dX1_mergedLength_12 : decode cX1_mergedLength 12 = .ok (.ireturn, 1) := dk_172 (dk_at dksX1_mergedLength_0 12 rfl rfl)
abbrev cX1_merged : ByteArray := prog_1_method_38_code
def yX1_merged : MethodName := ⟨RX1, "merged", "(I)I"⟩
def dkwX1_merged_1 : List UInt8 := [185, 0, 61, 2, 0, 192, 0, 87, 182, 0, 104, 172]
abbrev dktX1_merged_1 : List UInt8 := dkwX1_merged_1 ++ []
def dkwX1_merged_0 : List UInt8 := [42, 182, 0, 229, 182, 0, 248, 77, 27, 44, 185, 0, 76, 1, 0, 184, 0, 96, 44, 27]
abbrev dktX1_merged_0 : List UInt8 := dkwX1_merged_0 ++ dktX1_merged_1
theorem dksX1_merged_0 : cX1_merged.data.toList.drop 0 = dktX1_merged_0 := by decide +kernel
theorem dksX1_merged_1 : cX1_merged.data.toList.drop 20 = dktX1_merged_1 := dk_seg dksX1_merged_0 20 rfl rfl
theorem dX1_merged_0 : decode cX1_merged 0 = .ok (.aload_n 0, 1) := dk_42 (dk_at dksX1_merged_0 0 rfl rfl)
theorem dX1_merged_1 : decode cX1_merged 1 = .ok (.invokevirtual 229, 3) := dk_182 0 229 (dk_at dksX1_merged_0 1 rfl rfl)
theorem dX1_merged_4 : decode cX1_merged 4 = .ok (.invokevirtual 248, 3) := dk_182 0 248 (dk_at dksX1_merged_0 4 rfl rfl)
theorem dX1_merged_7 : decode cX1_merged 7 = .ok (.astore_n 2, 1) := dk_77 (dk_at dksX1_merged_0 7 rfl rfl)
theorem dX1_merged_8 : decode cX1_merged 8 = .ok (.iload_n 1, 1) := dk_27 (dk_at dksX1_merged_0 8 rfl rfl)
theorem dX1_merged_9 : decode cX1_merged 9 = .ok (.aload_n 2, 1) := dk_44 (dk_at dksX1_merged_0 9 rfl rfl)
theorem dX1_merged_10 : decode cX1_merged 10 = .ok (.invokeinterface 76 1, 5) := by decide +kernel
theorem dX1_merged_15 : decode cX1_merged 15 = .ok (.invokestatic 96, 3) := dk_184 0 96 (dk_at dksX1_merged_0 15 rfl rfl)
theorem dX1_merged_18 : decode cX1_merged 18 = .ok (.aload_n 2, 1) := dk_44 (dk_at dksX1_merged_0 18 rfl rfl)
theorem dX1_merged_19 : decode cX1_merged 19 = .ok (.iload_n 1, 1) := dk_27 (dk_at dksX1_merged_0 19 rfl rfl)
theorem dX1_merged_20 : decode cX1_merged 20 = .ok (.invokeinterface 61 2, 5) := by decide +kernel
theorem dX1_merged_25 : decode cX1_merged 25 = .ok (.checkcast 87, 3) := dk_192 0 87 (dk_at dksX1_merged_1 5 rfl rfl)
theorem dX1_merged_28 : decode cX1_merged 28 = .ok (.invokevirtual 104, 3) := dk_182 0 104 (dk_at dksX1_merged_1 8 rfl rfl)
theorem dX1_merged_31 : decode cX1_merged 31 = .ok (.ireturn, 1) := dk_172 (dk_at dksX1_merged_1 11 rfl rfl)
abbrev cX1_accept : ByteArray := prog_1_method_39_code
def yX1_accept : MethodName := ⟨RX1, "accept", "(I)I"⟩
def dkwX1_accept_2 : List UInt8 := [183, 0, 253, 191, 42, 27, 44, 182, 0, 92, 44, 185, 0, 76, 1, 0, 172]
abbrev dktX1_accept_2 : List UInt8 := dkwX1_accept_2 ++ []
def dkwX1_accept_1 : List UInt8 := [42, 180, 0, 222, 182, 0, 248, 77, 44, 185, 0, 76, 1, 0, 16, 24, 164, 0, 11, 187, 0, 251, 89]
abbrev dktX1_accept_1 : List UInt8 := dkwX1_accept_1 ++ dktX1_accept_2
def dkwX1_accept_0 : List UInt8 := [42, 27, 182, 0, 72, 87, 42, 182, 0, 229, 182, 0, 245, 154, 0, 7, 4, 167, 0, 4, 3, 184, 0, 80]
abbrev dktX1_accept_0 : List UInt8 := dkwX1_accept_0 ++ dktX1_accept_1
theorem dksX1_accept_0 : cX1_accept.data.toList.drop 0 = dktX1_accept_0 := by decide +kernel
theorem dksX1_accept_1 : cX1_accept.data.toList.drop 24 = dktX1_accept_1 := dk_seg dksX1_accept_0 24 rfl rfl
theorem dksX1_accept_2 : cX1_accept.data.toList.drop 47 = dktX1_accept_2 := dk_seg dksX1_accept_1 23 rfl rfl
theorem dX1_accept_0 : decode cX1_accept 0 = .ok (.aload_n 0, 1) := dk_42 (dk_at dksX1_accept_0 0 rfl rfl)
theorem dX1_accept_1 : decode cX1_accept 1 = .ok (.iload_n 1, 1) := dk_27 (dk_at dksX1_accept_0 1 rfl rfl)
theorem dX1_accept_2 : decode cX1_accept 2 = .ok (.invokevirtual 72, 3) := dk_182 0 72 (dk_at dksX1_accept_0 2 rfl rfl)
theorem dX1_accept_5 : decode cX1_accept 5 = .ok (.pop, 1) := dk_87 (dk_at dksX1_accept_0 5 rfl rfl)
theorem dX1_accept_6 : decode cX1_accept 6 = .ok (.aload_n 0, 1) := dk_42 (dk_at dksX1_accept_0 6 rfl rfl)
theorem dX1_accept_7 : decode cX1_accept 7 = .ok (.invokevirtual 229, 3) := dk_182 0 229 (dk_at dksX1_accept_0 7 rfl rfl)
theorem dX1_accept_10 : decode cX1_accept 10 = .ok (.invokevirtual 245, 3) := dk_182 0 245 (dk_at dksX1_accept_0 10 rfl rfl)
theorem dX1_accept_13 : decode cX1_accept 13 = .ok (.ifCond .ne 7, 3) := dk_154 0 7 (dk_at dksX1_accept_0 13 rfl rfl)
theorem dX1_accept_16 : decode cX1_accept 16 = .ok (.iconst 1, 1) := dk_4 (dk_at dksX1_accept_0 16 rfl rfl)
theorem dX1_accept_17 : decode cX1_accept 17 = .ok (.goto 4, 3) := dk_167 0 4 (dk_at dksX1_accept_0 17 rfl rfl)
theorem dX1_accept_20 : decode cX1_accept 20 = .ok (.iconst 0, 1) := dk_3 (dk_at dksX1_accept_0 20 rfl rfl)
theorem dX1_accept_21 : decode cX1_accept 21 = .ok (.invokestatic 80, 3) := dk_184 0 80 (dk_at dksX1_accept_0 21 rfl rfl)
theorem dX1_accept_24 : decode cX1_accept 24 = .ok (.aload_n 0, 1) := dk_42 (dk_at dksX1_accept_1 0 rfl rfl)
theorem dX1_accept_25 : decode cX1_accept 25 = .ok (.getfield 222, 3) := dk_180 0 222 (dk_at dksX1_accept_1 1 rfl rfl)
theorem dX1_accept_28 : decode cX1_accept 28 = .ok (.invokevirtual 248, 3) := dk_182 0 248 (dk_at dksX1_accept_1 4 rfl rfl)
theorem dX1_accept_31 : decode cX1_accept 31 = .ok (.astore_n 2, 1) := dk_77 (dk_at dksX1_accept_1 7 rfl rfl)
theorem dX1_accept_32 : decode cX1_accept 32 = .ok (.aload_n 2, 1) := dk_44 (dk_at dksX1_accept_1 8 rfl rfl)
theorem dX1_accept_33 : decode cX1_accept 33 = .ok (.invokeinterface 76 1, 5) := by decide +kernel
theorem dX1_accept_38 : decode cX1_accept 38 = .ok (.bipush 24, 2) := dk_16 24 (dk_at dksX1_accept_1 14 rfl rfl)
theorem dX1_accept_40 : decode cX1_accept 40 = .ok (.if_icmp .le 11, 3) := dk_164 0 11 (dk_at dksX1_accept_1 16 rfl rfl)
theorem dX1_accept_43 : decode cX1_accept 43 = .ok (.new 251, 3) := dk_187 0 251 (dk_at dksX1_accept_1 19 rfl rfl)
theorem dX1_accept_46 : decode cX1_accept 46 = .ok (.dup, 1) := dk_89 (dk_at dksX1_accept_1 22 rfl rfl)
theorem dX1_accept_47 : decode cX1_accept 47 = .ok (.invokespecial 253, 3) := dk_183 0 253 (dk_at dksX1_accept_2 0 rfl rfl)
theorem dX1_accept_50 : decode cX1_accept 50 = .ok (.athrow, 1) := dk_191 (dk_at dksX1_accept_2 3 rfl rfl)
theorem dX1_accept_51 : decode cX1_accept 51 = .ok (.aload_n 0, 1) := dk_42 (dk_at dksX1_accept_2 4 rfl rfl)
theorem dX1_accept_52 : decode cX1_accept 52 = .ok (.iload_n 1, 1) := dk_27 (dk_at dksX1_accept_2 5 rfl rfl)
theorem dX1_accept_53 : decode cX1_accept 53 = .ok (.aload_n 2, 1) := dk_44 (dk_at dksX1_accept_2 6 rfl rfl)
theorem dX1_accept_54 : decode cX1_accept 54 = .ok (.invokevirtual 92, 3) := dk_182 0 92 (dk_at dksX1_accept_2 7 rfl rfl)
theorem dX1_accept_57 : decode cX1_accept 57 = .ok (.aload_n 2, 1) := dk_44 (dk_at dksX1_accept_2 10 rfl rfl)
theorem dX1_accept_58 : decode cX1_accept 58 = .ok (.invokeinterface 76 1, 5) := by decide +kernel
theorem dX1_accept_63 : decode cX1_accept 63 = .ok (.ireturn, 1) := dk_172 (dk_at dksX1_accept_2 16 rfl rfl)
abbrev cX1_makePatch : ByteArray := prog_1_method_40_code
def yX1_makePatch : MethodName := ⟨RX1, "makePatch", "(I)I"⟩
def dkwX1_makePatch_1 : List UInt8 := [181, 1, 3, 42, 180, 1, 3, 180, 1, 7, 185, 0, 76, 1, 0, 172]
abbrev dktX1_makePatch_1 : List UInt8 := dkwX1_makePatch_1 ++ []
def dkwX1_makePatch_0 : List UInt8 := [27, 3, 6, 184, 0, 10, 184, 0, 57, 42, 187, 0, 254, 89, 42, 182, 0, 162, 27, 183, 1, 0]
abbrev dktX1_makePatch_0 : List UInt8 := dkwX1_makePatch_0 ++ dktX1_makePatch_1
theorem dksX1_makePatch_0 : cX1_makePatch.data.toList.drop 0 = dktX1_makePatch_0 := by decide +kernel
theorem dksX1_makePatch_1 : cX1_makePatch.data.toList.drop 22 = dktX1_makePatch_1 := dk_seg dksX1_makePatch_0 22 rfl rfl
theorem dX1_makePatch_0 : decode cX1_makePatch 0 = .ok (.iload_n 1, 1) := dk_27 (dk_at dksX1_makePatch_0 0 rfl rfl)
theorem dX1_makePatch_1 : decode cX1_makePatch 1 = .ok (.iconst 0, 1) := dk_3 (dk_at dksX1_makePatch_0 1 rfl rfl)
theorem dX1_makePatch_2 : decode cX1_makePatch 2 = .ok (.iconst 3, 1) := dk_6 (dk_at dksX1_makePatch_0 2 rfl rfl)
theorem dX1_makePatch_3 : decode cX1_makePatch 3 = .ok (.invokestatic 10, 3) := dk_184 0 10 (dk_at dksX1_makePatch_0 3 rfl rfl)
theorem dX1_makePatch_6 : decode cX1_makePatch 6 = .ok (.invokestatic 57, 3) := dk_184 0 57 (dk_at dksX1_makePatch_0 6 rfl rfl)
theorem dX1_makePatch_9 : decode cX1_makePatch 9 = .ok (.aload_n 0, 1) := dk_42 (dk_at dksX1_makePatch_0 9 rfl rfl)
theorem dX1_makePatch_10 : decode cX1_makePatch 10 = .ok (.new 254, 3) := dk_187 0 254 (dk_at dksX1_makePatch_0 10 rfl rfl)
theorem dX1_makePatch_13 : decode cX1_makePatch 13 = .ok (.dup, 1) := dk_89 (dk_at dksX1_makePatch_0 13 rfl rfl)
theorem dX1_makePatch_14 : decode cX1_makePatch 14 = .ok (.aload_n 0, 1) := dk_42 (dk_at dksX1_makePatch_0 14 rfl rfl)
theorem dX1_makePatch_15 : decode cX1_makePatch 15 = .ok (.invokevirtual 162, 3) := dk_182 0 162 (dk_at dksX1_makePatch_0 15 rfl rfl)
theorem dX1_makePatch_18 : decode cX1_makePatch 18 = .ok (.iload_n 1, 1) := dk_27 (dk_at dksX1_makePatch_0 18 rfl rfl)
theorem dX1_makePatch_19 : decode cX1_makePatch 19 = .ok (.invokespecial 256, 3) := dk_183 1 0 (dk_at dksX1_makePatch_0 19 rfl rfl)
theorem dX1_makePatch_22 : decode cX1_makePatch 22 = .ok (.putfield 259, 3) := dk_181 1 3 (dk_at dksX1_makePatch_1 0 rfl rfl)
theorem dX1_makePatch_25 : decode cX1_makePatch 25 = .ok (.aload_n 0, 1) := dk_42 (dk_at dksX1_makePatch_1 3 rfl rfl)
theorem dX1_makePatch_26 : decode cX1_makePatch 26 = .ok (.getfield 259, 3) := dk_180 1 3 (dk_at dksX1_makePatch_1 4 rfl rfl)
theorem dX1_makePatch_29 : decode cX1_makePatch 29 = .ok (.getfield 263, 3) := dk_180 1 7 (dk_at dksX1_makePatch_1 7 rfl rfl)
theorem dX1_makePatch_32 : decode cX1_makePatch 32 = .ok (.invokeinterface 76 1, 5) := by decide +kernel
theorem dX1_makePatch_37 : decode cX1_makePatch 37 = .ok (.ireturn, 1) := dk_172 (dk_at dksX1_makePatch_1 15 rfl rfl)
abbrev cX1_hunk : ByteArray := prog_1_method_42_code
def yX1_hunk : MethodName := ⟨RX1, "hunk", "(II)I"⟩
def dkwX1_hunk_1 : List UInt8 := [184, 0, 57, 42, 180, 1, 3, 180, 1, 7, 27, 185, 0, 61, 2, 0, 192, 1, 13, 28, 182, 1, 15, 172]
abbrev dktX1_hunk_1 : List UInt8 := dkwX1_hunk_1 ++ []
def dkwX1_hunk_0 : List UInt8 := [27, 42, 182, 1, 10, 180, 1, 7, 185, 0, 76, 1, 0, 184, 0, 96, 28, 3, 8, 184, 0, 10]
abbrev dktX1_hunk_0 : List UInt8 := dkwX1_hunk_0 ++ dktX1_hunk_1
theorem dksX1_hunk_0 : cX1_hunk.data.toList.drop 0 = dktX1_hunk_0 := by decide +kernel
theorem dksX1_hunk_1 : cX1_hunk.data.toList.drop 22 = dktX1_hunk_1 := dk_seg dksX1_hunk_0 22 rfl rfl
theorem dX1_hunk_0 : decode cX1_hunk 0 = .ok (.iload_n 1, 1) := dk_27 (dk_at dksX1_hunk_0 0 rfl rfl)
theorem dX1_hunk_1 : decode cX1_hunk 1 = .ok (.aload_n 0, 1) := dk_42 (dk_at dksX1_hunk_0 1 rfl rfl)
theorem dX1_hunk_2 : decode cX1_hunk 2 = .ok (.invokevirtual 266, 3) := dk_182 1 10 (dk_at dksX1_hunk_0 2 rfl rfl)
theorem dX1_hunk_5 : decode cX1_hunk 5 = .ok (.getfield 263, 3) := dk_180 1 7 (dk_at dksX1_hunk_0 5 rfl rfl)
theorem dX1_hunk_8 : decode cX1_hunk 8 = .ok (.invokeinterface 76 1, 5) := by decide +kernel
theorem dX1_hunk_13 : decode cX1_hunk 13 = .ok (.invokestatic 96, 3) := dk_184 0 96 (dk_at dksX1_hunk_0 13 rfl rfl)
theorem dX1_hunk_16 : decode cX1_hunk 16 = .ok (.iload_n 2, 1) := dk_28 (dk_at dksX1_hunk_0 16 rfl rfl)
theorem dX1_hunk_17 : decode cX1_hunk 17 = .ok (.iconst 0, 1) := dk_3 (dk_at dksX1_hunk_0 17 rfl rfl)
theorem dX1_hunk_18 : decode cX1_hunk 18 = .ok (.iconst 5, 1) := dk_8 (dk_at dksX1_hunk_0 18 rfl rfl)
theorem dX1_hunk_19 : decode cX1_hunk 19 = .ok (.invokestatic 10, 3) := dk_184 0 10 (dk_at dksX1_hunk_0 19 rfl rfl)
theorem dX1_hunk_22 : decode cX1_hunk 22 = .ok (.invokestatic 57, 3) := dk_184 0 57 (dk_at dksX1_hunk_1 0 rfl rfl)
theorem dX1_hunk_25 : decode cX1_hunk 25 = .ok (.aload_n 0, 1) := dk_42 (dk_at dksX1_hunk_1 3 rfl rfl)
theorem dX1_hunk_26 : decode cX1_hunk 26 = .ok (.getfield 259, 3) := dk_180 1 3 (dk_at dksX1_hunk_1 4 rfl rfl)
theorem dX1_hunk_29 : decode cX1_hunk 29 = .ok (.getfield 263, 3) := dk_180 1 7 (dk_at dksX1_hunk_1 7 rfl rfl)
theorem dX1_hunk_32 : decode cX1_hunk 32 = .ok (.iload_n 1, 1) := dk_27 (dk_at dksX1_hunk_1 10 rfl rfl)
theorem dX1_hunk_33 : decode cX1_hunk 33 = .ok (.invokeinterface 61 2, 5) := by decide +kernel
theorem dX1_hunk_38 : decode cX1_hunk 38 = .ok (.checkcast 269, 3) := dk_192 1 13 (dk_at dksX1_hunk_1 16 rfl rfl)
theorem dX1_hunk_41 : decode cX1_hunk 41 = .ok (.iload_n 2, 1) := dk_28 (dk_at dksX1_hunk_1 19 rfl rfl)
theorem dX1_hunk_42 : decode cX1_hunk 42 = .ok (.invokevirtual 271, 3) := dk_182 1 15 (dk_at dksX1_hunk_1 20 rfl rfl)
theorem dX1_hunk_45 : decode cX1_hunk 45 = .ok (.ireturn, 1) := dk_172 (dk_at dksX1_hunk_1 23 rfl rfl)
abbrev cX1_patch : ByteArray := prog_1_method_41_code
def yX1_patch : MethodName := ⟨RX1, "patch", "()LMergeWorkbench$Patch;"⟩
def dkwX1_patch_0 : List UInt8 := [42, 180, 1, 3, 198, 0, 7, 4, 167, 0, 4, 3, 184, 0, 80, 42, 180, 1, 3, 176]
abbrev dktX1_patch_0 : List UInt8 := dkwX1_patch_0 ++ []
theorem dksX1_patch_0 : cX1_patch.data.toList.drop 0 = dktX1_patch_0 := by decide +kernel
theorem dX1_patch_0 : decode cX1_patch 0 = .ok (.aload_n 0, 1) := dk_42 (dk_at dksX1_patch_0 0 rfl rfl)
theorem dX1_patch_1 : decode cX1_patch 1 = .ok (.getfield 259, 3) := dk_180 1 3 (dk_at dksX1_patch_0 1 rfl rfl)
theorem dX1_patch_4 : decode cX1_patch 4 = .ok (.ifnull 7, 3) := dk_198 0 7 (dk_at dksX1_patch_0 4 rfl rfl)
theorem dX1_patch_7 : decode cX1_patch 7 = .ok (.iconst 1, 1) := dk_4 (dk_at dksX1_patch_0 7 rfl rfl)
theorem dX1_patch_8 : decode cX1_patch 8 = .ok (.goto 4, 3) := dk_167 0 4 (dk_at dksX1_patch_0 8 rfl rfl)
theorem dX1_patch_11 : decode cX1_patch 11 = .ok (.iconst 0, 1) := dk_3 (dk_at dksX1_patch_0 11 rfl rfl)
theorem dX1_patch_12 : decode cX1_patch 12 = .ok (.invokestatic 80, 3) := dk_184 0 80 (dk_at dksX1_patch_0 12 rfl rfl)
theorem dX1_patch_15 : decode cX1_patch 15 = .ok (.aload_n 0, 1) := dk_42 (dk_at dksX1_patch_0 15 rfl rfl)
theorem dX1_patch_16 : decode cX1_patch 16 = .ok (.getfield 259, 3) := dk_180 1 3 (dk_at dksX1_patch_0 16 rfl rfl)
theorem dX1_patch_19 : decode cX1_patch 19 = .ok (.areturn, 1) := dk_176 (dk_at dksX1_patch_0 19 rfl rfl)
abbrev cX1_apply : ByteArray := prog_1_method_43_code
def yX1_apply : MethodName := ⟨RX1, "apply", "(IIZ)I"⟩
def dkwX1_apply_3 : List UInt8 := [180, 1, 21, 182, 0, 92, 25, 5, 180, 1, 27, 172]
abbrev dktX1_apply_3 : List UInt8 := dkwX1_apply_3 ++ []
def dkwX1_apply_2 : List UInt8 := [187, 0, 251, 89, 183, 0, 253, 191, 42, 180, 1, 3, 25, 5, 180, 1, 23, 181, 1, 26, 42, 27, 25, 5]
abbrev dktX1_apply_2 : List UInt8 := dkwX1_apply_2 ++ dktX1_apply_3
def dkwX1_apply_1 : List UInt8 := [25, 4, 28, 29, 183, 1, 18, 58, 5, 25, 5, 180, 1, 21, 185, 0, 76, 1, 0, 16, 24, 164, 0, 11]
abbrev dktX1_apply_1 : List UInt8 := dkwX1_apply_1 ++ dktX1_apply_2
def dkwX1_apply_0 : List UInt8 := [42, 27, 182, 0, 72, 58, 4, 28, 3, 5, 184, 0, 10, 184, 0, 57, 187, 1, 16, 89, 42, 182, 1, 10]
abbrev dktX1_apply_0 : List UInt8 := dkwX1_apply_0 ++ dktX1_apply_1
theorem dksX1_apply_0 : cX1_apply.data.toList.drop 0 = dktX1_apply_0 := by decide +kernel
theorem dksX1_apply_1 : cX1_apply.data.toList.drop 24 = dktX1_apply_1 := dk_seg dksX1_apply_0 24 rfl rfl
theorem dksX1_apply_2 : cX1_apply.data.toList.drop 48 = dktX1_apply_2 := dk_seg dksX1_apply_1 24 rfl rfl
theorem dksX1_apply_3 : cX1_apply.data.toList.drop 72 = dktX1_apply_3 := dk_seg dksX1_apply_2 24 rfl rfl
theorem dX1_apply_0 : decode cX1_apply 0 = .ok (.aload_n 0, 1) := dk_42 (dk_at dksX1_apply_0 0 rfl rfl)
theorem dX1_apply_1 : decode cX1_apply 1 = .ok (.iload_n 1, 1) := dk_27 (dk_at dksX1_apply_0 1 rfl rfl)
theorem dX1_apply_2 : decode cX1_apply 2 = .ok (.invokevirtual 72, 3) := dk_182 0 72 (dk_at dksX1_apply_0 2 rfl rfl)
theorem dX1_apply_5 : decode cX1_apply 5 = .ok (.astore 4, 2) := dk_58 4 (dk_at dksX1_apply_0 5 rfl rfl)
theorem dX1_apply_7 : decode cX1_apply 7 = .ok (.iload_n 2, 1) := dk_28 (dk_at dksX1_apply_0 7 rfl rfl)
theorem dX1_apply_8 : decode cX1_apply 8 = .ok (.iconst 0, 1) := dk_3 (dk_at dksX1_apply_0 8 rfl rfl)
theorem dX1_apply_9 : decode cX1_apply 9 = .ok (.iconst 2, 1) := dk_5 (dk_at dksX1_apply_0 9 rfl rfl)
theorem dX1_apply_10 : decode cX1_apply 10 = .ok (.invokestatic 10, 3) := dk_184 0 10 (dk_at dksX1_apply_0 10 rfl rfl)
theorem dX1_apply_13 : decode cX1_apply 13 = .ok (.invokestatic 57, 3) := dk_184 0 57 (dk_at dksX1_apply_0 13 rfl rfl)
theorem dX1_apply_16 : decode cX1_apply 16 = .ok (.new 272, 3) := dk_187 1 16 (dk_at dksX1_apply_0 16 rfl rfl)
theorem dX1_apply_19 : decode cX1_apply 19 = .ok (.dup, 1) := dk_89 (dk_at dksX1_apply_0 19 rfl rfl)
theorem dX1_apply_20 : decode cX1_apply 20 = .ok (.aload_n 0, 1) := dk_42 (dk_at dksX1_apply_0 20 rfl rfl)
theorem dX1_apply_21 : decode cX1_apply 21 = .ok (.invokevirtual 266, 3) := dk_182 1 10 (dk_at dksX1_apply_0 21 rfl rfl)
theorem dX1_apply_24 : decode cX1_apply 24 = .ok (.aload 4, 2) := dk_25 4 (dk_at dksX1_apply_1 0 rfl rfl)
theorem dX1_apply_26 : decode cX1_apply 26 = .ok (.iload_n 2, 1) := dk_28 (dk_at dksX1_apply_1 2 rfl rfl)
theorem dX1_apply_27 : decode cX1_apply 27 = .ok (.iload_n 3, 1) := dk_29 (dk_at dksX1_apply_1 3 rfl rfl)
theorem dX1_apply_28 : decode cX1_apply 28 = .ok (.invokespecial 274, 3) := dk_183 1 18 (dk_at dksX1_apply_1 4 rfl rfl)
theorem dX1_apply_31 : decode cX1_apply 31 = .ok (.astore 5, 2) := dk_58 5 (dk_at dksX1_apply_1 7 rfl rfl)
theorem dX1_apply_33 : decode cX1_apply 33 = .ok (.aload 5, 2) := dk_25 5 (dk_at dksX1_apply_1 9 rfl rfl)
theorem dX1_apply_35 : decode cX1_apply 35 = .ok (.getfield 277, 3) := dk_180 1 21 (dk_at dksX1_apply_1 11 rfl rfl)
theorem dX1_apply_38 : decode cX1_apply 38 = .ok (.invokeinterface 76 1, 5) := by decide +kernel
theorem dX1_apply_43 : decode cX1_apply 43 = .ok (.bipush 24, 2) := dk_16 24 (dk_at dksX1_apply_1 19 rfl rfl)
theorem dX1_apply_45 : decode cX1_apply 45 = .ok (.if_icmp .le 11, 3) := dk_164 0 11 (dk_at dksX1_apply_1 21 rfl rfl)
theorem dX1_apply_48 : decode cX1_apply 48 = .ok (.new 251, 3) := dk_187 0 251 (dk_at dksX1_apply_2 0 rfl rfl)
theorem dX1_apply_51 : decode cX1_apply 51 = .ok (.dup, 1) := dk_89 (dk_at dksX1_apply_2 3 rfl rfl)
theorem dX1_apply_52 : decode cX1_apply 52 = .ok (.invokespecial 253, 3) := dk_183 0 253 (dk_at dksX1_apply_2 4 rfl rfl)
theorem dX1_apply_55 : decode cX1_apply 55 = .ok (.athrow, 1) := dk_191 (dk_at dksX1_apply_2 7 rfl rfl)
theorem dX1_apply_56 : decode cX1_apply 56 = .ok (.aload_n 0, 1) := dk_42 (dk_at dksX1_apply_2 8 rfl rfl)
theorem dX1_apply_57 : decode cX1_apply 57 = .ok (.getfield 259, 3) := dk_180 1 3 (dk_at dksX1_apply_2 9 rfl rfl)
theorem dX1_apply_60 : decode cX1_apply 60 = .ok (.aload 5, 2) := dk_25 5 (dk_at dksX1_apply_2 12 rfl rfl)
theorem dX1_apply_62 : decode cX1_apply 62 = .ok (.getfield 279, 3) := dk_180 1 23 (dk_at dksX1_apply_2 14 rfl rfl)
theorem dX1_apply_65 : decode cX1_apply 65 = .ok (.putfield 282, 3) := dk_181 1 26 (dk_at dksX1_apply_2 17 rfl rfl)
theorem dX1_apply_68 : decode cX1_apply 68 = .ok (.aload_n 0, 1) := dk_42 (dk_at dksX1_apply_2 20 rfl rfl)
theorem dX1_apply_69 : decode cX1_apply 69 = .ok (.iload_n 1, 1) := dk_27 (dk_at dksX1_apply_2 21 rfl rfl)
theorem dX1_apply_70 : decode cX1_apply 70 = .ok (.aload 5, 2) := dk_25 5 (dk_at dksX1_apply_2 22 rfl rfl)
theorem dX1_apply_72 : decode cX1_apply 72 = .ok (.getfield 277, 3) := dk_180 1 21 (dk_at dksX1_apply_3 0 rfl rfl)
theorem dX1_apply_75 : decode cX1_apply 75 = .ok (.invokevirtual 92, 3) := dk_182 0 92 (dk_at dksX1_apply_3 3 rfl rfl)
theorem dX1_apply_78 : decode cX1_apply 78 = .ok (.aload 5, 2) := dk_25 5 (dk_at dksX1_apply_3 6 rfl rfl)
theorem dX1_apply_80 : decode cX1_apply 80 = .ok (.getfield 283, 3) := dk_180 1 27 (dk_at dksX1_apply_3 8 rfl rfl)
theorem dX1_apply_83 : decode cX1_apply 83 = .ok (.ireturn, 1) := dk_172 (dk_at dksX1_apply_3 11 rfl rfl)
abbrev cX1_outcome : ByteArray := prog_1_method_44_code
def yX1_outcome : MethodName := ⟨RX1, "outcome", "(II)I"⟩
def dkwX1_outcome_3 : List UInt8 := [180, 1, 32, 167, 0, 16, 45, 27, 185, 0, 61, 2, 0, 192, 1, 30, 180, 1, 33, 172]
abbrev dktX1_outcome_3 : List UInt8 := dkwX1_outcome_3 ++ []
def dkwX1_outcome_2 : List UInt8 := [3, 4, 184, 0, 10, 184, 0, 57, 28, 154, 0, 19, 45, 27, 185, 0, 61, 2, 0, 192, 1, 30]
abbrev dktX1_outcome_2 : List UInt8 := dkwX1_outcome_2 ++ dktX1_outcome_3
def dkwX1_outcome_1 : List UInt8 := [3, 45, 185, 0, 76, 1, 0, 4, 100, 184, 0, 10, 154, 0, 11, 187, 0, 197, 89, 183, 0, 199, 191, 28]
abbrev dktX1_outcome_1 : List UInt8 := dkwX1_outcome_1 ++ dktX1_outcome_2
def dkwX1_outcome_0 : List UInt8 := [42, 180, 1, 3, 199, 0, 7, 1, 167, 0, 10, 42, 180, 1, 3, 180, 1, 26, 78, 45, 198, 0, 19, 27]
abbrev dktX1_outcome_0 : List UInt8 := dkwX1_outcome_0 ++ dktX1_outcome_1
theorem dksX1_outcome_0 : cX1_outcome.data.toList.drop 0 = dktX1_outcome_0 := by decide +kernel
theorem dksX1_outcome_1 : cX1_outcome.data.toList.drop 24 = dktX1_outcome_1 := dk_seg dksX1_outcome_0 24 rfl rfl
theorem dksX1_outcome_2 : cX1_outcome.data.toList.drop 48 = dktX1_outcome_2 := dk_seg dksX1_outcome_1 24 rfl rfl
theorem dksX1_outcome_3 : cX1_outcome.data.toList.drop 70 = dktX1_outcome_3 := dk_seg dksX1_outcome_2 22 rfl rfl
theorem dX1_outcome_0 : decode cX1_outcome 0 = .ok (.aload_n 0, 1) := dk_42 (dk_at dksX1_outcome_0 0 rfl rfl)
theorem dX1_outcome_1 : decode cX1_outcome 1 = .ok (.getfield 259, 3) := dk_180 1 3 (dk_at dksX1_outcome_0 1 rfl rfl)
theorem dX1_outcome_4 : decode cX1_outcome 4 = .ok (.ifnonnull 7, 3) := dk_199 0 7 (dk_at dksX1_outcome_0 4 rfl rfl)
theorem dX1_outcome_7 : decode cX1_outcome 7 = .ok (.aconst_null, 1) := dk_1 (dk_at dksX1_outcome_0 7 rfl rfl)
theorem dX1_outcome_8 : decode cX1_outcome 8 = .ok (.goto 10, 3) := dk_167 0 10 (dk_at dksX1_outcome_0 8 rfl rfl)
theorem dX1_outcome_11 : decode cX1_outcome 11 = .ok (.aload_n 0, 1) := dk_42 (dk_at dksX1_outcome_0 11 rfl rfl)
theorem dX1_outcome_12 : decode cX1_outcome 12 = .ok (.getfield 259, 3) := dk_180 1 3 (dk_at dksX1_outcome_0 12 rfl rfl)
theorem dX1_outcome_15 : decode cX1_outcome 15 = .ok (.getfield 282, 3) := dk_180 1 26 (dk_at dksX1_outcome_0 15 rfl rfl)
theorem dX1_outcome_18 : decode cX1_outcome 18 = .ok (.astore_n 3, 1) := dk_78 (dk_at dksX1_outcome_0 18 rfl rfl)
theorem dX1_outcome_19 : decode cX1_outcome 19 = .ok (.aload_n 3, 1) := dk_45 (dk_at dksX1_outcome_0 19 rfl rfl)
theorem dX1_outcome_20 : decode cX1_outcome 20 = .ok (.ifnull 19, 3) := dk_198 0 19 (dk_at dksX1_outcome_0 20 rfl rfl)
theorem dX1_outcome_23 : decode cX1_outcome 23 = .ok (.iload_n 1, 1) := dk_27 (dk_at dksX1_outcome_0 23 rfl rfl)
theorem dX1_outcome_24 : decode cX1_outcome 24 = .ok (.iconst 0, 1) := dk_3 (dk_at dksX1_outcome_1 0 rfl rfl)
theorem dX1_outcome_25 : decode cX1_outcome 25 = .ok (.aload_n 3, 1) := dk_45 (dk_at dksX1_outcome_1 1 rfl rfl)
theorem dX1_outcome_26 : decode cX1_outcome 26 = .ok (.invokeinterface 76 1, 5) := by decide +kernel
theorem dX1_outcome_31 : decode cX1_outcome 31 = .ok (.iconst 1, 1) := dk_4 (dk_at dksX1_outcome_1 7 rfl rfl)
theorem dX1_outcome_32 : decode cX1_outcome 32 = .ok (.isub, 1) := dk_100 (dk_at dksX1_outcome_1 8 rfl rfl)
theorem dX1_outcome_33 : decode cX1_outcome 33 = .ok (.invokestatic 10, 3) := dk_184 0 10 (dk_at dksX1_outcome_1 9 rfl rfl)
theorem dX1_outcome_36 : decode cX1_outcome 36 = .ok (.ifCond .ne 11, 3) := dk_154 0 11 (dk_at dksX1_outcome_1 12 rfl rfl)
theorem dX1_outcome_39 : decode cX1_outcome 39 = .ok (.new 197, 3) := dk_187 0 197 (dk_at dksX1_outcome_1 15 rfl rfl)
theorem dX1_outcome_42 : decode cX1_outcome 42 = .ok (.dup, 1) := dk_89 (dk_at dksX1_outcome_1 18 rfl rfl)
theorem dX1_outcome_43 : decode cX1_outcome 43 = .ok (.invokespecial 199, 3) := dk_183 0 199 (dk_at dksX1_outcome_1 19 rfl rfl)
theorem dX1_outcome_46 : decode cX1_outcome 46 = .ok (.athrow, 1) := dk_191 (dk_at dksX1_outcome_1 22 rfl rfl)
theorem dX1_outcome_47 : decode cX1_outcome 47 = .ok (.iload_n 2, 1) := dk_28 (dk_at dksX1_outcome_1 23 rfl rfl)
theorem dX1_outcome_48 : decode cX1_outcome 48 = .ok (.iconst 0, 1) := dk_3 (dk_at dksX1_outcome_2 0 rfl rfl)
theorem dX1_outcome_49 : decode cX1_outcome 49 = .ok (.iconst 1, 1) := dk_4 (dk_at dksX1_outcome_2 1 rfl rfl)
theorem dX1_outcome_50 : decode cX1_outcome 50 = .ok (.invokestatic 10, 3) := dk_184 0 10 (dk_at dksX1_outcome_2 2 rfl rfl)
theorem dX1_outcome_53 : decode cX1_outcome 53 = .ok (.invokestatic 57, 3) := dk_184 0 57 (dk_at dksX1_outcome_2 5 rfl rfl)
theorem dX1_outcome_56 : decode cX1_outcome 56 = .ok (.iload_n 2, 1) := dk_28 (dk_at dksX1_outcome_2 8 rfl rfl)
theorem dX1_outcome_57 : decode cX1_outcome 57 = .ok (.ifCond .ne 19, 3) := dk_154 0 19 (dk_at dksX1_outcome_2 9 rfl rfl)
theorem dX1_outcome_60 : decode cX1_outcome 60 = .ok (.aload_n 3, 1) := dk_45 (dk_at dksX1_outcome_2 12 rfl rfl)
theorem dX1_outcome_61 : decode cX1_outcome 61 = .ok (.iload_n 1, 1) := dk_27 (dk_at dksX1_outcome_2 13 rfl rfl)
theorem dX1_outcome_62 : decode cX1_outcome 62 = .ok (.invokeinterface 61 2, 5) := by decide +kernel
theorem dX1_outcome_67 : decode cX1_outcome 67 = .ok (.checkcast 286, 3) := dk_192 1 30 (dk_at dksX1_outcome_2 19 rfl rfl)
theorem dX1_outcome_70 : decode cX1_outcome 70 = .ok (.getfield 288, 3) := dk_180 1 32 (dk_at dksX1_outcome_3 0 rfl rfl)
theorem dX1_outcome_73 : decode cX1_outcome 73 = .ok (.goto 16, 3) := dk_167 0 16 (dk_at dksX1_outcome_3 3 rfl rfl)
theorem dX1_outcome_76 : decode cX1_outcome 76 = .ok (.aload_n 3, 1) := dk_45 (dk_at dksX1_outcome_3 6 rfl rfl)
theorem dX1_outcome_77 : decode cX1_outcome 77 = .ok (.iload_n 1, 1) := dk_27 (dk_at dksX1_outcome_3 7 rfl rfl)
theorem dX1_outcome_78 : decode cX1_outcome 78 = .ok (.invokeinterface 61 2, 5) := by decide +kernel
theorem dX1_outcome_83 : decode cX1_outcome 83 = .ok (.checkcast 286, 3) := dk_192 1 30 (dk_at dksX1_outcome_3 13 rfl rfl)
theorem dX1_outcome_86 : decode cX1_outcome 86 = .ok (.getfield 289, 3) := dk_180 1 33 (dk_at dksX1_outcome_3 16 rfl rfl)
theorem dX1_outcome_89 : decode cX1_outcome 89 = .ok (.ireturn, 1) := dk_172 (dk_at dksX1_outcome_3 19 rfl rfl)
abbrev cX1_undo : ByteArray := prog_1_method_45_code
def yX1_undo : MethodName := ⟨RX1, "undo", "()I"⟩
def dkwX1_undo_1 : List UInt8 := [185, 0, 65, 3, 0, 87, 43, 180, 1, 39, 172]
abbrev dktX1_undo_1 : List UInt8 := dkwX1_undo_1 ++ []
def dkwX1_undo_0 : List UInt8 := [42, 180, 0, 32, 182, 1, 36, 76, 42, 180, 0, 25, 43, 180, 1, 39, 43, 180, 1, 44, 192, 0, 48]
abbrev dktX1_undo_0 : List UInt8 := dkwX1_undo_0 ++ dktX1_undo_1
theorem dksX1_undo_0 : cX1_undo.data.toList.drop 0 = dktX1_undo_0 := by decide +kernel
theorem dksX1_undo_1 : cX1_undo.data.toList.drop 23 = dktX1_undo_1 := dk_seg dksX1_undo_0 23 rfl rfl
theorem dX1_undo_0 : decode cX1_undo 0 = .ok (.aload_n 0, 1) := dk_42 (dk_at dksX1_undo_0 0 rfl rfl)
theorem dX1_undo_1 : decode cX1_undo 1 = .ok (.getfield 32, 3) := dk_180 0 32 (dk_at dksX1_undo_0 1 rfl rfl)
theorem dX1_undo_4 : decode cX1_undo 4 = .ok (.invokevirtual 292, 3) := dk_182 1 36 (dk_at dksX1_undo_0 4 rfl rfl)
theorem dX1_undo_7 : decode cX1_undo 7 = .ok (.astore_n 1, 1) := dk_76 (dk_at dksX1_undo_0 7 rfl rfl)
theorem dX1_undo_8 : decode cX1_undo 8 = .ok (.aload_n 0, 1) := dk_42 (dk_at dksX1_undo_0 8 rfl rfl)
theorem dX1_undo_9 : decode cX1_undo 9 = .ok (.getfield 25, 3) := dk_180 0 25 (dk_at dksX1_undo_0 9 rfl rfl)
theorem dX1_undo_12 : decode cX1_undo 12 = .ok (.aload_n 1, 1) := dk_43 (dk_at dksX1_undo_0 12 rfl rfl)
theorem dX1_undo_13 : decode cX1_undo 13 = .ok (.getfield 295, 3) := dk_180 1 39 (dk_at dksX1_undo_0 13 rfl rfl)
theorem dX1_undo_16 : decode cX1_undo 16 = .ok (.aload_n 1, 1) := dk_43 (dk_at dksX1_undo_0 16 rfl rfl)
theorem dX1_undo_17 : decode cX1_undo 17 = .ok (.getfield 300, 3) := dk_180 1 44 (dk_at dksX1_undo_0 17 rfl rfl)
theorem dX1_undo_20 : decode cX1_undo 20 = .ok (.checkcast 48, 3) := dk_192 0 48 (dk_at dksX1_undo_0 20 rfl rfl)
theorem dX1_undo_23 : decode cX1_undo 23 = .ok (.invokeinterface 65 3, 5) := by decide +kernel
theorem dX1_undo_28 : decode cX1_undo 28 = .ok (.pop, 1) := dk_87 (dk_at dksX1_undo_1 5 rfl rfl)
theorem dX1_undo_29 : decode cX1_undo 29 = .ok (.aload_n 1, 1) := dk_43 (dk_at dksX1_undo_1 6 rfl rfl)
theorem dX1_undo_30 : decode cX1_undo 30 = .ok (.getfield 295, 3) := dk_180 1 39 (dk_at dksX1_undo_1 7 rfl rfl)
theorem dX1_undo_33 : decode cX1_undo 33 = .ok (.ireturn, 1) := dk_172 (dk_at dksX1_undo_1 10 rfl rfl)
abbrev cX1_restore : ByteArray := prog_1_method_48_code
def yX1_restore : MethodName := ⟨RX1, "restore", "()I"⟩
def dkwX1_restore_2 : List UInt8 := [182, 1, 55, 172]
abbrev dktX1_restore_2 : List UInt8 := dkwX1_restore_2 ++ []
def dkwX1_restore_1 : List UInt8 := [184, 1, 58, 42, 42, 180, 1, 52, 181, 0, 147, 42, 180, 0, 32, 180, 1, 63, 185, 1, 67, 1, 0, 42]
abbrev dktX1_restore_1 : List UInt8 := dkwX1_restore_1 ++ dktX1_restore_2
def dkwX1_restore_0 : List UInt8 := [42, 180, 1, 49, 198, 0, 7, 4, 167, 0, 4, 3, 184, 0, 80, 42, 180, 0, 25, 42, 180, 1, 49]
abbrev dktX1_restore_0 : List UInt8 := dkwX1_restore_0 ++ dktX1_restore_1
theorem dksX1_restore_0 : cX1_restore.data.toList.drop 0 = dktX1_restore_0 := by decide +kernel
theorem dksX1_restore_1 : cX1_restore.data.toList.drop 23 = dktX1_restore_1 := dk_seg dksX1_restore_0 23 rfl rfl
theorem dksX1_restore_2 : cX1_restore.data.toList.drop 47 = dktX1_restore_2 := dk_seg dksX1_restore_1 24 rfl rfl
theorem dX1_restore_0 : decode cX1_restore 0 = .ok (.aload_n 0, 1) := dk_42 (dk_at dksX1_restore_0 0 rfl rfl)
theorem dX1_restore_1 : decode cX1_restore 1 = .ok (.getfield 305, 3) := dk_180 1 49 (dk_at dksX1_restore_0 1 rfl rfl)
theorem dX1_restore_4 : decode cX1_restore 4 = .ok (.ifnull 7, 3) := dk_198 0 7 (dk_at dksX1_restore_0 4 rfl rfl)
theorem dX1_restore_7 : decode cX1_restore 7 = .ok (.iconst 1, 1) := dk_4 (dk_at dksX1_restore_0 7 rfl rfl)
theorem dX1_restore_8 : decode cX1_restore 8 = .ok (.goto 4, 3) := dk_167 0 4 (dk_at dksX1_restore_0 8 rfl rfl)
theorem dX1_restore_11 : decode cX1_restore 11 = .ok (.iconst 0, 1) := dk_3 (dk_at dksX1_restore_0 11 rfl rfl)
theorem dX1_restore_12 : decode cX1_restore 12 = .ok (.invokestatic 80, 3) := dk_184 0 80 (dk_at dksX1_restore_0 12 rfl rfl)
theorem dX1_restore_15 : decode cX1_restore 15 = .ok (.aload_n 0, 1) := dk_42 (dk_at dksX1_restore_0 15 rfl rfl)
theorem dX1_restore_16 : decode cX1_restore 16 = .ok (.getfield 25, 3) := dk_180 0 25 (dk_at dksX1_restore_0 16 rfl rfl)
theorem dX1_restore_19 : decode cX1_restore 19 = .ok (.aload_n 0, 1) := dk_42 (dk_at dksX1_restore_0 19 rfl rfl)
theorem dX1_restore_20 : decode cX1_restore 20 = .ok (.getfield 305, 3) := dk_180 1 49 (dk_at dksX1_restore_0 20 rfl rfl)
theorem dX1_restore_23 : decode cX1_restore 23 = .ok (.invokestatic 314, 3) := dk_184 1 58 (dk_at dksX1_restore_1 0 rfl rfl)
theorem dX1_restore_26 : decode cX1_restore 26 = .ok (.aload_n 0, 1) := dk_42 (dk_at dksX1_restore_1 3 rfl rfl)
theorem dX1_restore_27 : decode cX1_restore 27 = .ok (.aload_n 0, 1) := dk_42 (dk_at dksX1_restore_1 4 rfl rfl)
theorem dX1_restore_28 : decode cX1_restore 28 = .ok (.getfield 308, 3) := dk_180 1 52 (dk_at dksX1_restore_1 5 rfl rfl)
theorem dX1_restore_31 : decode cX1_restore 31 = .ok (.putfield 147, 3) := dk_181 0 147 (dk_at dksX1_restore_1 8 rfl rfl)
theorem dX1_restore_34 : decode cX1_restore 34 = .ok (.aload_n 0, 1) := dk_42 (dk_at dksX1_restore_1 11 rfl rfl)
theorem dX1_restore_35 : decode cX1_restore 35 = .ok (.getfield 32, 3) := dk_180 0 32 (dk_at dksX1_restore_1 12 rfl rfl)
theorem dX1_restore_38 : decode cX1_restore 38 = .ok (.getfield 319, 3) := dk_180 1 63 (dk_at dksX1_restore_1 15 rfl rfl)
theorem dX1_restore_41 : decode cX1_restore 41 = .ok (.invokeinterface 323 1, 5) := by decide +kernel
theorem dX1_restore_46 : decode cX1_restore 46 = .ok (.aload_n 0, 1) := dk_42 (dk_at dksX1_restore_1 23 rfl rfl)
theorem dX1_restore_47 : decode cX1_restore 47 = .ok (.invokevirtual 311, 3) := dk_182 1 55 (dk_at dksX1_restore_2 0 rfl rfl)
theorem dX1_restore_50 : decode cX1_restore 50 = .ok (.ireturn, 1) := dk_172 (dk_at dksX1_restore_2 3 rfl rfl)
theorem q84 : (Jvm.Cond.initialized "MergeWorkbench") ∈ lw_all := lw_g (lw_at lw_m1 1 rfl) rfl
theorem q153 : (Jvm.Cond.instantiable "MergeWorkbench" (10 : Nat)) ∈ lw_all := lw_g (lw_at lw_m1 70 rfl) rfl
theorem q155 : (Jvm.Cond.instanceMethod ({ cls := "MergeWorkbench", name := "<init>", desc := "()V" } : Jvm.MethodName)) ∈ lw_all := lw_g (lw_at lw_m1 72 rfl) rfl
theorem q156 : (Jvm.Cond.code ({ cls := "MergeWorkbench", name := "<init>", desc := "()V" } : Jvm.MethodName) prog_1_method_6_code (2 : Nat) (Option.none : Option Jvm.ClassFile.FieldType)) ∈ lw_all := lw_g (lw_at lw_m1 73 rfl) rfl
theorem q157 : (Jvm.Cond.methodLink "MergeWorkbench" (19 : Nat) ({ cls := "java/lang/Object", name := "<init>", desc := "()V" } : Jvm.MethodName)) ∈ lw_all := lw_g (lw_at lw_m1 74 rfl) rfl
theorem q160 : (Jvm.Cond.classLink "MergeWorkbench" (22 : Nat) "java/util/ArrayList") ∈ lw_all := lw_g (lw_at lw_m1 77 rfl) rfl
theorem q162 : (Jvm.Cond.methodLink "MergeWorkbench" (24 : Nat) ({ cls := "java/util/ArrayList", name := "<init>", desc := "()V" } : Jvm.MethodName)) ∈ lw_all := lw_g (lw_at lw_m1 79 rfl) rfl
theorem q191 : (Jvm.Cond.classLink "MergeWorkbench" (29 : Nat) "MergeWorkbench$History") ∈ lw_all := lw_g (lw_at lw_m1 108 rfl) rfl
theorem q193 : (Jvm.Cond.methodLinkNest "MergeWorkbench" (31 : Nat) ({ cls := "MergeWorkbench$History", name := "<init>", desc := "()V" } : Jvm.MethodName) "MergeWorkbench") ∈ lw_tbl := lw_at lw_m1 110 rfl
theorem q218 : (Jvm.Cond.fieldLinkNest "MergeWorkbench" (319 : Nat) "MergeWorkbench$History" "changes" "Ljava/util/Deque;" "MergeWorkbench") ∈ lw_tbl := lw_at lw_m1 135 rfl
theorem q222 : (Jvm.Cond.classLink "MergeWorkbench" (36 : Nat) "java/lang/StringBuilder") ∈ lw_all := lw_g (lw_at lw_m1 139 rfl) rfl
theorem q224 : (Jvm.Cond.methodLink "MergeWorkbench" (38 : Nat) ({ cls := "java/lang/StringBuilder", name := "<init>", desc := "()V" } : Jvm.MethodName)) ∈ lw_all := lw_g (lw_at lw_m1 141 rfl) rfl
theorem q255 : (Jvm.Cond.interfaceEntry "MergeWorkbench" (47 : Nat)) ∈ lw_tbl := lw_at lw_m1 172 rfl
theorem q256 : (Jvm.Cond.methodLink "MergeWorkbench" (47 : Nat) ({ cls := "java/util/List", name := "add", desc := "(Ljava/lang/Object;)Z" } : Jvm.MethodName)) ∈ lw_all := lw_g (lw_at lw_m1 173 rfl) rfl
theorem q293 : (Jvm.Cond.selects "MergeWorkbench" ({ cls := "java/lang/Object", name := "getClass", desc := "()Ljava/lang/Class;" } : Jvm.MethodName) ({ cls := "java/lang/Object", name := "getClass", desc := "()Ljava/lang/Class;" } : Jvm.MethodName)) ∈ lw_all := lw_g (lw_at lw_m1 210 rfl) rfl
theorem q694 : (Jvm.Cond.fieldLink "MergeWorkbench" (25 : Nat) "MergeWorkbench" "documents" "Ljava/util/List;") ∈ lw_all := lw_g (lw_at lw_m3 131 rfl) rfl
theorem q695 : (Jvm.Cond.fieldLink "MergeWorkbench" (32 : Nat) "MergeWorkbench" "history" "LMergeWorkbench$History;") ∈ lw_all := lw_g (lw_at lw_m3 132 rfl) rfl
theorem q696 : (Jvm.Cond.fieldLink "MergeWorkbench" (39 : Nat) "MergeWorkbench" "input" "Ljava/lang/StringBuilder;") ∈ lw_all := lw_g (lw_at lw_m3 133 rfl) rfl
theorem q697 : (Jvm.Cond.fieldLink "MergeWorkbench" (147 : Nat) "MergeWorkbench" "mode" "I") ∈ lw_all := lw_g (lw_at lw_m3 134 rfl) rfl
theorem q698 : (Jvm.Cond.fieldLink "MergeWorkbench" (43 : Nat) "MergeWorkbench" "shrinks" "Z") ∈ lw_all := lw_g (lw_at lw_m3 135 rfl) rfl
theorem q699 : (Jvm.Cond.fieldLink "MergeWorkbench" (155 : Nat) "MergeWorkbench" "comparison" "LMergeWorkbench$Comparison;") ∈ lw_all := lw_g (lw_at lw_m3 136 rfl) rfl
theorem q700 : (Jvm.Cond.fieldLink "MergeWorkbench" (222 : Nat) "MergeWorkbench" "merge" "LMergeWorkbench$Merge;") ∈ lw_all := lw_g (lw_at lw_m3 137 rfl) rfl
theorem q701 : (Jvm.Cond.fieldLink "MergeWorkbench" (259 : Nat) "MergeWorkbench" "patch" "LMergeWorkbench$Patch;") ∈ lw_all := lw_g (lw_at lw_m3 138 rfl) rfl
theorem q702 : (Jvm.Cond.fieldLink "MergeWorkbench" (305 : Nat) "MergeWorkbench" "saved" "Ljava/util/List;") ∈ lw_all := lw_g (lw_at lw_m3 139 rfl) rfl
theorem q703 : (Jvm.Cond.fieldLink "MergeWorkbench" (308 : Nat) "MergeWorkbench" "savedMode" "I") ∈ lw_all := lw_g (lw_at lw_m3 140 rfl) rfl
theorem q704 : (Jvm.Cond.laysFinal "MergeWorkbench" "MergeWorkbench" "documents" "Ljava/util/List;") ∈ lw_all := lw_g (lw_at lw_m3 141 rfl) rfl
theorem q705 : (Jvm.Cond.soleField "MergeWorkbench" "documents") ∈ lw_all := lw_g (lw_at lw_m3 142 rfl) rfl
theorem q706 : (Jvm.Cond.laysFinal "MergeWorkbench" "MergeWorkbench" "history" "LMergeWorkbench$History;") ∈ lw_all := lw_g (lw_at lw_m3 143 rfl) rfl
theorem q707 : (Jvm.Cond.soleField "MergeWorkbench" "history") ∈ lw_all := lw_g (lw_at lw_m3 144 rfl) rfl
theorem q708 : (Jvm.Cond.laysFinal "MergeWorkbench" "MergeWorkbench" "input" "Ljava/lang/StringBuilder;") ∈ lw_all := lw_g (lw_at lw_m3 145 rfl) rfl
theorem q709 : (Jvm.Cond.soleField "MergeWorkbench" "input") ∈ lw_all := lw_g (lw_at lw_m3 146 rfl) rfl
theorem q710 : (Jvm.Cond.lays "MergeWorkbench" "MergeWorkbench" "mode" "I") ∈ lw_all := lw_g (lw_at lw_m3 147 rfl) rfl
theorem q711 : (Jvm.Cond.soleField "MergeWorkbench" "mode") ∈ lw_all := lw_g (lw_at lw_m3 148 rfl) rfl
theorem q712 : (Jvm.Cond.lays "MergeWorkbench" "MergeWorkbench" "shrinks" "Z") ∈ lw_all := lw_g (lw_at lw_m3 149 rfl) rfl
theorem q713 : (Jvm.Cond.soleField "MergeWorkbench" "shrinks") ∈ lw_all := lw_g (lw_at lw_m3 150 rfl) rfl
theorem q714 : (Jvm.Cond.lays "MergeWorkbench" "MergeWorkbench" "comparison" "LMergeWorkbench$Comparison;") ∈ lw_all := lw_g (lw_at lw_m3 151 rfl) rfl
theorem q715 : (Jvm.Cond.soleField "MergeWorkbench" "comparison") ∈ lw_all := lw_g (lw_at lw_m3 152 rfl) rfl
theorem q716 : (Jvm.Cond.lays "MergeWorkbench" "MergeWorkbench" "merge" "LMergeWorkbench$Merge;") ∈ lw_all := lw_g (lw_at lw_m3 153 rfl) rfl
theorem q717 : (Jvm.Cond.soleField "MergeWorkbench" "merge") ∈ lw_all := lw_g (lw_at lw_m3 154 rfl) rfl
theorem q718 : (Jvm.Cond.lays "MergeWorkbench" "MergeWorkbench" "patch" "LMergeWorkbench$Patch;") ∈ lw_all := lw_g (lw_at lw_m3 155 rfl) rfl
theorem q719 : (Jvm.Cond.soleField "MergeWorkbench" "patch") ∈ lw_all := lw_g (lw_at lw_m3 156 rfl) rfl
theorem q720 : (Jvm.Cond.lays "MergeWorkbench" "MergeWorkbench" "saved" "Ljava/util/List;") ∈ lw_all := lw_g (lw_at lw_m3 157 rfl) rfl
theorem q721 : (Jvm.Cond.soleField "MergeWorkbench" "saved") ∈ lw_all := lw_g (lw_at lw_m3 158 rfl) rfl
theorem q722 : (Jvm.Cond.lays "MergeWorkbench" "MergeWorkbench" "savedMode" "I") ∈ lw_all := lw_g (lw_at lw_m3 159 rfl) rfl
theorem q723 : (Jvm.Cond.soleField "MergeWorkbench" "savedMode") ∈ lw_all := lw_g (lw_at lw_m3 160 rfl) rfl
theorem q724 : (Jvm.Cond.superclass "MergeWorkbench" "java/lang/Object") ∈ lw_all := lw_g (lw_at lw_m3 161 rfl) rfl
theorem q726 : (Jvm.Cond.instanceMethod ({ cls := "MergeWorkbench", name := "setShrinking", desc := "(Z)Z" } : Jvm.MethodName)) ∈ lw_all := lw_g (lw_at lw_m3 163 rfl) rfl
theorem q727 : (Jvm.Cond.selects "MergeWorkbench" ({ cls := "MergeWorkbench", name := "setShrinking", desc := "(Z)Z" } : Jvm.MethodName) ({ cls := "MergeWorkbench", name := "setShrinking", desc := "(Z)Z" } : Jvm.MethodName)) ∈ lw_all := lw_g (lw_at lw_m3 164 rfl) rfl
theorem q728 : (Jvm.Cond.code ({ cls := "MergeWorkbench", name := "setShrinking", desc := "(Z)Z" } : Jvm.MethodName) prog_1_method_30_code (3 : Nat) (Option.some Jvm.ClassFile.FieldType.boolean)) ∈ lw_all := lw_g (lw_at lw_m3 165 rfl) rfl
theorem q730 : (Jvm.Cond.instanceMethod ({ cls := "MergeWorkbench", name := "save", desc := "()I" } : Jvm.MethodName)) ∈ lw_all := lw_g (lw_at lw_m3 167 rfl) rfl
theorem q731 : (Jvm.Cond.selects "MergeWorkbench" ({ cls := "MergeWorkbench", name := "save", desc := "()I" } : Jvm.MethodName) ({ cls := "MergeWorkbench", name := "save", desc := "()I" } : Jvm.MethodName)) ∈ lw_all := lw_g (lw_at lw_m3 168 rfl) rfl
theorem q732 : (Jvm.Cond.code ({ cls := "MergeWorkbench", name := "save", desc := "()I" } : Jvm.MethodName) prog_1_method_47_code (1 : Nat) (Option.some Jvm.ClassFile.FieldType.int)) ∈ lw_all := lw_g (lw_at lw_m3 169 rfl) rfl
theorem q733 : (Jvm.Cond.methodLink "MergeWorkbench" (83 : Nat) ({ cls := "java/util/ArrayList", name := "<init>", desc := "(Ljava/util/Collection;)V" } : Jvm.MethodName)) ∈ lw_all := lw_g (lw_at lw_m3 170 rfl) rfl
theorem q1185 : (Jvm.Cond.methodLink "MergeWorkbench" (311 : Nat) ({ cls := "MergeWorkbench", name := "allLines", desc := "()I" } : Jvm.MethodName)) ∈ lw_all := lw_g (lw_at lw_m5 142 rfl) rfl
theorem q1186 : (Jvm.Cond.privateMethod ({ cls := "MergeWorkbench", name := "allLines", desc := "()I" } : Jvm.MethodName)) ∈ lw_tbl := lw_at lw_m5 143 rfl
theorem q1187 : (Jvm.Cond.instanceMethod ({ cls := "MergeWorkbench", name := "allLines", desc := "()I" } : Jvm.MethodName)) ∈ lw_all := lw_g (lw_at lw_m5 144 rfl) rfl
theorem q1188 : (Jvm.Cond.code ({ cls := "MergeWorkbench", name := "allLines", desc := "()I" } : Jvm.MethodName) prog_1_method_46_code (4 : Nat) (Option.some Jvm.ClassFile.FieldType.int)) ∈ lw_all := lw_g (lw_at lw_m5 145 rfl) rfl
theorem q1189 : (Jvm.Cond.interfaceEntry "MergeWorkbench" (304 : Nat)) ∈ lw_tbl := lw_at lw_m5 146 rfl
theorem q1190 : (Jvm.Cond.methodLink "MergeWorkbench" (304 : Nat) ({ cls := "java/util/List", name := "iterator", desc := "()Ljava/util/Iterator;" } : Jvm.MethodName)) ∈ lw_all := lw_g (lw_at lw_m5 147 rfl) rfl
theorem q1199 : (Jvm.Cond.interfaceEntry "MergeWorkbench" (187 : Nat)) ∈ lw_tbl := lw_at lw_m5 156 rfl
theorem q1200 : (Jvm.Cond.methodLink "MergeWorkbench" (187 : Nat) ({ cls := "java/util/Iterator", name := "hasNext", desc := "()Z" } : Jvm.MethodName)) ∈ lw_all := lw_g (lw_at lw_m5 157 rfl) rfl
theorem q1201 : (Jvm.Cond.interfaceEntry "MergeWorkbench" (193 : Nat)) ∈ lw_tbl := lw_at lw_m5 158 rfl
theorem q1202 : (Jvm.Cond.methodLink "MergeWorkbench" (193 : Nat) ({ cls := "java/util/Iterator", name := "next", desc := "()Ljava/lang/Object;" } : Jvm.MethodName)) ∈ lw_all := lw_g (lw_at lw_m5 159 rfl) rfl
theorem q1203 : (Jvm.Cond.classLink "MergeWorkbench" (48 : Nat) "java/util/List") ∈ lw_all := lw_g (lw_at lw_m5 160 rfl) rfl
theorem q1204 : (Jvm.Cond.interfaceEntry "MergeWorkbench" (76 : Nat)) ∈ lw_tbl := lw_at lw_m5 161 rfl
theorem q1205 : (Jvm.Cond.methodLink "MergeWorkbench" (76 : Nat) ({ cls := "java/util/List", name := "size", desc := "()I" } : Jvm.MethodName)) ∈ lw_all := lw_g (lw_at lw_m5 162 rfl) rfl
theorem q1212 : (Jvm.Cond.instanceMethod ({ cls := "MergeWorkbench", name := "append", desc := "(II)I" } : Jvm.MethodName)) ∈ lw_all := lw_g (lw_at lw_m5 169 rfl) rfl
theorem q1213 : (Jvm.Cond.selects "MergeWorkbench" ({ cls := "MergeWorkbench", name := "append", desc := "(II)I" } : Jvm.MethodName) ({ cls := "MergeWorkbench", name := "append", desc := "(II)I" } : Jvm.MethodName)) ∈ lw_all := lw_g (lw_at lw_m5 170 rfl) rfl
theorem q1214 : (Jvm.Cond.code ({ cls := "MergeWorkbench", name := "append", desc := "(II)I" } : Jvm.MethodName) prog_1_method_9_code (5 : Nat) (Option.some Jvm.ClassFile.FieldType.int)) ∈ lw_all := lw_g (lw_at lw_m5 171 rfl) rfl
theorem q1215 : (Jvm.Cond.methodLink "MergeWorkbench" (72 : Nat) ({ cls := "MergeWorkbench", name := "document", desc := "(I)Ljava/util/List;" } : Jvm.MethodName)) ∈ lw_all := lw_g (lw_at lw_m5 172 rfl) rfl
theorem q1216 : (Jvm.Cond.privateMethod ({ cls := "MergeWorkbench", name := "document", desc := "(I)Ljava/util/List;" } : Jvm.MethodName)) ∈ lw_tbl := lw_at lw_m5 173 rfl
theorem q1217 : (Jvm.Cond.instanceMethod ({ cls := "MergeWorkbench", name := "document", desc := "(I)Ljava/util/List;" } : Jvm.MethodName)) ∈ lw_all := lw_g (lw_at lw_m5 174 rfl) rfl
theorem q1218 : (Jvm.Cond.code ({ cls := "MergeWorkbench", name := "document", desc := "(I)Ljava/util/List;" } : Jvm.MethodName) prog_1_method_7_code (2 : Nat) (Option.some (Jvm.ClassFile.FieldType.object "java/util/List"))) ∈ lw_all := lw_g (lw_at lw_m5 175 rfl) rfl
theorem q1219 : (Jvm.Cond.methodLink "MergeWorkbench" (53 : Nat) ({ cls := "MergeWorkbench", name := "isRegister", desc := "(I)Z" } : Jvm.MethodName)) ∈ lw_all := lw_g (lw_at lw_m5 176 rfl) rfl
theorem q1220 : (Jvm.Cond.static ({ cls := "MergeWorkbench", name := "isRegister", desc := "(I)Z" } : Jvm.MethodName)) ∈ lw_all := lw_g (lw_at lw_m5 177 rfl) rfl
theorem q1221 : (Jvm.Cond.code ({ cls := "MergeWorkbench", name := "isRegister", desc := "(I)Z" } : Jvm.MethodName) prog_1_method_5_code (1 : Nat) (Option.some Jvm.ClassFile.FieldType.boolean)) ∈ lw_all := lw_g (lw_at lw_m5 178 rfl) rfl
theorem q1222 : (Jvm.Cond.methodLink "MergeWorkbench" (10 : Nat) ({ cls := "MergeWorkbench", name := "isBetween", desc := "(III)Z" } : Jvm.MethodName)) ∈ lw_all := lw_g (lw_at lw_m5 179 rfl) rfl
theorem q1223 : (Jvm.Cond.static ({ cls := "MergeWorkbench", name := "isBetween", desc := "(III)Z" } : Jvm.MethodName)) ∈ lw_all := lw_g (lw_at lw_m5 180 rfl) rfl
theorem q1224 : (Jvm.Cond.code ({ cls := "MergeWorkbench", name := "isBetween", desc := "(III)Z" } : Jvm.MethodName) prog_1_method_1_code (3 : Nat) (Option.some Jvm.ClassFile.FieldType.boolean)) ∈ lw_all := lw_g (lw_at lw_m5 181 rfl) rfl
theorem q1225 : (Jvm.Cond.methodLink "MergeWorkbench" (57 : Nat) ({ cls := "MergeWorkbench", name := "require", desc := "(Z)V" } : Jvm.MethodName)) ∈ lw_all := lw_g (lw_at lw_m5 182 rfl) rfl
theorem q1226 : (Jvm.Cond.static ({ cls := "MergeWorkbench", name := "require", desc := "(Z)V" } : Jvm.MethodName)) ∈ lw_all := lw_g (lw_at lw_m5 183 rfl) rfl
theorem q1227 : (Jvm.Cond.code ({ cls := "MergeWorkbench", name := "require", desc := "(Z)V" } : Jvm.MethodName) prog_1_method_2_code (1 : Nat) (Option.none : Option Jvm.ClassFile.FieldType)) ∈ lw_all := lw_g (lw_at lw_m5 184 rfl) rfl
theorem q1228 : (Jvm.Cond.classLink "MergeWorkbench" (1 : Nat) "java/lang/IllegalArgumentException") ∈ lw_all := lw_g (lw_at lw_m5 185 rfl) rfl
theorem q1229 : (Jvm.Cond.methodLink "MergeWorkbench" (3 : Nat) ({ cls := "java/lang/IllegalArgumentException", name := "<init>", desc := "()V" } : Jvm.MethodName)) ∈ lw_all := lw_g (lw_at lw_m5 186 rfl) rfl
theorem q1233 : (Jvm.Cond.interfaceEntry "MergeWorkbench" (61 : Nat)) ∈ lw_tbl := lw_at lw_m5 190 rfl
theorem q1234 : (Jvm.Cond.methodLink "MergeWorkbench" (61 : Nat) ({ cls := "java/util/List", name := "get", desc := "(I)Ljava/lang/Object;" } : Jvm.MethodName)) ∈ lw_all := lw_g (lw_at lw_m5 191 rfl) rfl
theorem q1235 : (Jvm.Cond.methodLink "MergeWorkbench" (80 : Nat) ({ cls := "MergeWorkbench", name := "requireState", desc := "(Z)V" } : Jvm.MethodName)) ∈ lw_all := lw_g (lw_at lw_m5 192 rfl) rfl
theorem q1236 : (Jvm.Cond.static ({ cls := "MergeWorkbench", name := "requireState", desc := "(Z)V" } : Jvm.MethodName)) ∈ lw_all := lw_g (lw_at lw_m5 193 rfl) rfl
theorem q1237 : (Jvm.Cond.code ({ cls := "MergeWorkbench", name := "requireState", desc := "(Z)V" } : Jvm.MethodName) prog_1_method_3_code (1 : Nat) (Option.none : Option Jvm.ClassFile.FieldType)) ∈ lw_all := lw_g (lw_at lw_m5 194 rfl) rfl
theorem q1238 : (Jvm.Cond.classLink "MergeWorkbench" (7 : Nat) "java/lang/IllegalStateException") ∈ lw_all := lw_g (lw_at lw_m5 195 rfl) rfl
theorem q1247 : (Jvm.Cond.methodLink "MergeWorkbench" (9 : Nat) ({ cls := "java/lang/IllegalStateException", name := "<init>", desc := "()V" } : Jvm.MethodName)) ∈ lw_all := lw_g (lw_at lw_m5 204 rfl) rfl
theorem q1253 : (Jvm.Cond.methodLink "MergeWorkbench" (86 : Nat) ({ cls := "java/lang/Integer", name := "valueOf", desc := "(I)Ljava/lang/Integer;" } : Jvm.MethodName)) ∈ lw_all := lw_g (lw_at lw_m5 210 rfl) rfl
theorem q1254 : (Jvm.Cond.methodLink "MergeWorkbench" (92 : Nat) ({ cls := "MergeWorkbench", name := "change", desc := "(ILjava/util/List;)V" } : Jvm.MethodName)) ∈ lw_all := lw_g (lw_at lw_m5 211 rfl) rfl
theorem q1255 : (Jvm.Cond.privateMethod ({ cls := "MergeWorkbench", name := "change", desc := "(ILjava/util/List;)V" } : Jvm.MethodName)) ∈ lw_tbl := lw_at lw_m5 212 rfl
theorem q1256 : (Jvm.Cond.instanceMethod ({ cls := "MergeWorkbench", name := "change", desc := "(ILjava/util/List;)V" } : Jvm.MethodName)) ∈ lw_all := lw_g (lw_at lw_m5 213 rfl) rfl
theorem q1257 : (Jvm.Cond.code ({ cls := "MergeWorkbench", name := "change", desc := "(ILjava/util/List;)V" } : Jvm.MethodName) prog_1_method_8_code (3 : Nat) (Option.none : Option Jvm.ClassFile.FieldType)) ∈ lw_all := lw_g (lw_at lw_m5 214 rfl) rfl
theorem q1258 : (Jvm.Cond.interfaceEntry "MergeWorkbench" (65 : Nat)) ∈ lw_tbl := lw_at lw_m5 215 rfl
theorem q1259 : (Jvm.Cond.methodLink "MergeWorkbench" (65 : Nat) ({ cls := "java/util/List", name := "set", desc := "(ILjava/lang/Object;)Ljava/lang/Object;" } : Jvm.MethodName)) ∈ lw_all := lw_g (lw_at lw_m5 216 rfl) rfl
theorem q1272 : (Jvm.Cond.methodLink "MergeWorkbench" (69 : Nat) ({ cls := "MergeWorkbench$History", name := "add", desc := "(ILjava/lang/Object;)V" } : Jvm.MethodName)) ∈ lw_all := lw_g (lw_at lw_m5 229 rfl) rfl
theorem q1283 : (Jvm.Cond.fieldLinkNest "MergeWorkbench" (295 : Nat) "MergeWorkbench$Change" "place" "I" "MergeWorkbench") ∈ lw_tbl := lw_at lw_m6 0 rfl
theorem q1285 : (Jvm.Cond.fieldLinkNest "MergeWorkbench" (300 : Nat) "MergeWorkbench$Change" "before" "Ljava/lang/Object;" "MergeWorkbench") ∈ lw_tbl := lw_at lw_m6 2 rfl
theorem q1363 : (Jvm.Cond.instanceMethod ({ cls := "MergeWorkbench", name := "insert", desc := "(III)I" } : Jvm.MethodName)) ∈ lw_all := lw_g (lw_at lw_m6 80 rfl) rfl
theorem q1364 : (Jvm.Cond.selects "MergeWorkbench" ({ cls := "MergeWorkbench", name := "insert", desc := "(III)I" } : Jvm.MethodName) ({ cls := "MergeWorkbench", name := "insert", desc := "(III)I" } : Jvm.MethodName)) ∈ lw_all := lw_g (lw_at lw_m6 81 rfl) rfl
theorem q1365 : (Jvm.Cond.code ({ cls := "MergeWorkbench", name := "insert", desc := "(III)I" } : Jvm.MethodName) prog_1_method_10_code (6 : Nat) (Option.some Jvm.ClassFile.FieldType.int)) ∈ lw_all := lw_g (lw_at lw_m6 82 rfl) rfl
theorem q1366 : (Jvm.Cond.methodLink "MergeWorkbench" (96 : Nat) ({ cls := "MergeWorkbench", name := "requireIndex", desc := "(II)V" } : Jvm.MethodName)) ∈ lw_all := lw_g (lw_at lw_m6 83 rfl) rfl
theorem q1367 : (Jvm.Cond.static ({ cls := "MergeWorkbench", name := "requireIndex", desc := "(II)V" } : Jvm.MethodName)) ∈ lw_all := lw_g (lw_at lw_m6 84 rfl) rfl
theorem q1368 : (Jvm.Cond.code ({ cls := "MergeWorkbench", name := "requireIndex", desc := "(II)V" } : Jvm.MethodName) prog_1_method_4_code (2 : Nat) (Option.none : Option Jvm.ClassFile.FieldType)) ∈ lw_all := lw_g (lw_at lw_m6 85 rfl) rfl
theorem q1369 : (Jvm.Cond.classLink "MergeWorkbench" (16 : Nat) "java/lang/IndexOutOfBoundsException") ∈ lw_all := lw_g (lw_at lw_m6 86 rfl) rfl
theorem q1370 : (Jvm.Cond.methodLink "MergeWorkbench" (18 : Nat) ({ cls := "java/lang/IndexOutOfBoundsException", name := "<init>", desc := "()V" } : Jvm.MethodName)) ∈ lw_all := lw_g (lw_at lw_m6 87 rfl) rfl
theorem q1374 : (Jvm.Cond.interfaceEntry "MergeWorkbench" (100 : Nat)) ∈ lw_tbl := lw_at lw_m6 91 rfl
theorem q1375 : (Jvm.Cond.methodLink "MergeWorkbench" (100 : Nat) ({ cls := "java/util/List", name := "add", desc := "(ILjava/lang/Object;)V" } : Jvm.MethodName)) ∈ lw_all := lw_g (lw_at lw_m6 92 rfl) rfl
theorem q1388 : (Jvm.Cond.instanceMethod ({ cls := "MergeWorkbench", name := "delete", desc := "(II)I" } : Jvm.MethodName)) ∈ lw_all := lw_g (lw_at lw_m6 105 rfl) rfl
theorem q1389 : (Jvm.Cond.selects "MergeWorkbench" ({ cls := "MergeWorkbench", name := "delete", desc := "(II)I" } : Jvm.MethodName) ({ cls := "MergeWorkbench", name := "delete", desc := "(II)I" } : Jvm.MethodName)) ∈ lw_all := lw_g (lw_at lw_m6 106 rfl) rfl
theorem q1390 : (Jvm.Cond.code ({ cls := "MergeWorkbench", name := "delete", desc := "(II)I" } : Jvm.MethodName) prog_1_method_11_code (6 : Nat) (Option.some Jvm.ClassFile.FieldType.int)) ∈ lw_all := lw_g (lw_at lw_m6 107 rfl) rfl
theorem q1391 : (Jvm.Cond.interfaceEntry "MergeWorkbench" (101 : Nat)) ∈ lw_tbl := lw_at lw_m6 108 rfl
theorem q1392 : (Jvm.Cond.methodLink "MergeWorkbench" (101 : Nat) ({ cls := "java/util/List", name := "remove", desc := "(I)Ljava/lang/Object;" } : Jvm.MethodName)) ∈ lw_all := lw_g (lw_at lw_m6 109 rfl) rfl
theorem q1409 : (Jvm.Cond.classLink "MergeWorkbench" (87 : Nat) "java/lang/Integer") ∈ lw_all := lw_g (lw_at lw_m6 126 rfl) rfl
theorem q1410 : (Jvm.Cond.methodLink "MergeWorkbench" (104 : Nat) ({ cls := "java/lang/Integer", name := "intValue", desc := "()I" } : Jvm.MethodName)) ∈ lw_all := lw_g (lw_at lw_m6 127 rfl) rfl
theorem q1415 : (Jvm.Cond.instanceMethod ({ cls := "MergeWorkbench", name := "length", desc := "(I)I" } : Jvm.MethodName)) ∈ lw_all := lw_g (lw_at lw_m6 132 rfl) rfl
theorem q1416 : (Jvm.Cond.selects "MergeWorkbench" ({ cls := "MergeWorkbench", name := "length", desc := "(I)I" } : Jvm.MethodName) ({ cls := "MergeWorkbench", name := "length", desc := "(I)I" } : Jvm.MethodName)) ∈ lw_all := lw_g (lw_at lw_m6 133 rfl) rfl
theorem q1417 : (Jvm.Cond.code ({ cls := "MergeWorkbench", name := "length", desc := "(I)I" } : Jvm.MethodName) prog_1_method_12_code (2 : Nat) (Option.some Jvm.ClassFile.FieldType.int)) ∈ lw_all := lw_g (lw_at lw_m6 134 rfl) rfl
theorem q1422 : (Jvm.Cond.instanceMethod ({ cls := "MergeWorkbench", name := "line", desc := "(II)I" } : Jvm.MethodName)) ∈ lw_all := lw_g (lw_at lw_m6 139 rfl) rfl
theorem q1423 : (Jvm.Cond.selects "MergeWorkbench" ({ cls := "MergeWorkbench", name := "line", desc := "(II)I" } : Jvm.MethodName) ({ cls := "MergeWorkbench", name := "line", desc := "(II)I" } : Jvm.MethodName)) ∈ lw_all := lw_g (lw_at lw_m6 140 rfl) rfl
theorem q1424 : (Jvm.Cond.code ({ cls := "MergeWorkbench", name := "line", desc := "(II)I" } : Jvm.MethodName) prog_1_method_13_code (4 : Nat) (Option.some Jvm.ClassFile.FieldType.int)) ∈ lw_all := lw_g (lw_at lw_m6 141 rfl) rfl
theorem q1429 : (Jvm.Cond.instanceMethod ({ cls := "MergeWorkbench", name := "copy", desc := "(II)I" } : Jvm.MethodName)) ∈ lw_all := lw_g (lw_at lw_m6 146 rfl) rfl
theorem q1430 : (Jvm.Cond.selects "MergeWorkbench" ({ cls := "MergeWorkbench", name := "copy", desc := "(II)I" } : Jvm.MethodName) ({ cls := "MergeWorkbench", name := "copy", desc := "(II)I" } : Jvm.MethodName)) ∈ lw_all := lw_g (lw_at lw_m6 147 rfl) rfl
theorem q1431 : (Jvm.Cond.code ({ cls := "MergeWorkbench", name := "copy", desc := "(II)I" } : Jvm.MethodName) prog_1_method_14_code (4 : Nat) (Option.some Jvm.ClassFile.FieldType.int)) ∈ lw_all := lw_g (lw_at lw_m6 148 rfl) rfl
theorem q1436 : (Jvm.Cond.instanceMethod ({ cls := "MergeWorkbench", name := "isSame", desc := "(II)Z" } : Jvm.MethodName)) ∈ lw_all := lw_g (lw_at lw_m6 153 rfl) rfl
theorem q1437 : (Jvm.Cond.selects "MergeWorkbench" ({ cls := "MergeWorkbench", name := "isSame", desc := "(II)Z" } : Jvm.MethodName) ({ cls := "MergeWorkbench", name := "isSame", desc := "(II)Z" } : Jvm.MethodName)) ∈ lw_all := lw_g (lw_at lw_m6 154 rfl) rfl
theorem q1438 : (Jvm.Cond.code ({ cls := "MergeWorkbench", name := "isSame", desc := "(II)Z" } : Jvm.MethodName) prog_1_method_15_code (3 : Nat) (Option.some Jvm.ClassFile.FieldType.boolean)) ∈ lw_all := lw_g (lw_at lw_m6 155 rfl) rfl
theorem q1439 : (Jvm.Cond.interfaceEntry "MergeWorkbench" (107 : Nat)) ∈ lw_tbl := lw_at lw_m6 156 rfl
theorem q1440 : (Jvm.Cond.methodLink "MergeWorkbench" (107 : Nat) ({ cls := "java/util/List", name := "equals", desc := "(Ljava/lang/Object;)Z" } : Jvm.MethodName)) ∈ lw_all := lw_g (lw_at lw_m6 157 rfl) rfl
theorem q1461 : (Jvm.Cond.selects "MergeWorkbench" ({ cls := "java/lang/Object", name := "equals", desc := "(Ljava/lang/Object;)Z" } : Jvm.MethodName) ({ cls := "java/lang/Object", name := "equals", desc := "(Ljava/lang/Object;)Z" } : Jvm.MethodName)) ∈ lw_all := lw_g (lw_at lw_m6 178 rfl) rfl
theorem q1630 : (Jvm.Cond.instanceMethod ({ cls := "MergeWorkbench", name := "distance", desc := "(II)I" } : Jvm.MethodName)) ∈ lw_all := lw_g (lw_at lw_m7 107 rfl) rfl
theorem q1631 : (Jvm.Cond.selects "MergeWorkbench" ({ cls := "MergeWorkbench", name := "distance", desc := "(II)I" } : Jvm.MethodName) ({ cls := "MergeWorkbench", name := "distance", desc := "(II)I" } : Jvm.MethodName)) ∈ lw_all := lw_g (lw_at lw_m7 108 rfl) rfl
theorem q1632 : (Jvm.Cond.code ({ cls := "MergeWorkbench", name := "distance", desc := "(II)I" } : Jvm.MethodName) prog_1_method_16_code (5 : Nat) (Option.some Jvm.ClassFile.FieldType.int)) ∈ lw_all := lw_g (lw_at lw_m7 109 rfl) rfl
theorem q1633 : (Jvm.Cond.classLink "MergeWorkbench" (110 : Nat) "MergeWorkbench$Aligner") ∈ lw_all := lw_g (lw_at lw_m7 110 rfl) rfl
theorem q1635 : (Jvm.Cond.methodLink "MergeWorkbench" (112 : Nat) ({ cls := "MergeWorkbench$Aligner", name := "<init>", desc := "(Ljava/util/List;Ljava/util/List;)V" } : Jvm.MethodName)) ∈ lw_all := lw_g (lw_at lw_m7 112 rfl) rfl
theorem q1655 : (Jvm.Cond.methodLink "MergeWorkbench" (115 : Nat) ({ cls := "MergeWorkbench$Aligner", name := "plain", desc := "()Ljava/util/List;" } : Jvm.MethodName)) ∈ lw_all := lw_g (lw_at lw_m7 132 rfl) rfl
theorem q1719 : (Jvm.Cond.instanceMethod ({ cls := "MergeWorkbench", name := "feed", desc := "(C)I" } : Jvm.MethodName)) ∈ lw_all := lw_g (lw_at lw_m7 196 rfl) rfl
theorem q1720 : (Jvm.Cond.selects "MergeWorkbench" ({ cls := "MergeWorkbench", name := "feed", desc := "(C)I" } : Jvm.MethodName) ({ cls := "MergeWorkbench", name := "feed", desc := "(C)I" } : Jvm.MethodName)) ∈ lw_all := lw_g (lw_at lw_m7 197 rfl) rfl
theorem q1721 : (Jvm.Cond.code ({ cls := "MergeWorkbench", name := "feed", desc := "(C)I" } : Jvm.MethodName) prog_1_method_17_code (2 : Nat) (Option.some Jvm.ClassFile.FieldType.int)) ∈ lw_all := lw_g (lw_at lw_m7 198 rfl) rfl
theorem q1722 : (Jvm.Cond.methodLink "MergeWorkbench" (119 : Nat) ({ cls := "java/lang/StringBuilder", name := "length", desc := "()I" } : Jvm.MethodName)) ∈ lw_all := lw_g (lw_at lw_m7 199 rfl) rfl
theorem q1723 : (Jvm.Cond.methodLink "MergeWorkbench" (122 : Nat) ({ cls := "java/lang/StringBuilder", name := "append", desc := "(C)Ljava/lang/StringBuilder;" } : Jvm.MethodName)) ∈ lw_all := lw_g (lw_at lw_m7 200 rfl) rfl
theorem q1747 : (Jvm.Cond.instanceMethod ({ cls := "MergeWorkbench", name := "readDocument", desc := "(I)I" } : Jvm.MethodName)) ∈ lw_all := lw_g (lw_at lw_m7 224 rfl) rfl
theorem q1748 : (Jvm.Cond.selects "MergeWorkbench" ({ cls := "MergeWorkbench", name := "readDocument", desc := "(I)I" } : Jvm.MethodName) ({ cls := "MergeWorkbench", name := "readDocument", desc := "(I)I" } : Jvm.MethodName)) ∈ lw_all := lw_g (lw_at lw_m7 225 rfl) rfl
theorem q1749 : (Jvm.Cond.codeWith ({ cls := "MergeWorkbench", name := "readDocument", desc := "(I)I" } : Jvm.MethodName) prog_1_method_18_code (5 : Nat) (Option.some Jvm.ClassFile.FieldType.int) [((0 : Nat), (56 : Nat), (66 : Nat), (141 : Nat)), ((0 : Nat), (56 : Nat), (85 : Nat), (0 : Nat)), ((66 : Nat), (75 : Nat), (85 : Nat), (0 : Nat)), ((85 : Nat), (87 : Nat), (85 : Nat), (0 : Nat))]) ∈ lw_all := lw_g (lw_at lw_m7 226 rfl) rfl
theorem q1750 : (Jvm.Cond.classLink "MergeWorkbench" (141 : Nat) "MergeWorkbench$SyntaxException") ∈ lw_all := lw_g (lw_at lw_m7 227 rfl) rfl
theorem q1751 : (Jvm.Cond.classLink "MergeWorkbench" (126 : Nat) "MergeWorkbench$Reader") ∈ lw_all := lw_g (lw_at lw_m7 228 rfl) rfl
theorem q1753 : (Jvm.Cond.methodLink "MergeWorkbench" (128 : Nat) ({ cls := "java/lang/StringBuilder", name := "toString", desc := "()Ljava/lang/String;" } : Jvm.MethodName)) ∈ lw_all := lw_g (lw_at lw_m7 230 rfl) rfl
theorem q1754 : (Jvm.Cond.methodLink "MergeWorkbench" (132 : Nat) ({ cls := "MergeWorkbench$Reader", name := "<init>", desc := "(Ljava/lang/String;)V" } : Jvm.MethodName)) ∈ lw_all := lw_g (lw_at lw_m7 231 rfl) rfl
theorem q1768 : (Jvm.Cond.methodLink "MergeWorkbench" (135 : Nat) ({ cls := "MergeWorkbench$Reader", name := "document", desc := "()Ljava/util/List;" } : Jvm.MethodName)) ∈ lw_all := lw_g (lw_at lw_m8 5 rfl) rfl
theorem q1825 : (Jvm.Cond.fieldLinkNest "MergeWorkbench" (143 : Nat) "MergeWorkbench$SyntaxException" "position" "I" "MergeWorkbench") ∈ lw_tbl := lw_at lw_m8 62 rfl
theorem q2118 : (Jvm.Cond.methodLink "MergeWorkbench" (137 : Nat) ({ cls := "java/lang/StringBuilder", name := "setLength", desc := "(I)V" } : Jvm.MethodName)) ∈ lw_all := lw_g (lw_at lw_m9 115 rfl) rfl
theorem q2174 : (Jvm.Cond.instanceMethod ({ cls := "MergeWorkbench", name := "setMode", desc := "(I)I" } : Jvm.MethodName)) ∈ lw_all := lw_g (lw_at lw_m9 171 rfl) rfl
theorem q2175 : (Jvm.Cond.selects "MergeWorkbench" ({ cls := "MergeWorkbench", name := "setMode", desc := "(I)I" } : Jvm.MethodName) ({ cls := "MergeWorkbench", name := "setMode", desc := "(I)I" } : Jvm.MethodName)) ∈ lw_all := lw_g (lw_at lw_m9 172 rfl) rfl
theorem q2176 : (Jvm.Cond.code ({ cls := "MergeWorkbench", name := "setMode", desc := "(I)I" } : Jvm.MethodName) prog_1_method_19_code (3 : Nat) (Option.some Jvm.ClassFile.FieldType.int)) ∈ lw_all := lw_g (lw_at lw_m9 173 rfl) rfl
theorem q2181 : (Jvm.Cond.instanceMethod ({ cls := "MergeWorkbench", name := "compare", desc := "(II)I" } : Jvm.MethodName)) ∈ lw_all := lw_g (lw_at lw_m9 178 rfl) rfl
theorem q2182 : (Jvm.Cond.selects "MergeWorkbench" ({ cls := "MergeWorkbench", name := "compare", desc := "(II)I" } : Jvm.MethodName) ({ cls := "MergeWorkbench", name := "compare", desc := "(II)I" } : Jvm.MethodName)) ∈ lw_all := lw_g (lw_at lw_m9 179 rfl) rfl
theorem q2183 : (Jvm.Cond.code ({ cls := "MergeWorkbench", name := "compare", desc := "(II)I" } : Jvm.MethodName) prog_1_method_20_code (3 : Nat) (Option.some Jvm.ClassFile.FieldType.int)) ∈ lw_all := lw_g (lw_at lw_m9 180 rfl) rfl
theorem q2184 : (Jvm.Cond.classLink "MergeWorkbench" (150 : Nat) "MergeWorkbench$Comparison") ∈ lw_all := lw_g (lw_at lw_m9 181 rfl) rfl
theorem q2186 : (Jvm.Cond.methodLink "MergeWorkbench" (152 : Nat) ({ cls := "MergeWorkbench$Comparison", name := "<init>", desc := "(Ljava/util/List;Ljava/util/List;I)V" } : Jvm.MethodName)) ∈ lw_all := lw_g (lw_at lw_m9 183 rfl) rfl
theorem q2418 : (Jvm.Cond.fieldLinkNest "MergeWorkbench" (165 : Nat) "MergeWorkbench$Comparison" "a" "Ljava/util/List;" "MergeWorkbench") ∈ lw_tbl := lw_at lw_m10 175 rfl
theorem q2424 : (Jvm.Cond.fieldLinkNest "MergeWorkbench" (200 : Nat) "MergeWorkbench$Comparison" "b" "Ljava/util/List;" "MergeWorkbench") ∈ lw_tbl := lw_at lw_m10 181 rfl
theorem q2427 : (Jvm.Cond.fieldLinkNest "MergeWorkbench" (159 : Nat) "MergeWorkbench$Comparison" "matches" "Ljava/util/List;" "MergeWorkbench") ∈ lw_tbl := lw_at lw_m10 184 rfl
theorem q2429 : (Jvm.Cond.fieldLinkNest "MergeWorkbench" (172 : Nat) "MergeWorkbench$Comparison" "anchors" "I" "MergeWorkbench") ∈ lw_tbl := lw_at lw_m10 186 rfl
theorem q2433 : (Jvm.Cond.fieldLinkNest "MergeWorkbench" (175 : Nat) "MergeWorkbench$Comparison" "differences" "Ljava/util/List;" "MergeWorkbench") ∈ lw_tbl := lw_at lw_m10 190 rfl
theorem q2436 : (Jvm.Cond.fieldLinkNest "MergeWorkbench" (209 : Nat) "MergeWorkbench$Comparison" "moves" "Ljava/util/List;" "MergeWorkbench") ∈ lw_tbl := lw_at lw_m10 193 rfl
theorem q2454 : (Jvm.Cond.instanceMethod ({ cls := "MergeWorkbench", name := "partner", desc := "(I)I" } : Jvm.MethodName)) ∈ lw_all := lw_g (lw_at lw_m10 211 rfl) rfl
theorem q2455 : (Jvm.Cond.selects "MergeWorkbench" ({ cls := "MergeWorkbench", name := "partner", desc := "(I)I" } : Jvm.MethodName) ({ cls := "MergeWorkbench", name := "partner", desc := "(I)I" } : Jvm.MethodName)) ∈ lw_all := lw_g (lw_at lw_m10 212 rfl) rfl
theorem q2456 : (Jvm.Cond.code ({ cls := "MergeWorkbench", name := "partner", desc := "(I)I" } : Jvm.MethodName) prog_1_method_22_code (2 : Nat) (Option.some Jvm.ClassFile.FieldType.int)) ∈ lw_all := lw_g (lw_at lw_m10 213 rfl) rfl
theorem q2457 : (Jvm.Cond.methodLink "MergeWorkbench" (162 : Nat) ({ cls := "MergeWorkbench", name := "comparison", desc := "()LMergeWorkbench$Comparison;" } : Jvm.MethodName)) ∈ lw_all := lw_g (lw_at lw_m10 214 rfl) rfl
theorem q2458 : (Jvm.Cond.privateMethod ({ cls := "MergeWorkbench", name := "comparison", desc := "()LMergeWorkbench$Comparison;" } : Jvm.MethodName)) ∈ lw_tbl := lw_at lw_m10 215 rfl
theorem q2459 : (Jvm.Cond.instanceMethod ({ cls := "MergeWorkbench", name := "comparison", desc := "()LMergeWorkbench$Comparison;" } : Jvm.MethodName)) ∈ lw_all := lw_g (lw_at lw_m10 216 rfl) rfl
theorem q2460 : (Jvm.Cond.code ({ cls := "MergeWorkbench", name := "comparison", desc := "()LMergeWorkbench$Comparison;" } : Jvm.MethodName) prog_1_method_21_code (1 : Nat) (Option.some (Jvm.ClassFile.FieldType.object "MergeWorkbench$Comparison"))) ∈ lw_all := lw_g (lw_at lw_m10 217 rfl) rfl
theorem q2461 : (Jvm.Cond.methodLink "MergeWorkbench" (168 : Nat) ({ cls := "MergeWorkbench$Comparison", name := "partner", desc := "(I)I" } : Jvm.MethodName)) ∈ lw_all := lw_g (lw_at lw_m10 218 rfl) rfl
theorem q2471 : (Jvm.Cond.instanceMethod ({ cls := "MergeWorkbench", name := "anchors", desc := "()I" } : Jvm.MethodName)) ∈ lw_all := lw_g (lw_at lw_m10 228 rfl) rfl
theorem q2472 : (Jvm.Cond.selects "MergeWorkbench" ({ cls := "MergeWorkbench", name := "anchors", desc := "()I" } : Jvm.MethodName) ({ cls := "MergeWorkbench", name := "anchors", desc := "()I" } : Jvm.MethodName)) ∈ lw_all := lw_g (lw_at lw_m10 229 rfl) rfl
theorem q2473 : (Jvm.Cond.code ({ cls := "MergeWorkbench", name := "anchors", desc := "()I" } : Jvm.MethodName) prog_1_method_23_code (1 : Nat) (Option.some Jvm.ClassFile.FieldType.int)) ∈ lw_all := lw_g (lw_at lw_m10 230 rfl) rfl
theorem q2478 : (Jvm.Cond.instanceMethod ({ cls := "MergeWorkbench", name := "differences", desc := "()I" } : Jvm.MethodName)) ∈ lw_all := lw_g (lw_at lw_m10 235 rfl) rfl
theorem q2479 : (Jvm.Cond.selects "MergeWorkbench" ({ cls := "MergeWorkbench", name := "differences", desc := "()I" } : Jvm.MethodName) ({ cls := "MergeWorkbench", name := "differences", desc := "()I" } : Jvm.MethodName)) ∈ lw_all := lw_g (lw_at lw_m10 236 rfl) rfl
theorem q2480 : (Jvm.Cond.code ({ cls := "MergeWorkbench", name := "differences", desc := "()I" } : Jvm.MethodName) prog_1_method_24_code (1 : Nat) (Option.some Jvm.ClassFile.FieldType.int)) ∈ lw_all := lw_g (lw_at lw_m10 237 rfl) rfl
theorem q2485 : (Jvm.Cond.instanceMethod ({ cls := "MergeWorkbench", name := "difference", desc := "(II)I" } : Jvm.MethodName)) ∈ lw_all := lw_g (lw_at lw_m11 2 rfl) rfl
theorem q2486 : (Jvm.Cond.selects "MergeWorkbench" ({ cls := "MergeWorkbench", name := "difference", desc := "(II)I" } : Jvm.MethodName) ({ cls := "MergeWorkbench", name := "difference", desc := "(II)I" } : Jvm.MethodName)) ∈ lw_all := lw_g (lw_at lw_m11 3 rfl) rfl
theorem q2487 : (Jvm.Cond.code ({ cls := "MergeWorkbench", name := "difference", desc := "(II)I" } : Jvm.MethodName) prog_1_method_25_code (3 : Nat) (Option.some Jvm.ClassFile.FieldType.int)) ∈ lw_all := lw_g (lw_at lw_m11 4 rfl) rfl
theorem q2488 : (Jvm.Cond.classLink "MergeWorkbench" (178 : Nat) "MergeWorkbench$Difference") ∈ lw_all := lw_g (lw_at lw_m11 5 rfl) rfl
theorem q2489 : (Jvm.Cond.methodLink "MergeWorkbench" (180 : Nat) ({ cls := "MergeWorkbench$Difference", name := "bound", desc := "(I)I" } : Jvm.MethodName)) ∈ lw_all := lw_g (lw_at lw_m11 6 rfl) rfl
theorem q2498 : (Jvm.Cond.instanceMethod ({ cls := "MergeWorkbench", name := "step", desc := "(I)I" } : Jvm.MethodName)) ∈ lw_all := lw_g (lw_at lw_m11 15 rfl) rfl
theorem q2499 : (Jvm.Cond.selects "MergeWorkbench" ({ cls := "MergeWorkbench", name := "step", desc := "(I)I" } : Jvm.MethodName) ({ cls := "MergeWorkbench", name := "step", desc := "(I)I" } : Jvm.MethodName)) ∈ lw_all := lw_g (lw_at lw_m11 16 rfl) rfl
theorem q2500 : (Jvm.Cond.code ({ cls := "MergeWorkbench", name := "step", desc := "(I)I" } : Jvm.MethodName) prog_1_method_26_code (4 : Nat) (Option.some Jvm.ClassFile.FieldType.int)) ∈ lw_all := lw_g (lw_at lw_m11 17 rfl) rfl
theorem q2501 : (Jvm.Cond.methodLink "MergeWorkbench" (183 : Nat) ({ cls := "MergeWorkbench$Comparison", name := "iterator", desc := "()Ljava/util/Iterator;" } : Jvm.MethodName)) ∈ lw_all := lw_g (lw_at lw_m11 18 rfl) rfl
theorem q2523 : (Jvm.Cond.classLink "MergeWorkbench" (197 : Nat) "java/util/NoSuchElementException") ∈ lw_all := lw_g (lw_at lw_m11 40 rfl) rfl
theorem q2524 : (Jvm.Cond.methodLink "MergeWorkbench" (199 : Nat) ({ cls := "java/util/NoSuchElementException", name := "<init>", desc := "()V" } : Jvm.MethodName)) ∈ lw_all := lw_g (lw_at lw_m11 41 rfl) rfl
theorem q2543 : (Jvm.Cond.instanceMethod ({ cls := "MergeWorkbench", name := "similarity", desc := "()D" } : Jvm.MethodName)) ∈ lw_all := lw_g (lw_at lw_m11 60 rfl) rfl
theorem q2544 : (Jvm.Cond.selects "MergeWorkbench" ({ cls := "MergeWorkbench", name := "similarity", desc := "()D" } : Jvm.MethodName) ({ cls := "MergeWorkbench", name := "similarity", desc := "()D" } : Jvm.MethodName)) ∈ lw_all := lw_g (lw_at lw_m11 61 rfl) rfl
theorem q2545 : (Jvm.Cond.code ({ cls := "MergeWorkbench", name := "similarity", desc := "()D" } : Jvm.MethodName) prog_1_method_27_code (2 : Nat) (Option.some Jvm.ClassFile.FieldType.double)) ∈ lw_all := lw_g (lw_at lw_m11 62 rfl) rfl
theorem q2546 : (Jvm.Cond.classLink "MergeWorkbench" (203 : Nat) "java/lang/ArithmeticException") ∈ lw_all := lw_g (lw_at lw_m11 63 rfl) rfl
theorem q2547 : (Jvm.Cond.methodLink "MergeWorkbench" (205 : Nat) ({ cls := "java/lang/ArithmeticException", name := "<init>", desc := "()V" } : Jvm.MethodName)) ∈ lw_all := lw_g (lw_at lw_m11 64 rfl) rfl
theorem q2555 : (Jvm.Cond.instanceMethod ({ cls := "MergeWorkbench", name := "findMoves", desc := "(I)I" } : Jvm.MethodName)) ∈ lw_all := lw_g (lw_at lw_m11 72 rfl) rfl
theorem q2556 : (Jvm.Cond.selects "MergeWorkbench" ({ cls := "MergeWorkbench", name := "findMoves", desc := "(I)I" } : Jvm.MethodName) ({ cls := "MergeWorkbench", name := "findMoves", desc := "(I)I" } : Jvm.MethodName)) ∈ lw_all := lw_g (lw_at lw_m11 73 rfl) rfl
theorem q2557 : (Jvm.Cond.code ({ cls := "MergeWorkbench", name := "findMoves", desc := "(I)I" } : Jvm.MethodName) prog_1_method_28_code (2 : Nat) (Option.some Jvm.ClassFile.FieldType.int)) ∈ lw_all := lw_g (lw_at lw_m11 74 rfl) rfl
theorem q2558 : (Jvm.Cond.methodLink "MergeWorkbench" (206 : Nat) ({ cls := "MergeWorkbench$Comparison", name := "findMoves", desc := "(I)I" } : Jvm.MethodName)) ∈ lw_all := lw_g (lw_at lw_m11 75 rfl) rfl
theorem q2771 : (Jvm.Cond.instanceMethod ({ cls := "MergeWorkbench", name := "move", desc := "(II)I" } : Jvm.MethodName)) ∈ lw_all := lw_g (lw_at lw_m12 48 rfl) rfl
theorem q2772 : (Jvm.Cond.selects "MergeWorkbench" ({ cls := "MergeWorkbench", name := "move", desc := "(II)I" } : Jvm.MethodName) ({ cls := "MergeWorkbench", name := "move", desc := "(II)I" } : Jvm.MethodName)) ∈ lw_all := lw_g (lw_at lw_m12 49 rfl) rfl
theorem q2773 : (Jvm.Cond.code ({ cls := "MergeWorkbench", name := "move", desc := "(II)I" } : Jvm.MethodName) prog_1_method_29_code (3 : Nat) (Option.some Jvm.ClassFile.FieldType.int)) ∈ lw_all := lw_g (lw_at lw_m12 50 rfl) rfl
theorem q2774 : (Jvm.Cond.classLink "MergeWorkbench" (212 : Nat) "MergeWorkbench$Move") ∈ lw_all := lw_g (lw_at lw_m12 51 rfl) rfl
theorem q2775 : (Jvm.Cond.methodLink "MergeWorkbench" (214 : Nat) ({ cls := "MergeWorkbench$Move", name := "property", desc := "(I)I" } : Jvm.MethodName)) ∈ lw_all := lw_g (lw_at lw_m12 52 rfl) rfl
theorem q2783 : (Jvm.Cond.instanceMethod ({ cls := "MergeWorkbench", name := "merge", desc := "(III)I" } : Jvm.MethodName)) ∈ lw_all := lw_g (lw_at lw_m12 60 rfl) rfl
theorem q2784 : (Jvm.Cond.selects "MergeWorkbench" ({ cls := "MergeWorkbench", name := "merge", desc := "(III)I" } : Jvm.MethodName) ({ cls := "MergeWorkbench", name := "merge", desc := "(III)I" } : Jvm.MethodName)) ∈ lw_all := lw_g (lw_at lw_m12 61 rfl) rfl
theorem q2785 : (Jvm.Cond.code ({ cls := "MergeWorkbench", name := "merge", desc := "(III)I" } : Jvm.MethodName) prog_1_method_31_code (7 : Nat) (Option.some Jvm.ClassFile.FieldType.int)) ∈ lw_all := lw_g (lw_at lw_m12 62 rfl) rfl
theorem q2786 : (Jvm.Cond.classLink "MergeWorkbench" (217 : Nat) "MergeWorkbench$Merge") ∈ lw_all := lw_g (lw_at lw_m12 63 rfl) rfl
theorem q2788 : (Jvm.Cond.methodLink "MergeWorkbench" (219 : Nat) ({ cls := "MergeWorkbench$Merge", name := "<init>", desc := "(LMergeWorkbench$Comparison;LMergeWorkbench$Comparison;Z)V" } : Jvm.MethodName)) ∈ lw_all := lw_g (lw_at lw_m12 65 rfl) rfl
theorem q2919 : (Jvm.Cond.fieldLinkNest "MergeWorkbench" (238 : Nat) "MergeWorkbench$Chunk" "choice" "I" "MergeWorkbench") ∈ lw_tbl := lw_at lw_m12 196 rfl
theorem q2980 : (Jvm.Cond.fieldLinkNest "MergeWorkbench" (232 : Nat) "MergeWorkbench$Merge" "chunks" "Ljava/util/List;" "MergeWorkbench") ∈ lw_tbl := lw_at lw_m13 17 rfl
theorem q2982 : (Jvm.Cond.fieldLinkNest "MergeWorkbench" (226 : Nat) "MergeWorkbench$Merge" "conflicts" "Ljava/util/List;" "MergeWorkbench") ∈ lw_tbl := lw_at lw_m13 19 rfl
theorem q2998 : (Jvm.Cond.instanceMethod ({ cls := "MergeWorkbench", name := "chunks", desc := "()I" } : Jvm.MethodName)) ∈ lw_all := lw_g (lw_at lw_m13 35 rfl) rfl
theorem q2999 : (Jvm.Cond.selects "MergeWorkbench" ({ cls := "MergeWorkbench", name := "chunks", desc := "()I" } : Jvm.MethodName) ({ cls := "MergeWorkbench", name := "chunks", desc := "()I" } : Jvm.MethodName)) ∈ lw_all := lw_g (lw_at lw_m13 36 rfl) rfl
theorem q3000 : (Jvm.Cond.code ({ cls := "MergeWorkbench", name := "chunks", desc := "()I" } : Jvm.MethodName) prog_1_method_33_code (1 : Nat) (Option.some Jvm.ClassFile.FieldType.int)) ∈ lw_all := lw_g (lw_at lw_m13 37 rfl) rfl
theorem q3001 : (Jvm.Cond.methodLink "MergeWorkbench" (229 : Nat) ({ cls := "MergeWorkbench", name := "merge", desc := "()LMergeWorkbench$Merge;" } : Jvm.MethodName)) ∈ lw_all := lw_g (lw_at lw_m13 38 rfl) rfl
theorem q3002 : (Jvm.Cond.privateMethod ({ cls := "MergeWorkbench", name := "merge", desc := "()LMergeWorkbench$Merge;" } : Jvm.MethodName)) ∈ lw_tbl := lw_at lw_m13 39 rfl
theorem q3003 : (Jvm.Cond.instanceMethod ({ cls := "MergeWorkbench", name := "merge", desc := "()LMergeWorkbench$Merge;" } : Jvm.MethodName)) ∈ lw_all := lw_g (lw_at lw_m13 40 rfl) rfl
theorem q3004 : (Jvm.Cond.code ({ cls := "MergeWorkbench", name := "merge", desc := "()LMergeWorkbench$Merge;" } : Jvm.MethodName) prog_1_method_32_code (1 : Nat) (Option.some (Jvm.ClassFile.FieldType.object "MergeWorkbench$Merge"))) ∈ lw_all := lw_g (lw_at lw_m13 41 rfl) rfl
theorem q3009 : (Jvm.Cond.instanceMethod ({ cls := "MergeWorkbench", name := "chunk", desc := "(II)I" } : Jvm.MethodName)) ∈ lw_all := lw_g (lw_at lw_m13 46 rfl) rfl
theorem q3010 : (Jvm.Cond.selects "MergeWorkbench" ({ cls := "MergeWorkbench", name := "chunk", desc := "(II)I" } : Jvm.MethodName) ({ cls := "MergeWorkbench", name := "chunk", desc := "(II)I" } : Jvm.MethodName)) ∈ lw_all := lw_g (lw_at lw_m13 47 rfl) rfl
theorem q3011 : (Jvm.Cond.code ({ cls := "MergeWorkbench", name := "chunk", desc := "(II)I" } : Jvm.MethodName) prog_1_method_34_code (3 : Nat) (Option.some Jvm.ClassFile.FieldType.int)) ∈ lw_all := lw_g (lw_at lw_m13 48 rfl) rfl
theorem q3012 : (Jvm.Cond.classLink "MergeWorkbench" (235 : Nat) "MergeWorkbench$Chunk") ∈ lw_all := lw_g (lw_at lw_m13 49 rfl) rfl
theorem q3013 : (Jvm.Cond.methodLink "MergeWorkbench" (237 : Nat) ({ cls := "MergeWorkbench$Chunk", name := "property", desc := "(I)I" } : Jvm.MethodName)) ∈ lw_all := lw_g (lw_at lw_m13 50 rfl) rfl
theorem q3021 : (Jvm.Cond.instanceMethod ({ cls := "MergeWorkbench", name := "resolve", desc := "(II)I" } : Jvm.MethodName)) ∈ lw_all := lw_g (lw_at lw_m13 58 rfl) rfl
theorem q3022 : (Jvm.Cond.selects "MergeWorkbench" ({ cls := "MergeWorkbench", name := "resolve", desc := "(II)I" } : Jvm.MethodName) ({ cls := "MergeWorkbench", name := "resolve", desc := "(II)I" } : Jvm.MethodName)) ∈ lw_all := lw_g (lw_at lw_m13 59 rfl) rfl
theorem q3023 : (Jvm.Cond.code ({ cls := "MergeWorkbench", name := "resolve", desc := "(II)I" } : Jvm.MethodName) prog_1_method_35_code (5 : Nat) (Option.some Jvm.ClassFile.FieldType.int)) ∈ lw_all := lw_g (lw_at lw_m13 60 rfl) rfl
theorem q3024 : (Jvm.Cond.methodLink "MergeWorkbench" (241 : Nat) ({ cls := "MergeWorkbench$Chunk", name := "addResult", desc := "(Ljava/util/List;)V" } : Jvm.MethodName)) ∈ lw_all := lw_g (lw_at lw_m13 61 rfl) rfl
theorem q3041 : (Jvm.Cond.instanceMethod ({ cls := "MergeWorkbench", name := "unresolved", desc := "()I" } : Jvm.MethodName)) ∈ lw_all := lw_g (lw_at lw_m13 78 rfl) rfl
theorem q3042 : (Jvm.Cond.selects "MergeWorkbench" ({ cls := "MergeWorkbench", name := "unresolved", desc := "()I" } : Jvm.MethodName) ({ cls := "MergeWorkbench", name := "unresolved", desc := "()I" } : Jvm.MethodName)) ∈ lw_all := lw_g (lw_at lw_m13 79 rfl) rfl
theorem q3043 : (Jvm.Cond.code ({ cls := "MergeWorkbench", name := "unresolved", desc := "()I" } : Jvm.MethodName) prog_1_method_36_code (1 : Nat) (Option.some Jvm.ClassFile.FieldType.int)) ∈ lw_all := lw_g (lw_at lw_m13 80 rfl) rfl
theorem q3044 : (Jvm.Cond.methodLink "MergeWorkbench" (245 : Nat) ({ cls := "MergeWorkbench$Merge", name := "unresolved", desc := "()I" } : Jvm.MethodName)) ∈ lw_all := lw_g (lw_at lw_m13 81 rfl) rfl
theorem q3062 : (Jvm.Cond.instanceMethod ({ cls := "MergeWorkbench", name := "mergedLength", desc := "()I" } : Jvm.MethodName)) ∈ lw_all := lw_g (lw_at lw_m13 99 rfl) rfl
theorem q3063 : (Jvm.Cond.selects "MergeWorkbench" ({ cls := "MergeWorkbench", name := "mergedLength", desc := "()I" } : Jvm.MethodName) ({ cls := "MergeWorkbench", name := "mergedLength", desc := "()I" } : Jvm.MethodName)) ∈ lw_all := lw_g (lw_at lw_m13 100 rfl) rfl
theorem q3064 : (Jvm.Cond.code ({ cls := "MergeWorkbench", name := "mergedLength", desc := "()I" } : Jvm.MethodName) prog_1_method_37_code (1 : Nat) (Option.some Jvm.ClassFile.FieldType.int)) ∈ lw_all := lw_g (lw_at lw_m13 101 rfl) rfl
theorem q3065 : (Jvm.Cond.methodLink "MergeWorkbench" (248 : Nat) ({ cls := "MergeWorkbench$Merge", name := "result", desc := "()Ljava/util/List;" } : Jvm.MethodName)) ∈ lw_all := lw_g (lw_at lw_m13 102 rfl) rfl
theorem q3074 : (Jvm.Cond.instanceMethod ({ cls := "MergeWorkbench", name := "merged", desc := "(I)I" } : Jvm.MethodName)) ∈ lw_all := lw_g (lw_at lw_m13 111 rfl) rfl
theorem q3075 : (Jvm.Cond.selects "MergeWorkbench" ({ cls := "MergeWorkbench", name := "merged", desc := "(I)I" } : Jvm.MethodName) ({ cls := "MergeWorkbench", name := "merged", desc := "(I)I" } : Jvm.MethodName)) ∈ lw_all := lw_g (lw_at lw_m13 112 rfl) rfl
theorem q3076 : (Jvm.Cond.code ({ cls := "MergeWorkbench", name := "merged", desc := "(I)I" } : Jvm.MethodName) prog_1_method_38_code (3 : Nat) (Option.some Jvm.ClassFile.FieldType.int)) ∈ lw_all := lw_g (lw_at lw_m13 113 rfl) rfl
theorem q3082 : (Jvm.Cond.instanceMethod ({ cls := "MergeWorkbench", name := "accept", desc := "(I)I" } : Jvm.MethodName)) ∈ lw_all := lw_g (lw_at lw_m13 119 rfl) rfl
theorem q3083 : (Jvm.Cond.selects "MergeWorkbench" ({ cls := "MergeWorkbench", name := "accept", desc := "(I)I" } : Jvm.MethodName) ({ cls := "MergeWorkbench", name := "accept", desc := "(I)I" } : Jvm.MethodName)) ∈ lw_all := lw_g (lw_at lw_m13 120 rfl) rfl
theorem q3084 : (Jvm.Cond.code ({ cls := "MergeWorkbench", name := "accept", desc := "(I)I" } : Jvm.MethodName) prog_1_method_39_code (3 : Nat) (Option.some Jvm.ClassFile.FieldType.int)) ∈ lw_all := lw_g (lw_at lw_m13 121 rfl) rfl
theorem q3085 : (Jvm.Cond.classLink "MergeWorkbench" (251 : Nat) "java/lang/UnsupportedOperationException") ∈ lw_all := lw_g (lw_at lw_m13 122 rfl) rfl
theorem q3086 : (Jvm.Cond.methodLink "MergeWorkbench" (253 : Nat) ({ cls := "java/lang/UnsupportedOperationException", name := "<init>", desc := "()V" } : Jvm.MethodName)) ∈ lw_all := lw_g (lw_at lw_m13 123 rfl) rfl
theorem q3091 : (Jvm.Cond.instanceMethod ({ cls := "MergeWorkbench", name := "makePatch", desc := "(I)I" } : Jvm.MethodName)) ∈ lw_all := lw_g (lw_at lw_m13 128 rfl) rfl
theorem q3092 : (Jvm.Cond.selects "MergeWorkbench" ({ cls := "MergeWorkbench", name := "makePatch", desc := "(I)I" } : Jvm.MethodName) ({ cls := "MergeWorkbench", name := "makePatch", desc := "(I)I" } : Jvm.MethodName)) ∈ lw_all := lw_g (lw_at lw_m13 129 rfl) rfl
theorem q3093 : (Jvm.Cond.code ({ cls := "MergeWorkbench", name := "makePatch", desc := "(I)I" } : Jvm.MethodName) prog_1_method_40_code (2 : Nat) (Option.some Jvm.ClassFile.FieldType.int)) ∈ lw_all := lw_g (lw_at lw_m13 130 rfl) rfl
theorem q3094 : (Jvm.Cond.classLink "MergeWorkbench" (254 : Nat) "MergeWorkbench$Patch") ∈ lw_all := lw_g (lw_at lw_m13 131 rfl) rfl
theorem q3096 : (Jvm.Cond.methodLink "MergeWorkbench" (256 : Nat) ({ cls := "MergeWorkbench$Patch", name := "<init>", desc := "(LMergeWorkbench$Comparison;I)V" } : Jvm.MethodName)) ∈ lw_all := lw_g (lw_at lw_m13 133 rfl) rfl
theorem q3138 : (Jvm.Cond.fieldLinkNest "MergeWorkbench" (263 : Nat) "MergeWorkbench$Patch" "hunks" "Ljava/util/List;" "MergeWorkbench") ∈ lw_tbl := lw_at lw_m13 175 rfl
theorem q3139 : (Jvm.Cond.fieldLinkNest "MergeWorkbench" (282 : Nat) "MergeWorkbench$Patch" "outcomes" "Ljava/util/List;" "MergeWorkbench") ∈ lw_tbl := lw_at lw_m13 176 rfl
theorem q3149 : (Jvm.Cond.instanceMethod ({ cls := "MergeWorkbench", name := "hunk", desc := "(II)I" } : Jvm.MethodName)) ∈ lw_all := lw_g (lw_at lw_m13 186 rfl) rfl
theorem q3150 : (Jvm.Cond.selects "MergeWorkbench" ({ cls := "MergeWorkbench", name := "hunk", desc := "(II)I" } : Jvm.MethodName) ({ cls := "MergeWorkbench", name := "hunk", desc := "(II)I" } : Jvm.MethodName)) ∈ lw_all := lw_g (lw_at lw_m13 187 rfl) rfl
theorem q3151 : (Jvm.Cond.code ({ cls := "MergeWorkbench", name := "hunk", desc := "(II)I" } : Jvm.MethodName) prog_1_method_42_code (3 : Nat) (Option.some Jvm.ClassFile.FieldType.int)) ∈ lw_all := lw_g (lw_at lw_m13 188 rfl) rfl
theorem q3152 : (Jvm.Cond.methodLink "MergeWorkbench" (266 : Nat) ({ cls := "MergeWorkbench", name := "patch", desc := "()LMergeWorkbench$Patch;" } : Jvm.MethodName)) ∈ lw_all := lw_g (lw_at lw_m13 189 rfl) rfl
theorem q3153 : (Jvm.Cond.privateMethod ({ cls := "MergeWorkbench", name := "patch", desc := "()LMergeWorkbench$Patch;" } : Jvm.MethodName)) ∈ lw_tbl := lw_at lw_m13 190 rfl
theorem q3154 : (Jvm.Cond.instanceMethod ({ cls := "MergeWorkbench", name := "patch", desc := "()LMergeWorkbench$Patch;" } : Jvm.MethodName)) ∈ lw_all := lw_g (lw_at lw_m13 191 rfl) rfl
theorem q3155 : (Jvm.Cond.code ({ cls := "MergeWorkbench", name := "patch", desc := "()LMergeWorkbench$Patch;" } : Jvm.MethodName) prog_1_method_41_code (1 : Nat) (Option.some (Jvm.ClassFile.FieldType.object "MergeWorkbench$Patch"))) ∈ lw_all := lw_g (lw_at lw_m13 192 rfl) rfl
theorem q3156 : (Jvm.Cond.classLink "MergeWorkbench" (269 : Nat) "MergeWorkbench$Hunk") ∈ lw_all := lw_g (lw_at lw_m13 193 rfl) rfl
theorem q3157 : (Jvm.Cond.methodLink "MergeWorkbench" (271 : Nat) ({ cls := "MergeWorkbench$Hunk", name := "property", desc := "(I)I" } : Jvm.MethodName)) ∈ lw_all := lw_g (lw_at lw_m13 194 rfl) rfl
theorem q3166 : (Jvm.Cond.instanceMethod ({ cls := "MergeWorkbench", name := "apply", desc := "(IIZ)I" } : Jvm.MethodName)) ∈ lw_all := lw_g (lw_at lw_m13 203 rfl) rfl
theorem q3167 : (Jvm.Cond.selects "MergeWorkbench" ({ cls := "MergeWorkbench", name := "apply", desc := "(IIZ)I" } : Jvm.MethodName) ({ cls := "MergeWorkbench", name := "apply", desc := "(IIZ)I" } : Jvm.MethodName)) ∈ lw_all := lw_g (lw_at lw_m13 204 rfl) rfl
theorem q3168 : (Jvm.Cond.code ({ cls := "MergeWorkbench", name := "apply", desc := "(IIZ)I" } : Jvm.MethodName) prog_1_method_43_code (6 : Nat) (Option.some Jvm.ClassFile.FieldType.int)) ∈ lw_all := lw_g (lw_at lw_m13 205 rfl) rfl
theorem q3169 : (Jvm.Cond.classLink "MergeWorkbench" (272 : Nat) "MergeWorkbench$Application") ∈ lw_all := lw_g (lw_at lw_m13 206 rfl) rfl
theorem q3171 : (Jvm.Cond.methodLink "MergeWorkbench" (274 : Nat) ({ cls := "MergeWorkbench$Application", name := "<init>", desc := "(LMergeWorkbench$Patch;Ljava/util/List;IZ)V" } : Jvm.MethodName)) ∈ lw_all := lw_g (lw_at lw_m13 208 rfl) rfl
theorem q3228 : (Jvm.Cond.fieldLinkNest "MergeWorkbench" (288 : Nat) "MergeWorkbench$Outcome" "position" "I" "MergeWorkbench") ∈ lw_tbl := lw_at lw_m14 25 rfl
theorem q3231 : (Jvm.Cond.fieldLinkNest "MergeWorkbench" (289 : Nat) "MergeWorkbench$Outcome" "fuzz" "I" "MergeWorkbench") ∈ lw_tbl := lw_at lw_m14 28 rfl
theorem q3244 : (Jvm.Cond.fieldLinkNest "MergeWorkbench" (277 : Nat) "MergeWorkbench$Application" "result" "Ljava/util/List;" "MergeWorkbench") ∈ lw_tbl := lw_at lw_m14 41 rfl
theorem q3246 : (Jvm.Cond.fieldLinkNest "MergeWorkbench" (279 : Nat) "MergeWorkbench$Application" "outcomes" "Ljava/util/List;" "MergeWorkbench") ∈ lw_tbl := lw_at lw_m14 43 rfl
theorem q3250 : (Jvm.Cond.fieldLinkNest "MergeWorkbench" (283 : Nat) "MergeWorkbench$Application" "applied" "I" "MergeWorkbench") ∈ lw_tbl := lw_at lw_m14 47 rfl
theorem q3270 : (Jvm.Cond.instanceMethod ({ cls := "MergeWorkbench", name := "outcome", desc := "(II)I" } : Jvm.MethodName)) ∈ lw_all := lw_g (lw_at lw_m14 67 rfl) rfl
theorem q3271 : (Jvm.Cond.selects "MergeWorkbench" ({ cls := "MergeWorkbench", name := "outcome", desc := "(II)I" } : Jvm.MethodName) ({ cls := "MergeWorkbench", name := "outcome", desc := "(II)I" } : Jvm.MethodName)) ∈ lw_all := lw_g (lw_at lw_m14 68 rfl) rfl
theorem q3272 : (Jvm.Cond.code ({ cls := "MergeWorkbench", name := "outcome", desc := "(II)I" } : Jvm.MethodName) prog_1_method_44_code (4 : Nat) (Option.some Jvm.ClassFile.FieldType.int)) ∈ lw_all := lw_g (lw_at lw_m14 69 rfl) rfl
theorem q3273 : (Jvm.Cond.classLink "MergeWorkbench" (286 : Nat) "MergeWorkbench$Outcome") ∈ lw_all := lw_g (lw_at lw_m14 70 rfl) rfl
theorem q3278 : (Jvm.Cond.instanceMethod ({ cls := "MergeWorkbench", name := "undo", desc := "()I" } : Jvm.MethodName)) ∈ lw_all := lw_g (lw_at lw_m14 75 rfl) rfl
theorem q3279 : (Jvm.Cond.selects "MergeWorkbench" ({ cls := "MergeWorkbench", name := "undo", desc := "()I" } : Jvm.MethodName) ({ cls := "MergeWorkbench", name := "undo", desc := "()I" } : Jvm.MethodName)) ∈ lw_all := lw_g (lw_at lw_m14 76 rfl) rfl
theorem q3280 : (Jvm.Cond.code ({ cls := "MergeWorkbench", name := "undo", desc := "()I" } : Jvm.MethodName) prog_1_method_45_code (2 : Nat) (Option.some Jvm.ClassFile.FieldType.int)) ∈ lw_all := lw_g (lw_at lw_m14 77 rfl) rfl
theorem q3281 : (Jvm.Cond.methodLink "MergeWorkbench" (292 : Nat) ({ cls := "MergeWorkbench$History", name := "remove", desc := "()LMergeWorkbench$Change;" } : Jvm.MethodName)) ∈ lw_all := lw_g (lw_at lw_m14 78 rfl) rfl
theorem q3305 : (Jvm.Cond.instanceMethod ({ cls := "MergeWorkbench", name := "restore", desc := "()I" } : Jvm.MethodName)) ∈ lw_all := lw_g (lw_at lw_m14 102 rfl) rfl
theorem q3306 : (Jvm.Cond.selects "MergeWorkbench" ({ cls := "MergeWorkbench", name := "restore", desc := "()I" } : Jvm.MethodName) ({ cls := "MergeWorkbench", name := "restore", desc := "()I" } : Jvm.MethodName)) ∈ lw_all := lw_g (lw_at lw_m14 103 rfl) rfl
theorem q3307 : (Jvm.Cond.code ({ cls := "MergeWorkbench", name := "restore", desc := "()I" } : Jvm.MethodName) prog_1_method_48_code (1 : Nat) (Option.some Jvm.ClassFile.FieldType.int)) ∈ lw_all := lw_g (lw_at lw_m14 104 rfl) rfl
theorem q3308 : (Jvm.Cond.methodLink "MergeWorkbench" (314 : Nat) ({ cls := "java/util/Collections", name := "copy", desc := "(Ljava/util/List;Ljava/util/List;)V" } : Jvm.MethodName)) ∈ lw_all := lw_g (lw_at lw_m14 105 rfl) rfl
theorem q3357 : (Jvm.Cond.interfaceEntry "MergeWorkbench" (323 : Nat)) ∈ lw_tbl := lw_at lw_m14 154 rfl
theorem q3904 : (Jvm.Cond.castable "MergeWorkbench" "java/lang/Object") ∈ lw_tbl := lw_at lw_m16 221 rfl
theorem in_X1 : ∀ w ∈ wsX10, w ∈ lw_all := lw_in wsX10 [704, 706, 708, 710, 712, 714, 716, 718, 720, 722] (by decide +kernel) (by decide +kernel)

/-! MergeWorkbench$History -/
set_option maxRecDepth 100000
def RX2 : String := "MergeWorkbench$History"
def TX2 : u_T := fun k => match k with
  | _ => ("MergeWorkbench$History", "changes", "Ljava/util/Deque;", true)
def tyX2 : Nat → FieldType := fun k => match k with
  | _ => .object "java/util/Deque"
abbrev wsX20 : List Cond := u_ws RX2 TX2 1
theorem nmX2 : ∀ a, a < 1 → ∀ b, b < 1 → a ≠ b → (TX2 a).2.1 ≠ (TX2 b).2.1 := by decide +kernel
theorem tyX2_ok : ∀ k, k < 1 → parseFieldDescriptor (TX2 k).2.2.1 = some (tyX2 k) := by decide +kernel
abbrev cX2_init : ByteArray := prog_10_method_1_code
def yX2_init : MethodName := ⟨RX2, "<init>", "()V"⟩
def dkwX2_init_0 : List UInt8 := [42, 183, 0, 3, 42, 187, 0, 9, 89, 183, 0, 11, 181, 0, 12, 177]
abbrev dktX2_init_0 : List UInt8 := dkwX2_init_0 ++ []
theorem dksX2_init_0 : cX2_init.data.toList.drop 0 = dktX2_init_0 := by decide +kernel
theorem dX2_init_0 : decode cX2_init 0 = .ok (.aload_n 0, 1) := dk_42 (dk_at dksX2_init_0 0 rfl rfl)
theorem dX2_init_1 : decode cX2_init 1 = .ok (.invokespecial 3, 3) := dk_183 0 3 (dk_at dksX2_init_0 1 rfl rfl)
theorem dX2_init_4 : decode cX2_init 4 = .ok (.aload_n 0, 1) := dk_42 (dk_at dksX2_init_0 4 rfl rfl)
theorem dX2_init_5 : decode cX2_init 5 = .ok (.new 9, 3) := dk_187 0 9 (dk_at dksX2_init_0 5 rfl rfl)
theorem dX2_init_8 : decode cX2_init 8 = .ok (.dup, 1) := dk_89 (dk_at dksX2_init_0 8 rfl rfl)
theorem dX2_init_9 : decode cX2_init 9 = .ok (.invokespecial 11, 3) := dk_183 0 11 (dk_at dksX2_init_0 9 rfl rfl)
theorem dX2_init_12 : decode cX2_init 12 = .ok (.putfield 12, 3) := dk_181 0 12 (dk_at dksX2_init_0 12 rfl rfl)
theorem dX2_init_15 : decode cX2_init 15 = .ok (.return_, 1) := dk_177 (dk_at dksX2_init_0 15 rfl rfl)
abbrev cX2_add : ByteArray := prog_10_method_2_code
def yX2_add : MethodName := ⟨RX2, "add", "(ILjava/lang/Object;)V"⟩
def dkwX2_add_1 : List UInt8 := [185, 0, 29, 1, 0, 16, 8, 164, 0, 13, 42, 180, 0, 12, 185, 0, 33, 1, 0, 87, 177]
abbrev dktX2_add_1 : List UInt8 := dkwX2_add_1 ++ []
def dkwX2_add_0 : List UInt8 := [42, 180, 0, 12, 187, 0, 18, 89, 27, 44, 183, 0, 20, 185, 0, 23, 2, 0, 42, 180, 0, 12]
abbrev dktX2_add_0 : List UInt8 := dkwX2_add_0 ++ dktX2_add_1
theorem dksX2_add_0 : cX2_add.data.toList.drop 0 = dktX2_add_0 := by decide +kernel
theorem dksX2_add_1 : cX2_add.data.toList.drop 22 = dktX2_add_1 := dk_seg dksX2_add_0 22 rfl rfl
theorem dX2_add_0 : decode cX2_add 0 = .ok (.aload_n 0, 1) := dk_42 (dk_at dksX2_add_0 0 rfl rfl)
theorem dX2_add_1 : decode cX2_add 1 = .ok (.getfield 12, 3) := dk_180 0 12 (dk_at dksX2_add_0 1 rfl rfl)
theorem dX2_add_4 : decode cX2_add 4 = .ok (.new 18, 3) := dk_187 0 18 (dk_at dksX2_add_0 4 rfl rfl)
theorem dX2_add_7 : decode cX2_add 7 = .ok (.dup, 1) := dk_89 (dk_at dksX2_add_0 7 rfl rfl)
theorem dX2_add_8 : decode cX2_add 8 = .ok (.iload_n 1, 1) := dk_27 (dk_at dksX2_add_0 8 rfl rfl)
theorem dX2_add_9 : decode cX2_add 9 = .ok (.aload_n 2, 1) := dk_44 (dk_at dksX2_add_0 9 rfl rfl)
theorem dX2_add_10 : decode cX2_add 10 = .ok (.invokespecial 20, 3) := dk_183 0 20 (dk_at dksX2_add_0 10 rfl rfl)
theorem dX2_add_13 : decode cX2_add 13 = .ok (.invokeinterface 23 2, 5) := by decide +kernel
theorem dX2_add_18 : decode cX2_add 18 = .ok (.aload_n 0, 1) := dk_42 (dk_at dksX2_add_0 18 rfl rfl)
theorem dX2_add_19 : decode cX2_add 19 = .ok (.getfield 12, 3) := dk_180 0 12 (dk_at dksX2_add_0 19 rfl rfl)
theorem dX2_add_22 : decode cX2_add 22 = .ok (.invokeinterface 29 1, 5) := by decide +kernel
theorem dX2_add_27 : decode cX2_add 27 = .ok (.bipush 8, 2) := dk_16 8 (dk_at dksX2_add_1 5 rfl rfl)
theorem dX2_add_29 : decode cX2_add 29 = .ok (.if_icmp .le 13, 3) := dk_164 0 13 (dk_at dksX2_add_1 7 rfl rfl)
theorem dX2_add_32 : decode cX2_add 32 = .ok (.aload_n 0, 1) := dk_42 (dk_at dksX2_add_1 10 rfl rfl)
theorem dX2_add_33 : decode cX2_add 33 = .ok (.getfield 12, 3) := dk_180 0 12 (dk_at dksX2_add_1 11 rfl rfl)
theorem dX2_add_36 : decode cX2_add 36 = .ok (.invokeinterface 33 1, 5) := by decide +kernel
theorem dX2_add_41 : decode cX2_add 41 = .ok (.pop, 1) := dk_87 (dk_at dksX2_add_1 19 rfl rfl)
theorem dX2_add_42 : decode cX2_add 42 = .ok (.return_, 1) := dk_177 (dk_at dksX2_add_1 20 rfl rfl)
abbrev cX2_remove : ByteArray := prog_10_method_3_code
def yX2_remove : MethodName := ⟨RX2, "remove", "()LMergeWorkbench$Change;"⟩
def dkwX2_remove_1 : List UInt8 := [185, 0, 45, 1, 0, 192, 0, 18, 176]
abbrev dktX2_remove_1 : List UInt8 := dkwX2_remove_1 ++ []
def dkwX2_remove_0 : List UInt8 := [42, 180, 0, 12, 185, 0, 37, 1, 0, 154, 0, 7, 4, 167, 0, 4, 3, 184, 0, 41, 42, 180, 0, 12]
abbrev dktX2_remove_0 : List UInt8 := dkwX2_remove_0 ++ dktX2_remove_1
theorem dksX2_remove_0 : cX2_remove.data.toList.drop 0 = dktX2_remove_0 := by decide +kernel
theorem dksX2_remove_1 : cX2_remove.data.toList.drop 24 = dktX2_remove_1 := dk_seg dksX2_remove_0 24 rfl rfl
theorem dX2_remove_0 : decode cX2_remove 0 = .ok (.aload_n 0, 1) := dk_42 (dk_at dksX2_remove_0 0 rfl rfl)
theorem dX2_remove_1 : decode cX2_remove 1 = .ok (.getfield 12, 3) := dk_180 0 12 (dk_at dksX2_remove_0 1 rfl rfl)
theorem dX2_remove_4 : decode cX2_remove 4 = .ok (.invokeinterface 37 1, 5) := by decide +kernel
theorem dX2_remove_9 : decode cX2_remove 9 = .ok (.ifCond .ne 7, 3) := dk_154 0 7 (dk_at dksX2_remove_0 9 rfl rfl)
theorem dX2_remove_12 : decode cX2_remove 12 = .ok (.iconst 1, 1) := dk_4 (dk_at dksX2_remove_0 12 rfl rfl)
theorem dX2_remove_13 : decode cX2_remove 13 = .ok (.goto 4, 3) := dk_167 0 4 (dk_at dksX2_remove_0 13 rfl rfl)
theorem dX2_remove_16 : decode cX2_remove 16 = .ok (.iconst 0, 1) := dk_3 (dk_at dksX2_remove_0 16 rfl rfl)
theorem dX2_remove_17 : decode cX2_remove 17 = .ok (.invokestatic 41, 3) := dk_184 0 41 (dk_at dksX2_remove_0 17 rfl rfl)
theorem dX2_remove_20 : decode cX2_remove 20 = .ok (.aload_n 0, 1) := dk_42 (dk_at dksX2_remove_0 20 rfl rfl)
theorem dX2_remove_21 : decode cX2_remove 21 = .ok (.getfield 12, 3) := dk_180 0 12 (dk_at dksX2_remove_0 21 rfl rfl)
theorem dX2_remove_24 : decode cX2_remove 24 = .ok (.invokeinterface 45 1, 5) := by decide +kernel
theorem dX2_remove_29 : decode cX2_remove 29 = .ok (.checkcast 18, 3) := dk_192 0 18 (dk_at dksX2_remove_1 5 rfl rfl)
theorem dX2_remove_32 : decode cX2_remove 32 = .ok (.areturn, 1) := dk_176 (dk_at dksX2_remove_1 8 rfl rfl)
theorem q88 : (Jvm.Cond.initialized "MergeWorkbench$History") ∈ lw_all := lw_g (lw_at lw_m1 5 rfl) rfl
theorem q192 : (Jvm.Cond.instantiable "MergeWorkbench$History" (1 : Nat)) ∈ lw_all := lw_g (lw_at lw_m1 109 rfl) rfl
theorem q194 : (Jvm.Cond.instanceMethod ({ cls := "MergeWorkbench$History", name := "<init>", desc := "()V" } : Jvm.MethodName)) ∈ lw_all := lw_g (lw_at lw_m1 111 rfl) rfl
theorem q195 : (Jvm.Cond.code ({ cls := "MergeWorkbench$History", name := "<init>", desc := "()V" } : Jvm.MethodName) prog_10_method_1_code (1 : Nat) (Option.none : Option Jvm.ClassFile.FieldType)) ∈ lw_all := lw_g (lw_at lw_m1 112 rfl) rfl
theorem q196 : (Jvm.Cond.methodLink "MergeWorkbench$History" (3 : Nat) ({ cls := "java/lang/Object", name := "<init>", desc := "()V" } : Jvm.MethodName)) ∈ lw_all := lw_g (lw_at lw_m1 113 rfl) rfl
theorem q197 : (Jvm.Cond.classLink "MergeWorkbench$History" (9 : Nat) "java/util/ArrayDeque") ∈ lw_all := lw_g (lw_at lw_m1 114 rfl) rfl
theorem q199 : (Jvm.Cond.methodLink "MergeWorkbench$History" (11 : Nat) ({ cls := "java/util/ArrayDeque", name := "<init>", desc := "()V" } : Jvm.MethodName)) ∈ lw_all := lw_g (lw_at lw_m1 116 rfl) rfl
theorem q217 : (Jvm.Cond.fieldLink "MergeWorkbench$History" (12 : Nat) "MergeWorkbench$History" "changes" "Ljava/util/Deque;") ∈ lw_all := lw_g (lw_at lw_m1 134 rfl) rfl
theorem q219 : (Jvm.Cond.laysFinal "MergeWorkbench$History" "MergeWorkbench$History" "changes" "Ljava/util/Deque;") ∈ lw_all := lw_g (lw_at lw_m1 136 rfl) rfl
theorem q220 : (Jvm.Cond.soleField "MergeWorkbench$History" "changes") ∈ lw_all := lw_g (lw_at lw_m1 137 rfl) rfl
theorem q221 : (Jvm.Cond.superclass "MergeWorkbench$History" "java/lang/Object") ∈ lw_all := lw_g (lw_at lw_m1 138 rfl) rfl
theorem q302 : (Jvm.Cond.selects "MergeWorkbench$History" ({ cls := "java/lang/Object", name := "getClass", desc := "()Ljava/lang/Class;" } : Jvm.MethodName) ({ cls := "java/lang/Object", name := "getClass", desc := "()Ljava/lang/Class;" } : Jvm.MethodName)) ∈ lw_all := lw_g (lw_at lw_m1 219 rfl) rfl
theorem q1273 : (Jvm.Cond.instanceMethod ({ cls := "MergeWorkbench$History", name := "add", desc := "(ILjava/lang/Object;)V" } : Jvm.MethodName)) ∈ lw_all := lw_g (lw_at lw_m5 230 rfl) rfl
theorem q1274 : (Jvm.Cond.selects "MergeWorkbench$History" ({ cls := "MergeWorkbench$History", name := "add", desc := "(ILjava/lang/Object;)V" } : Jvm.MethodName) ({ cls := "MergeWorkbench$History", name := "add", desc := "(ILjava/lang/Object;)V" } : Jvm.MethodName)) ∈ lw_all := lw_g (lw_at lw_m5 231 rfl) rfl
theorem q1275 : (Jvm.Cond.code ({ cls := "MergeWorkbench$History", name := "add", desc := "(ILjava/lang/Object;)V" } : Jvm.MethodName) prog_10_method_2_code (3 : Nat) (Option.none : Option Jvm.ClassFile.FieldType)) ∈ lw_all := lw_g (lw_at lw_m5 232 rfl) rfl
theorem q1276 : (Jvm.Cond.classLink "MergeWorkbench$History" (18 : Nat) "MergeWorkbench$Change") ∈ lw_all := lw_g (lw_at lw_m5 233 rfl) rfl
theorem q1278 : (Jvm.Cond.methodLink "MergeWorkbench$History" (20 : Nat) ({ cls := "MergeWorkbench$Change", name := "<init>", desc := "(ILjava/lang/Object;)V" } : Jvm.MethodName)) ∈ lw_all := lw_g (lw_at lw_m5 235 rfl) rfl
theorem q1291 : (Jvm.Cond.interfaceEntry "MergeWorkbench$History" (23 : Nat)) ∈ lw_tbl := lw_at lw_m6 8 rfl
theorem q1292 : (Jvm.Cond.methodLink "MergeWorkbench$History" (23 : Nat) ({ cls := "java/util/Deque", name := "addFirst", desc := "(Ljava/lang/Object;)V" } : Jvm.MethodName)) ∈ lw_all := lw_g (lw_at lw_m6 9 rfl) rfl
theorem q1321 : (Jvm.Cond.interfaceEntry "MergeWorkbench$History" (29 : Nat)) ∈ lw_tbl := lw_at lw_m6 38 rfl
theorem q1322 : (Jvm.Cond.methodLink "MergeWorkbench$History" (29 : Nat) ({ cls := "java/util/Deque", name := "size", desc := "()I" } : Jvm.MethodName)) ∈ lw_all := lw_g (lw_at lw_m6 39 rfl) rfl
theorem q1328 : (Jvm.Cond.interfaceEntry "MergeWorkbench$History" (33 : Nat)) ∈ lw_tbl := lw_at lw_m6 45 rfl
theorem q1329 : (Jvm.Cond.methodLink "MergeWorkbench$History" (33 : Nat) ({ cls := "java/util/Deque", name := "removeLast", desc := "()Ljava/lang/Object;" } : Jvm.MethodName)) ∈ lw_all := lw_g (lw_at lw_m6 46 rfl) rfl
theorem q1470 : (Jvm.Cond.selects "MergeWorkbench$History" ({ cls := "java/lang/Object", name := "equals", desc := "(Ljava/lang/Object;)Z" } : Jvm.MethodName) ({ cls := "java/lang/Object", name := "equals", desc := "(Ljava/lang/Object;)Z" } : Jvm.MethodName)) ∈ lw_all := lw_g (lw_at lw_m6 187 rfl) rfl
theorem q3282 : (Jvm.Cond.instanceMethod ({ cls := "MergeWorkbench$History", name := "remove", desc := "()LMergeWorkbench$Change;" } : Jvm.MethodName)) ∈ lw_all := lw_g (lw_at lw_m14 79 rfl) rfl
theorem q3283 : (Jvm.Cond.selects "MergeWorkbench$History" ({ cls := "MergeWorkbench$History", name := "remove", desc := "()LMergeWorkbench$Change;" } : Jvm.MethodName) ({ cls := "MergeWorkbench$History", name := "remove", desc := "()LMergeWorkbench$Change;" } : Jvm.MethodName)) ∈ lw_all := lw_g (lw_at lw_m14 80 rfl) rfl
theorem q3284 : (Jvm.Cond.code ({ cls := "MergeWorkbench$History", name := "remove", desc := "()LMergeWorkbench$Change;" } : Jvm.MethodName) prog_10_method_3_code (1 : Nat) (Option.some (Jvm.ClassFile.FieldType.object "MergeWorkbench$Change"))) ∈ lw_all := lw_g (lw_at lw_m14 81 rfl) rfl
theorem q3285 : (Jvm.Cond.interfaceEntry "MergeWorkbench$History" (37 : Nat)) ∈ lw_tbl := lw_at lw_m14 82 rfl
theorem q3291 : (Jvm.Cond.methodLinkNest "MergeWorkbench$History" (41 : Nat) ({ cls := "MergeWorkbench", name := "requireState", desc := "(Z)V" } : Jvm.MethodName) "MergeWorkbench") ∈ lw_tbl := lw_at lw_m14 88 rfl
theorem q3292 : (Jvm.Cond.interfaceEntry "MergeWorkbench$History" (45 : Nat)) ∈ lw_tbl := lw_at lw_m14 89 rfl
theorem q3293 : (Jvm.Cond.methodLink "MergeWorkbench$History" (45 : Nat) ({ cls := "java/util/Deque", name := "removeFirst", desc := "()Ljava/lang/Object;" } : Jvm.MethodName)) ∈ lw_all := lw_g (lw_at lw_m14 90 rfl) rfl
theorem q3906 : (Jvm.Cond.castable "MergeWorkbench$History" "java/lang/Object") ∈ lw_tbl := lw_at lw_m16 223 rfl
theorem in_X2 : ∀ w ∈ wsX20, w ∈ lw_all := lw_in wsX20 [219] (by decide +kernel) (by decide +kernel)

/-! MergeWorkbench$Change -/
set_option maxRecDepth 100000
def RX4 : String := "MergeWorkbench$Change"
def TX4 : u_T := fun k => match k with
  | 0 => ("MergeWorkbench$Change", "place", "I", true)
  | _ => ("MergeWorkbench$Change", "before", "Ljava/lang/Object;", true)
def tyX4 : Nat → FieldType := fun k => match k with
  | 0 => .int
  | _ => .object "java/lang/Object"
abbrev wsX40 : List Cond := u_ws RX4 TX4 2
theorem nmX4 : ∀ a, a < 2 → ∀ b, b < 2 → a ≠ b → (TX4 a).2.1 ≠ (TX4 b).2.1 := by decide +kernel
theorem tyX4_ok : ∀ k, k < 2 → parseFieldDescriptor (TX4 k).2.2.1 = some (tyX4 k) := by decide +kernel
abbrev cX4_init : ByteArray := prog_4_method_1_code
def yX4_init : MethodName := ⟨RX4, "<init>", "(ILjava/lang/Object;)V"⟩
def dkwX4_init_0 : List UInt8 := [42, 183, 0, 1, 42, 27, 181, 0, 7, 42, 44, 181, 0, 13, 177]
abbrev dktX4_init_0 : List UInt8 := dkwX4_init_0 ++ []
theorem dksX4_init_0 : cX4_init.data.toList.drop 0 = dktX4_init_0 := by decide +kernel
theorem dX4_init_0 : decode cX4_init 0 = .ok (.aload_n 0, 1) := dk_42 (dk_at dksX4_init_0 0 rfl rfl)
theorem dX4_init_1 : decode cX4_init 1 = .ok (.invokespecial 1, 3) := dk_183 0 1 (dk_at dksX4_init_0 1 rfl rfl)
theorem dX4_init_4 : decode cX4_init 4 = .ok (.aload_n 0, 1) := dk_42 (dk_at dksX4_init_0 4 rfl rfl)
theorem dX4_init_5 : decode cX4_init 5 = .ok (.iload_n 1, 1) := dk_27 (dk_at dksX4_init_0 5 rfl rfl)
theorem dX4_init_6 : decode cX4_init 6 = .ok (.putfield 7, 3) := dk_181 0 7 (dk_at dksX4_init_0 6 rfl rfl)
theorem dX4_init_9 : decode cX4_init 9 = .ok (.aload_n 0, 1) := dk_42 (dk_at dksX4_init_0 9 rfl rfl)
theorem dX4_init_10 : decode cX4_init 10 = .ok (.aload_n 2, 1) := dk_44 (dk_at dksX4_init_0 10 rfl rfl)
theorem dX4_init_11 : decode cX4_init 11 = .ok (.putfield 13, 3) := dk_181 0 13 (dk_at dksX4_init_0 11 rfl rfl)
theorem dX4_init_14 : decode cX4_init 14 = .ok (.return_, 1) := dk_177 (dk_at dksX4_init_0 14 rfl rfl)
theorem q118 : (Jvm.Cond.initialized "MergeWorkbench$Change") ∈ lw_all := lw_g (lw_at lw_m1 35 rfl) rfl
theorem q296 : (Jvm.Cond.selects "MergeWorkbench$Change" ({ cls := "java/lang/Object", name := "getClass", desc := "()Ljava/lang/Class;" } : Jvm.MethodName) ({ cls := "java/lang/Object", name := "getClass", desc := "()Ljava/lang/Class;" } : Jvm.MethodName)) ∈ lw_all := lw_g (lw_at lw_m1 213 rfl) rfl
theorem q1277 : (Jvm.Cond.instantiable "MergeWorkbench$Change" (2 : Nat)) ∈ lw_all := lw_g (lw_at lw_m5 234 rfl) rfl
theorem q1279 : (Jvm.Cond.instanceMethod ({ cls := "MergeWorkbench$Change", name := "<init>", desc := "(ILjava/lang/Object;)V" } : Jvm.MethodName)) ∈ lw_all := lw_g (lw_at lw_m5 236 rfl) rfl
theorem q1280 : (Jvm.Cond.code ({ cls := "MergeWorkbench$Change", name := "<init>", desc := "(ILjava/lang/Object;)V" } : Jvm.MethodName) prog_4_method_1_code (3 : Nat) (Option.none : Option Jvm.ClassFile.FieldType)) ∈ lw_all := lw_g (lw_at lw_m5 237 rfl) rfl
theorem q1281 : (Jvm.Cond.methodLink "MergeWorkbench$Change" (1 : Nat) ({ cls := "java/lang/Object", name := "<init>", desc := "()V" } : Jvm.MethodName)) ∈ lw_all := lw_g (lw_at lw_m5 238 rfl) rfl
theorem q1282 : (Jvm.Cond.fieldLink "MergeWorkbench$Change" (7 : Nat) "MergeWorkbench$Change" "place" "I") ∈ lw_all := lw_g (lw_at lw_m5 239 rfl) rfl
theorem q1284 : (Jvm.Cond.fieldLink "MergeWorkbench$Change" (13 : Nat) "MergeWorkbench$Change" "before" "Ljava/lang/Object;") ∈ lw_all := lw_g (lw_at lw_m6 1 rfl) rfl
theorem q1286 : (Jvm.Cond.laysFinal "MergeWorkbench$Change" "MergeWorkbench$Change" "place" "I") ∈ lw_all := lw_g (lw_at lw_m6 3 rfl) rfl
theorem q1287 : (Jvm.Cond.soleField "MergeWorkbench$Change" "place") ∈ lw_all := lw_g (lw_at lw_m6 4 rfl) rfl
theorem q1288 : (Jvm.Cond.laysFinal "MergeWorkbench$Change" "MergeWorkbench$Change" "before" "Ljava/lang/Object;") ∈ lw_all := lw_g (lw_at lw_m6 5 rfl) rfl
theorem q1289 : (Jvm.Cond.soleField "MergeWorkbench$Change" "before") ∈ lw_all := lw_g (lw_at lw_m6 6 rfl) rfl
theorem q1290 : (Jvm.Cond.superclass "MergeWorkbench$Change" "java/lang/Object") ∈ lw_all := lw_g (lw_at lw_m6 7 rfl) rfl
theorem q1464 : (Jvm.Cond.selects "MergeWorkbench$Change" ({ cls := "java/lang/Object", name := "equals", desc := "(Ljava/lang/Object;)Z" } : Jvm.MethodName) ({ cls := "java/lang/Object", name := "equals", desc := "(Ljava/lang/Object;)Z" } : Jvm.MethodName)) ∈ lw_all := lw_g (lw_at lw_m6 181 rfl) rfl
theorem q3914 : (Jvm.Cond.castable "MergeWorkbench$Change" "java/lang/Object") ∈ lw_tbl := lw_at lw_m16 231 rfl
theorem in_X4 : ∀ w ∈ wsX40, w ∈ lw_all := lw_in wsX40 [1286, 1288] (by decide +kernel) (by decide +kernel)

/-! MergeWorkbench$Aligner -/
set_option maxRecDepth 100000
def RX5 : String := "MergeWorkbench$Aligner"
def TX5 : u_T := fun k => match k with
  | 0 => ("MergeWorkbench$Aligner", "a", "Ljava/util/List;", true)
  | 1 => ("MergeWorkbench$Aligner", "b", "Ljava/util/List;", true)
  | 2 => ("MergeWorkbench$Aligner", "matches", "Ljava/util/List;", true)
  | _ => ("MergeWorkbench$Aligner", "anchors", "I", false)
def tyX5 : Nat → FieldType := fun k => match k with
  | 0 => .object "java/util/List"
  | 1 => .object "java/util/List"
  | 2 => .object "java/util/List"
  | _ => .int
abbrev wsX50 : List Cond := u_ws RX5 TX5 4
theorem nmX5 : ∀ a, a < 4 → ∀ b, b < 4 → a ≠ b → (TX5 a).2.1 ≠ (TX5 b).2.1 := by decide +kernel
theorem tyX5_ok : ∀ k, k < 4 → parseFieldDescriptor (TX5 k).2.2.1 = some (tyX5 k) := by decide +kernel
abbrev cX5_init : ByteArray := prog_2_method_1_code
def yX5_init : MethodName := ⟨RX5, "<init>", "(Ljava/util/List;Ljava/util/List;)V"⟩
def dkwX5_init_1 : List UInt8 := [181, 0, 19, 177]
abbrev dktX5_init_1 : List UInt8 := dkwX5_init_1 ++ []
def dkwX5_init_0 : List UInt8 := [42, 183, 0, 1, 42, 187, 0, 7, 89, 183, 0, 9, 181, 0, 10, 42, 43, 181, 0, 16, 42, 44]
abbrev dktX5_init_0 : List UInt8 := dkwX5_init_0 ++ dktX5_init_1
theorem dksX5_init_0 : cX5_init.data.toList.drop 0 = dktX5_init_0 := by decide +kernel
theorem dksX5_init_1 : cX5_init.data.toList.drop 22 = dktX5_init_1 := dk_seg dksX5_init_0 22 rfl rfl
theorem dX5_init_0 : decode cX5_init 0 = .ok (.aload_n 0, 1) := dk_42 (dk_at dksX5_init_0 0 rfl rfl)
theorem dX5_init_1 : decode cX5_init 1 = .ok (.invokespecial 1, 3) := dk_183 0 1 (dk_at dksX5_init_0 1 rfl rfl)
theorem dX5_init_4 : decode cX5_init 4 = .ok (.aload_n 0, 1) := dk_42 (dk_at dksX5_init_0 4 rfl rfl)
theorem dX5_init_5 : decode cX5_init 5 = .ok (.new 7, 3) := dk_187 0 7 (dk_at dksX5_init_0 5 rfl rfl)
theorem dX5_init_8 : decode cX5_init 8 = .ok (.dup, 1) := dk_89 (dk_at dksX5_init_0 8 rfl rfl)
theorem dX5_init_9 : decode cX5_init 9 = .ok (.invokespecial 9, 3) := dk_183 0 9 (dk_at dksX5_init_0 9 rfl rfl)
theorem dX5_init_12 : decode cX5_init 12 = .ok (.putfield 10, 3) := dk_181 0 10 (dk_at dksX5_init_0 12 rfl rfl)
theorem dX5_init_15 : decode cX5_init 15 = .ok (.aload_n 0, 1) := dk_42 (dk_at dksX5_init_0 15 rfl rfl)
theorem dX5_init_16 : decode cX5_init 16 = .ok (.aload_n 1, 1) := dk_43 (dk_at dksX5_init_0 16 rfl rfl)
theorem dX5_init_17 : decode cX5_init 17 = .ok (.putfield 16, 3) := dk_181 0 16 (dk_at dksX5_init_0 17 rfl rfl)
theorem dX5_init_20 : decode cX5_init 20 = .ok (.aload_n 0, 1) := dk_42 (dk_at dksX5_init_0 20 rfl rfl)
theorem dX5_init_21 : decode cX5_init 21 = .ok (.aload_n 2, 1) := dk_44 (dk_at dksX5_init_0 21 rfl rfl)
theorem dX5_init_22 : decode cX5_init 22 = .ok (.putfield 19, 3) := dk_181 0 19 (dk_at dksX5_init_1 0 rfl rfl)
theorem dX5_init_25 : decode cX5_init 25 = .ok (.return_, 1) := dk_177 (dk_at dksX5_init_1 3 rfl rfl)
abbrev cX5_plain : ByteArray := prog_2_method_2_code
def yX5_plain : MethodName := ⟨RX5, "plain", "()Ljava/util/List;"⟩
def dkwX5_plain_1 : List UInt8 := [42, 180, 0, 10, 176]
abbrev dktX5_plain_1 : List UInt8 := dkwX5_plain_1 ++ []
def dkwX5_plain_0 : List UInt8 := [42, 3, 42, 180, 0, 16, 185, 0, 22, 1, 0, 3, 42, 180, 0, 19, 185, 0, 22, 1, 0, 182, 0, 28]
abbrev dktX5_plain_0 : List UInt8 := dkwX5_plain_0 ++ dktX5_plain_1
theorem dksX5_plain_0 : cX5_plain.data.toList.drop 0 = dktX5_plain_0 := by decide +kernel
theorem dksX5_plain_1 : cX5_plain.data.toList.drop 24 = dktX5_plain_1 := dk_seg dksX5_plain_0 24 rfl rfl
theorem dX5_plain_0 : decode cX5_plain 0 = .ok (.aload_n 0, 1) := dk_42 (dk_at dksX5_plain_0 0 rfl rfl)
theorem dX5_plain_1 : decode cX5_plain 1 = .ok (.iconst 0, 1) := dk_3 (dk_at dksX5_plain_0 1 rfl rfl)
theorem dX5_plain_2 : decode cX5_plain 2 = .ok (.aload_n 0, 1) := dk_42 (dk_at dksX5_plain_0 2 rfl rfl)
theorem dX5_plain_3 : decode cX5_plain 3 = .ok (.getfield 16, 3) := dk_180 0 16 (dk_at dksX5_plain_0 3 rfl rfl)
theorem dX5_plain_6 : decode cX5_plain 6 = .ok (.invokeinterface 22 1, 5) := by decide +kernel
theorem dX5_plain_11 : decode cX5_plain 11 = .ok (.iconst 0, 1) := dk_3 (dk_at dksX5_plain_0 11 rfl rfl)
theorem dX5_plain_12 : decode cX5_plain 12 = .ok (.aload_n 0, 1) := dk_42 (dk_at dksX5_plain_0 12 rfl rfl)
theorem dX5_plain_13 : decode cX5_plain 13 = .ok (.getfield 19, 3) := dk_180 0 19 (dk_at dksX5_plain_0 13 rfl rfl)
theorem dX5_plain_16 : decode cX5_plain 16 = .ok (.invokeinterface 22 1, 5) := by decide +kernel
theorem dX5_plain_21 : decode cX5_plain 21 = .ok (.invokevirtual 28, 3) := dk_182 0 28 (dk_at dksX5_plain_0 21 rfl rfl)
theorem dX5_plain_24 : decode cX5_plain 24 = .ok (.aload_n 0, 1) := dk_42 (dk_at dksX5_plain_1 0 rfl rfl)
theorem dX5_plain_25 : decode cX5_plain 25 = .ok (.getfield 10, 3) := dk_180 0 10 (dk_at dksX5_plain_1 1 rfl rfl)
theorem dX5_plain_28 : decode cX5_plain 28 = .ok (.areturn, 1) := dk_176 (dk_at dksX5_plain_1 4 rfl rfl)
abbrev cX5_align : ByteArray := prog_2_method_5_code
def yX5_align : MethodName := ⟨RX5, "align", "(IIII)V"⟩
def dkwX5_align_5 : List UInt8 := [54, 7, 132, 6, 1, 167, 255, 149, 177]
abbrev dktX5_align_5 : List UInt8 := dkwX5_align_5 ++ []
def dkwX5_align_4 : List UInt8 := [180, 0, 10, 187, 0, 58, 89, 21, 6, 21, 8, 183, 0, 93, 185, 0, 64, 2, 0, 87, 21, 8, 4, 96]
abbrev dktX5_align_4 : List UInt8 := dkwX5_align_4 ++ dktX5_align_5
def dkwX5_align_3 : List UInt8 := [21, 8, 4, 96, 29, 100, 46, 96, 25, 5, 21, 6, 27, 100, 50, 21, 7, 29, 100, 46, 160, 0, 30, 42]
abbrev dktX5_align_3 : List UInt8 := dkwX5_align_3 ++ dktX5_align_4
def dkwX5_align_2 : List UInt8 := [21, 7, 21, 4, 182, 0, 89, 54, 8, 21, 8, 155, 0, 63, 4, 25, 5, 21, 6, 4, 96, 27, 100, 50]
abbrev dktX5_align_2 : List UInt8 := dkwX5_align_2 ++ dktX5_align_3
def dkwX5_align_1 : List UInt8 := [21, 7, 29, 100, 46, 158, 0, 98, 42, 42, 180, 0, 16, 21, 6, 185, 0, 76, 2, 0, 192, 0, 80]
abbrev dktX5_align_1 : List UInt8 := dkwX5_align_1 ++ dktX5_align_2
def dkwX5_align_0 : List UInt8 := [42, 27, 28, 29, 21, 4, 182, 0, 85, 58, 5, 27, 54, 6, 29, 54, 7, 25, 5, 21, 6, 27, 100, 50]
abbrev dktX5_align_0 : List UInt8 := dkwX5_align_0 ++ dktX5_align_1
theorem dksX5_align_0 : cX5_align.data.toList.drop 0 = dktX5_align_0 := by decide +kernel
theorem dksX5_align_1 : cX5_align.data.toList.drop 24 = dktX5_align_1 := dk_seg dksX5_align_0 24 rfl rfl
theorem dksX5_align_2 : cX5_align.data.toList.drop 47 = dktX5_align_2 := dk_seg dksX5_align_1 23 rfl rfl
theorem dksX5_align_3 : cX5_align.data.toList.drop 71 = dktX5_align_3 := dk_seg dksX5_align_2 24 rfl rfl
theorem dksX5_align_4 : cX5_align.data.toList.drop 95 = dktX5_align_4 := dk_seg dksX5_align_3 24 rfl rfl
theorem dksX5_align_5 : cX5_align.data.toList.drop 119 = dktX5_align_5 := dk_seg dksX5_align_4 24 rfl rfl
theorem dX5_align_0 : decode cX5_align 0 = .ok (.aload_n 0, 1) := dk_42 (dk_at dksX5_align_0 0 rfl rfl)
theorem dX5_align_1 : decode cX5_align 1 = .ok (.iload_n 1, 1) := dk_27 (dk_at dksX5_align_0 1 rfl rfl)
theorem dX5_align_2 : decode cX5_align 2 = .ok (.iload_n 2, 1) := dk_28 (dk_at dksX5_align_0 2 rfl rfl)
theorem dX5_align_3 : decode cX5_align 3 = .ok (.iload_n 3, 1) := dk_29 (dk_at dksX5_align_0 3 rfl rfl)
theorem dX5_align_4 : decode cX5_align 4 = .ok (.iload 4, 2) := dk_21 4 (dk_at dksX5_align_0 4 rfl rfl)
theorem dX5_align_6 : decode cX5_align 6 = .ok (.invokevirtual 85, 3) := dk_182 0 85 (dk_at dksX5_align_0 6 rfl rfl)
theorem dX5_align_9 : decode cX5_align 9 = .ok (.astore 5, 2) := dk_58 5 (dk_at dksX5_align_0 9 rfl rfl)
theorem dX5_align_11 : decode cX5_align 11 = .ok (.iload_n 1, 1) := dk_27 (dk_at dksX5_align_0 11 rfl rfl)
theorem dX5_align_12 : decode cX5_align 12 = .ok (.istore 6, 2) := dk_54 6 (dk_at dksX5_align_0 12 rfl rfl)
theorem dX5_align_14 : decode cX5_align 14 = .ok (.iload_n 3, 1) := dk_29 (dk_at dksX5_align_0 14 rfl rfl)
theorem dX5_align_15 : decode cX5_align 15 = .ok (.istore 7, 2) := dk_54 7 (dk_at dksX5_align_0 15 rfl rfl)
theorem dX5_align_17 : decode cX5_align 17 = .ok (.aload 5, 2) := dk_25 5 (dk_at dksX5_align_0 17 rfl rfl)
theorem dX5_align_19 : decode cX5_align 19 = .ok (.iload 6, 2) := dk_21 6 (dk_at dksX5_align_0 19 rfl rfl)
theorem dX5_align_21 : decode cX5_align 21 = .ok (.iload_n 1, 1) := dk_27 (dk_at dksX5_align_0 21 rfl rfl)
theorem dX5_align_22 : decode cX5_align 22 = .ok (.isub, 1) := dk_100 (dk_at dksX5_align_0 22 rfl rfl)
theorem dX5_align_23 : decode cX5_align 23 = .ok (.aaload, 1) := dk_50 (dk_at dksX5_align_0 23 rfl rfl)
theorem dX5_align_24 : decode cX5_align 24 = .ok (.iload 7, 2) := dk_21 7 (dk_at dksX5_align_1 0 rfl rfl)
theorem dX5_align_26 : decode cX5_align 26 = .ok (.iload_n 3, 1) := dk_29 (dk_at dksX5_align_1 2 rfl rfl)
theorem dX5_align_27 : decode cX5_align 27 = .ok (.isub, 1) := dk_100 (dk_at dksX5_align_1 3 rfl rfl)
theorem dX5_align_28 : decode cX5_align 28 = .ok (.iaload, 1) := dk_46 (dk_at dksX5_align_1 4 rfl rfl)
theorem dX5_align_29 : decode cX5_align 29 = .ok (.ifCond .le 98, 3) := dk_158 0 98 (dk_at dksX5_align_1 5 rfl rfl)
theorem dX5_align_32 : decode cX5_align 32 = .ok (.aload_n 0, 1) := dk_42 (dk_at dksX5_align_1 8 rfl rfl)
theorem dX5_align_33 : decode cX5_align 33 = .ok (.aload_n 0, 1) := dk_42 (dk_at dksX5_align_1 9 rfl rfl)
theorem dX5_align_34 : decode cX5_align 34 = .ok (.getfield 16, 3) := dk_180 0 16 (dk_at dksX5_align_1 10 rfl rfl)
theorem dX5_align_37 : decode cX5_align 37 = .ok (.iload 6, 2) := dk_21 6 (dk_at dksX5_align_1 13 rfl rfl)
theorem dX5_align_39 : decode cX5_align 39 = .ok (.invokeinterface 76 2, 5) := by decide +kernel
theorem dX5_align_44 : decode cX5_align 44 = .ok (.checkcast 80, 3) := dk_192 0 80 (dk_at dksX5_align_1 20 rfl rfl)
theorem dX5_align_47 : decode cX5_align 47 = .ok (.iload 7, 2) := dk_21 7 (dk_at dksX5_align_2 0 rfl rfl)
theorem dX5_align_49 : decode cX5_align 49 = .ok (.iload 4, 2) := dk_21 4 (dk_at dksX5_align_2 2 rfl rfl)
theorem dX5_align_51 : decode cX5_align 51 = .ok (.invokevirtual 89, 3) := dk_182 0 89 (dk_at dksX5_align_2 4 rfl rfl)
theorem dX5_align_54 : decode cX5_align 54 = .ok (.istore 8, 2) := dk_54 8 (dk_at dksX5_align_2 7 rfl rfl)
theorem dX5_align_56 : decode cX5_align 56 = .ok (.iload 8, 2) := dk_21 8 (dk_at dksX5_align_2 9 rfl rfl)
theorem dX5_align_58 : decode cX5_align 58 = .ok (.ifCond .lt 63, 3) := dk_155 0 63 (dk_at dksX5_align_2 11 rfl rfl)
theorem dX5_align_61 : decode cX5_align 61 = .ok (.iconst 1, 1) := dk_4 (dk_at dksX5_align_2 14 rfl rfl)
theorem dX5_align_62 : decode cX5_align 62 = .ok (.aload 5, 2) := dk_25 5 (dk_at dksX5_align_2 15 rfl rfl)
theorem dX5_align_64 : decode cX5_align 64 = .ok (.iload 6, 2) := dk_21 6 (dk_at dksX5_align_2 17 rfl rfl)
theorem dX5_align_66 : decode cX5_align 66 = .ok (.iconst 1, 1) := dk_4 (dk_at dksX5_align_2 19 rfl rfl)
theorem dX5_align_67 : decode cX5_align 67 = .ok (.iadd, 1) := dk_96 (dk_at dksX5_align_2 20 rfl rfl)
theorem dX5_align_68 : decode cX5_align 68 = .ok (.iload_n 1, 1) := dk_27 (dk_at dksX5_align_2 21 rfl rfl)
theorem dX5_align_69 : decode cX5_align 69 = .ok (.isub, 1) := dk_100 (dk_at dksX5_align_2 22 rfl rfl)
theorem dX5_align_70 : decode cX5_align 70 = .ok (.aaload, 1) := dk_50 (dk_at dksX5_align_2 23 rfl rfl)
theorem dX5_align_71 : decode cX5_align 71 = .ok (.iload 8, 2) := dk_21 8 (dk_at dksX5_align_3 0 rfl rfl)
theorem dX5_align_73 : decode cX5_align 73 = .ok (.iconst 1, 1) := dk_4 (dk_at dksX5_align_3 2 rfl rfl)
theorem dX5_align_74 : decode cX5_align 74 = .ok (.iadd, 1) := dk_96 (dk_at dksX5_align_3 3 rfl rfl)
theorem dX5_align_75 : decode cX5_align 75 = .ok (.iload_n 3, 1) := dk_29 (dk_at dksX5_align_3 4 rfl rfl)
theorem dX5_align_76 : decode cX5_align 76 = .ok (.isub, 1) := dk_100 (dk_at dksX5_align_3 5 rfl rfl)
theorem dX5_align_77 : decode cX5_align 77 = .ok (.iaload, 1) := dk_46 (dk_at dksX5_align_3 6 rfl rfl)
theorem dX5_align_78 : decode cX5_align 78 = .ok (.iadd, 1) := dk_96 (dk_at dksX5_align_3 7 rfl rfl)
theorem dX5_align_79 : decode cX5_align 79 = .ok (.aload 5, 2) := dk_25 5 (dk_at dksX5_align_3 8 rfl rfl)
theorem dX5_align_81 : decode cX5_align 81 = .ok (.iload 6, 2) := dk_21 6 (dk_at dksX5_align_3 10 rfl rfl)
theorem dX5_align_83 : decode cX5_align 83 = .ok (.iload_n 1, 1) := dk_27 (dk_at dksX5_align_3 12 rfl rfl)
theorem dX5_align_84 : decode cX5_align 84 = .ok (.isub, 1) := dk_100 (dk_at dksX5_align_3 13 rfl rfl)
theorem dX5_align_85 : decode cX5_align 85 = .ok (.aaload, 1) := dk_50 (dk_at dksX5_align_3 14 rfl rfl)
theorem dX5_align_86 : decode cX5_align 86 = .ok (.iload 7, 2) := dk_21 7 (dk_at dksX5_align_3 15 rfl rfl)
theorem dX5_align_88 : decode cX5_align 88 = .ok (.iload_n 3, 1) := dk_29 (dk_at dksX5_align_3 17 rfl rfl)
theorem dX5_align_89 : decode cX5_align 89 = .ok (.isub, 1) := dk_100 (dk_at dksX5_align_3 18 rfl rfl)
theorem dX5_align_90 : decode cX5_align 90 = .ok (.iaload, 1) := dk_46 (dk_at dksX5_align_3 19 rfl rfl)
theorem dX5_align_91 : decode cX5_align 91 = .ok (.if_icmp .ne 30, 3) := dk_160 0 30 (dk_at dksX5_align_3 20 rfl rfl)
theorem dX5_align_94 : decode cX5_align 94 = .ok (.aload_n 0, 1) := dk_42 (dk_at dksX5_align_3 23 rfl rfl)
theorem dX5_align_95 : decode cX5_align 95 = .ok (.getfield 10, 3) := dk_180 0 10 (dk_at dksX5_align_4 0 rfl rfl)
theorem dX5_align_98 : decode cX5_align 98 = .ok (.new 58, 3) := dk_187 0 58 (dk_at dksX5_align_4 3 rfl rfl)
theorem dX5_align_101 : decode cX5_align 101 = .ok (.dup, 1) := dk_89 (dk_at dksX5_align_4 6 rfl rfl)
theorem dX5_align_102 : decode cX5_align 102 = .ok (.iload 6, 2) := dk_21 6 (dk_at dksX5_align_4 7 rfl rfl)
theorem dX5_align_104 : decode cX5_align 104 = .ok (.iload 8, 2) := dk_21 8 (dk_at dksX5_align_4 9 rfl rfl)
theorem dX5_align_106 : decode cX5_align 106 = .ok (.invokespecial 93, 3) := dk_183 0 93 (dk_at dksX5_align_4 11 rfl rfl)
theorem dX5_align_109 : decode cX5_align 109 = .ok (.invokeinterface 64 2, 5) := by decide +kernel
theorem dX5_align_114 : decode cX5_align 114 = .ok (.pop, 1) := dk_87 (dk_at dksX5_align_4 19 rfl rfl)
theorem dX5_align_115 : decode cX5_align 115 = .ok (.iload 8, 2) := dk_21 8 (dk_at dksX5_align_4 20 rfl rfl)
theorem dX5_align_117 : decode cX5_align 117 = .ok (.iconst 1, 1) := dk_4 (dk_at dksX5_align_4 22 rfl rfl)
theorem dX5_align_118 : decode cX5_align 118 = .ok (.iadd, 1) := dk_96 (dk_at dksX5_align_4 23 rfl rfl)
theorem dX5_align_119 : decode cX5_align 119 = .ok (.istore 7, 2) := dk_54 7 (dk_at dksX5_align_5 0 rfl rfl)
theorem dX5_align_121 : decode cX5_align 121 = .ok (.iinc 6 1, 3) := dk_132 6 1 (dk_at dksX5_align_5 2 rfl rfl)
theorem dX5_align_124 : decode cX5_align 124 = .ok (.goto (-107), 3) := dk_167 255 149 (dk_at dksX5_align_5 5 rfl rfl)
theorem dX5_align_127 : decode cX5_align 127 = .ok (.return_, 1) := dk_177 (dk_at dksX5_align_5 8 rfl rfl)
abbrev cX5_lengths : ByteArray := prog_2_method_4_code
def yX5_lengths : MethodName := ⟨RX5, "lengths", "(IIII)[[I"⟩
def dkwX5_lengths_6 : List UInt8 := [100, 21, 8, 21, 9, 184, 0, 70, 79, 132, 7, 255, 167, 255, 138, 132, 6, 255, 167, 255, 120, 25, 5, 176]
abbrev dktX5_lengths_6 : List UInt8 := dkwX5_lengths_6 ++ []
def dkwX5_lengths_5 : List UInt8 := [21, 7, 4, 96, 29, 100, 46, 96, 167, 0, 4, 3, 54, 9, 25, 5, 21, 6, 27, 100, 50, 21, 7, 29]
abbrev dktX5_lengths_5 : List UInt8 := dkwX5_lengths_5 ++ dktX5_lengths_6
def dkwX5_lengths_4 : List UInt8 := [185, 0, 76, 2, 0, 185, 0, 82, 2, 0, 153, 0, 24, 4, 25, 5, 21, 6, 4, 96, 27, 100, 50]
abbrev dktX5_lengths_4 : List UInt8 := dkwX5_lengths_4 ++ dktX5_lengths_5
def dkwX5_lengths_3 : List UInt8 := [54, 8, 42, 180, 0, 16, 21, 6, 185, 0, 76, 2, 0, 192, 0, 80, 42, 180, 0, 19, 21, 7]
abbrev dktX5_lengths_3 : List UInt8 := dkwX5_lengths_3 ++ dktX5_lengths_4
def dkwX5_lengths_2 : List UInt8 := [50, 21, 7, 29, 100, 46, 25, 5, 21, 6, 27, 100, 50, 21, 7, 4, 96, 29, 100, 46, 184, 0, 70]
abbrev dktX5_lengths_2 : List UInt8 := dkwX5_lengths_2 ++ dktX5_lengths_3
def dkwX5_lengths_1 : List UInt8 := [27, 161, 0, 136, 21, 4, 4, 100, 54, 7, 21, 7, 29, 161, 0, 118, 25, 5, 21, 6, 4, 96, 27, 100]
abbrev dktX5_lengths_1 : List UInt8 := dkwX5_lengths_1 ++ dktX5_lengths_2
def dkwX5_lengths_0 : List UInt8 := [28, 27, 100, 4, 96, 21, 4, 29, 100, 4, 96, 197, 0, 68, 2, 58, 5, 28, 4, 100, 54, 6, 21, 6]
abbrev dktX5_lengths_0 : List UInt8 := dkwX5_lengths_0 ++ dktX5_lengths_1
theorem dksX5_lengths_0 : cX5_lengths.data.toList.drop 0 = dktX5_lengths_0 := by decide +kernel
theorem dksX5_lengths_1 : cX5_lengths.data.toList.drop 24 = dktX5_lengths_1 := dk_seg dksX5_lengths_0 24 rfl rfl
theorem dksX5_lengths_2 : cX5_lengths.data.toList.drop 48 = dktX5_lengths_2 := dk_seg dksX5_lengths_1 24 rfl rfl
theorem dksX5_lengths_3 : cX5_lengths.data.toList.drop 71 = dktX5_lengths_3 := dk_seg dksX5_lengths_2 23 rfl rfl
theorem dksX5_lengths_4 : cX5_lengths.data.toList.drop 93 = dktX5_lengths_4 := dk_seg dksX5_lengths_3 22 rfl rfl
theorem dksX5_lengths_5 : cX5_lengths.data.toList.drop 116 = dktX5_lengths_5 := dk_seg dksX5_lengths_4 23 rfl rfl
theorem dksX5_lengths_6 : cX5_lengths.data.toList.drop 140 = dktX5_lengths_6 := dk_seg dksX5_lengths_5 24 rfl rfl
theorem dX5_lengths_0 : decode cX5_lengths 0 = .ok (.iload_n 2, 1) := dk_28 (dk_at dksX5_lengths_0 0 rfl rfl)
theorem dX5_lengths_1 : decode cX5_lengths 1 = .ok (.iload_n 1, 1) := dk_27 (dk_at dksX5_lengths_0 1 rfl rfl)
theorem dX5_lengths_2 : decode cX5_lengths 2 = .ok (.isub, 1) := dk_100 (dk_at dksX5_lengths_0 2 rfl rfl)
theorem dX5_lengths_3 : decode cX5_lengths 3 = .ok (.iconst 1, 1) := dk_4 (dk_at dksX5_lengths_0 3 rfl rfl)
theorem dX5_lengths_4 : decode cX5_lengths 4 = .ok (.iadd, 1) := dk_96 (dk_at dksX5_lengths_0 4 rfl rfl)
theorem dX5_lengths_5 : decode cX5_lengths 5 = .ok (.iload 4, 2) := dk_21 4 (dk_at dksX5_lengths_0 5 rfl rfl)
theorem dX5_lengths_7 : decode cX5_lengths 7 = .ok (.iload_n 3, 1) := dk_29 (dk_at dksX5_lengths_0 7 rfl rfl)
theorem dX5_lengths_8 : decode cX5_lengths 8 = .ok (.isub, 1) := dk_100 (dk_at dksX5_lengths_0 8 rfl rfl)
theorem dX5_lengths_9 : decode cX5_lengths 9 = .ok (.iconst 1, 1) := dk_4 (dk_at dksX5_lengths_0 9 rfl rfl)
theorem dX5_lengths_10 : decode cX5_lengths 10 = .ok (.iadd, 1) := dk_96 (dk_at dksX5_lengths_0 10 rfl rfl)
theorem dX5_lengths_11 : decode cX5_lengths 11 = .ok (.multianewarray 68 2, 4) := by decide +kernel
theorem dX5_lengths_15 : decode cX5_lengths 15 = .ok (.astore 5, 2) := dk_58 5 (dk_at dksX5_lengths_0 15 rfl rfl)
theorem dX5_lengths_17 : decode cX5_lengths 17 = .ok (.iload_n 2, 1) := dk_28 (dk_at dksX5_lengths_0 17 rfl rfl)
theorem dX5_lengths_18 : decode cX5_lengths 18 = .ok (.iconst 1, 1) := dk_4 (dk_at dksX5_lengths_0 18 rfl rfl)
theorem dX5_lengths_19 : decode cX5_lengths 19 = .ok (.isub, 1) := dk_100 (dk_at dksX5_lengths_0 19 rfl rfl)
theorem dX5_lengths_20 : decode cX5_lengths 20 = .ok (.istore 6, 2) := dk_54 6 (dk_at dksX5_lengths_0 20 rfl rfl)
theorem dX5_lengths_22 : decode cX5_lengths 22 = .ok (.iload 6, 2) := dk_21 6 (dk_at dksX5_lengths_0 22 rfl rfl)
theorem dX5_lengths_24 : decode cX5_lengths 24 = .ok (.iload_n 1, 1) := dk_27 (dk_at dksX5_lengths_1 0 rfl rfl)
theorem dX5_lengths_25 : decode cX5_lengths 25 = .ok (.if_icmp .lt 136, 3) := dk_161 0 136 (dk_at dksX5_lengths_1 1 rfl rfl)
theorem dX5_lengths_28 : decode cX5_lengths 28 = .ok (.iload 4, 2) := dk_21 4 (dk_at dksX5_lengths_1 4 rfl rfl)
theorem dX5_lengths_30 : decode cX5_lengths 30 = .ok (.iconst 1, 1) := dk_4 (dk_at dksX5_lengths_1 6 rfl rfl)
theorem dX5_lengths_31 : decode cX5_lengths 31 = .ok (.isub, 1) := dk_100 (dk_at dksX5_lengths_1 7 rfl rfl)
theorem dX5_lengths_32 : decode cX5_lengths 32 = .ok (.istore 7, 2) := dk_54 7 (dk_at dksX5_lengths_1 8 rfl rfl)
theorem dX5_lengths_34 : decode cX5_lengths 34 = .ok (.iload 7, 2) := dk_21 7 (dk_at dksX5_lengths_1 10 rfl rfl)
theorem dX5_lengths_36 : decode cX5_lengths 36 = .ok (.iload_n 3, 1) := dk_29 (dk_at dksX5_lengths_1 12 rfl rfl)
theorem dX5_lengths_37 : decode cX5_lengths 37 = .ok (.if_icmp .lt 118, 3) := dk_161 0 118 (dk_at dksX5_lengths_1 13 rfl rfl)
theorem dX5_lengths_40 : decode cX5_lengths 40 = .ok (.aload 5, 2) := dk_25 5 (dk_at dksX5_lengths_1 16 rfl rfl)
theorem dX5_lengths_42 : decode cX5_lengths 42 = .ok (.iload 6, 2) := dk_21 6 (dk_at dksX5_lengths_1 18 rfl rfl)
theorem dX5_lengths_44 : decode cX5_lengths 44 = .ok (.iconst 1, 1) := dk_4 (dk_at dksX5_lengths_1 20 rfl rfl)
theorem dX5_lengths_45 : decode cX5_lengths 45 = .ok (.iadd, 1) := dk_96 (dk_at dksX5_lengths_1 21 rfl rfl)
theorem dX5_lengths_46 : decode cX5_lengths 46 = .ok (.iload_n 1, 1) := dk_27 (dk_at dksX5_lengths_1 22 rfl rfl)
theorem dX5_lengths_47 : decode cX5_lengths 47 = .ok (.isub, 1) := dk_100 (dk_at dksX5_lengths_1 23 rfl rfl)
theorem dX5_lengths_48 : decode cX5_lengths 48 = .ok (.aaload, 1) := dk_50 (dk_at dksX5_lengths_2 0 rfl rfl)
theorem dX5_lengths_49 : decode cX5_lengths 49 = .ok (.iload 7, 2) := dk_21 7 (dk_at dksX5_lengths_2 1 rfl rfl)
theorem dX5_lengths_51 : decode cX5_lengths 51 = .ok (.iload_n 3, 1) := dk_29 (dk_at dksX5_lengths_2 3 rfl rfl)
theorem dX5_lengths_52 : decode cX5_lengths 52 = .ok (.isub, 1) := dk_100 (dk_at dksX5_lengths_2 4 rfl rfl)
theorem dX5_lengths_53 : decode cX5_lengths 53 = .ok (.iaload, 1) := dk_46 (dk_at dksX5_lengths_2 5 rfl rfl)
theorem dX5_lengths_54 : decode cX5_lengths 54 = .ok (.aload 5, 2) := dk_25 5 (dk_at dksX5_lengths_2 6 rfl rfl)
theorem dX5_lengths_56 : decode cX5_lengths 56 = .ok (.iload 6, 2) := dk_21 6 (dk_at dksX5_lengths_2 8 rfl rfl)
theorem dX5_lengths_58 : decode cX5_lengths 58 = .ok (.iload_n 1, 1) := dk_27 (dk_at dksX5_lengths_2 10 rfl rfl)
theorem dX5_lengths_59 : decode cX5_lengths 59 = .ok (.isub, 1) := dk_100 (dk_at dksX5_lengths_2 11 rfl rfl)
theorem dX5_lengths_60 : decode cX5_lengths 60 = .ok (.aaload, 1) := dk_50 (dk_at dksX5_lengths_2 12 rfl rfl)
theorem dX5_lengths_61 : decode cX5_lengths 61 = .ok (.iload 7, 2) := dk_21 7 (dk_at dksX5_lengths_2 13 rfl rfl)
theorem dX5_lengths_63 : decode cX5_lengths 63 = .ok (.iconst 1, 1) := dk_4 (dk_at dksX5_lengths_2 15 rfl rfl)
theorem dX5_lengths_64 : decode cX5_lengths 64 = .ok (.iadd, 1) := dk_96 (dk_at dksX5_lengths_2 16 rfl rfl)
theorem dX5_lengths_65 : decode cX5_lengths 65 = .ok (.iload_n 3, 1) := dk_29 (dk_at dksX5_lengths_2 17 rfl rfl)
theorem dX5_lengths_66 : decode cX5_lengths 66 = .ok (.isub, 1) := dk_100 (dk_at dksX5_lengths_2 18 rfl rfl)
theorem dX5_lengths_67 : decode cX5_lengths 67 = .ok (.iaload, 1) := dk_46 (dk_at dksX5_lengths_2 19 rfl rfl)
theorem dX5_lengths_68 : decode cX5_lengths 68 = .ok (.invokestatic 70, 3) := dk_184 0 70 (dk_at dksX5_lengths_2 20 rfl rfl)
theorem dX5_lengths_71 : decode cX5_lengths 71 = .ok (.istore 8, 2) := dk_54 8 (dk_at dksX5_lengths_3 0 rfl rfl)
theorem dX5_lengths_73 : decode cX5_lengths 73 = .ok (.aload_n 0, 1) := dk_42 (dk_at dksX5_lengths_3 2 rfl rfl)
theorem dX5_lengths_74 : decode cX5_lengths 74 = .ok (.getfield 16, 3) := dk_180 0 16 (dk_at dksX5_lengths_3 3 rfl rfl)
theorem dX5_lengths_77 : decode cX5_lengths 77 = .ok (.iload 6, 2) := dk_21 6 (dk_at dksX5_lengths_3 6 rfl rfl)
theorem dX5_lengths_79 : decode cX5_lengths 79 = .ok (.invokeinterface 76 2, 5) := by decide +kernel
theorem dX5_lengths_84 : decode cX5_lengths 84 = .ok (.checkcast 80, 3) := dk_192 0 80 (dk_at dksX5_lengths_3 13 rfl rfl)
theorem dX5_lengths_87 : decode cX5_lengths 87 = .ok (.aload_n 0, 1) := dk_42 (dk_at dksX5_lengths_3 16 rfl rfl)
theorem dX5_lengths_88 : decode cX5_lengths 88 = .ok (.getfield 19, 3) := dk_180 0 19 (dk_at dksX5_lengths_3 17 rfl rfl)
theorem dX5_lengths_91 : decode cX5_lengths 91 = .ok (.iload 7, 2) := dk_21 7 (dk_at dksX5_lengths_3 20 rfl rfl)
theorem dX5_lengths_93 : decode cX5_lengths 93 = .ok (.invokeinterface 76 2, 5) := by decide +kernel
theorem dX5_lengths_98 : decode cX5_lengths 98 = .ok (.invokeinterface 82 2, 5) := by decide +kernel
theorem dX5_lengths_103 : decode cX5_lengths 103 = .ok (.ifCond .eq 24, 3) := dk_153 0 24 (dk_at dksX5_lengths_4 10 rfl rfl)
theorem dX5_lengths_106 : decode cX5_lengths 106 = .ok (.iconst 1, 1) := dk_4 (dk_at dksX5_lengths_4 13 rfl rfl)
theorem dX5_lengths_107 : decode cX5_lengths 107 = .ok (.aload 5, 2) := dk_25 5 (dk_at dksX5_lengths_4 14 rfl rfl)
theorem dX5_lengths_109 : decode cX5_lengths 109 = .ok (.iload 6, 2) := dk_21 6 (dk_at dksX5_lengths_4 16 rfl rfl)
theorem dX5_lengths_111 : decode cX5_lengths 111 = .ok (.iconst 1, 1) := dk_4 (dk_at dksX5_lengths_4 18 rfl rfl)
theorem dX5_lengths_112 : decode cX5_lengths 112 = .ok (.iadd, 1) := dk_96 (dk_at dksX5_lengths_4 19 rfl rfl)
theorem dX5_lengths_113 : decode cX5_lengths 113 = .ok (.iload_n 1, 1) := dk_27 (dk_at dksX5_lengths_4 20 rfl rfl)
theorem dX5_lengths_114 : decode cX5_lengths 114 = .ok (.isub, 1) := dk_100 (dk_at dksX5_lengths_4 21 rfl rfl)
theorem dX5_lengths_115 : decode cX5_lengths 115 = .ok (.aaload, 1) := dk_50 (dk_at dksX5_lengths_4 22 rfl rfl)
theorem dX5_lengths_116 : decode cX5_lengths 116 = .ok (.iload 7, 2) := dk_21 7 (dk_at dksX5_lengths_5 0 rfl rfl)
theorem dX5_lengths_118 : decode cX5_lengths 118 = .ok (.iconst 1, 1) := dk_4 (dk_at dksX5_lengths_5 2 rfl rfl)
theorem dX5_lengths_119 : decode cX5_lengths 119 = .ok (.iadd, 1) := dk_96 (dk_at dksX5_lengths_5 3 rfl rfl)
theorem dX5_lengths_120 : decode cX5_lengths 120 = .ok (.iload_n 3, 1) := dk_29 (dk_at dksX5_lengths_5 4 rfl rfl)
theorem dX5_lengths_121 : decode cX5_lengths 121 = .ok (.isub, 1) := dk_100 (dk_at dksX5_lengths_5 5 rfl rfl)
theorem dX5_lengths_122 : decode cX5_lengths 122 = .ok (.iaload, 1) := dk_46 (dk_at dksX5_lengths_5 6 rfl rfl)
theorem dX5_lengths_123 : decode cX5_lengths 123 = .ok (.iadd, 1) := dk_96 (dk_at dksX5_lengths_5 7 rfl rfl)
theorem dX5_lengths_124 : decode cX5_lengths 124 = .ok (.goto 4, 3) := dk_167 0 4 (dk_at dksX5_lengths_5 8 rfl rfl)
theorem dX5_lengths_127 : decode cX5_lengths 127 = .ok (.iconst 0, 1) := dk_3 (dk_at dksX5_lengths_5 11 rfl rfl)
theorem dX5_lengths_128 : decode cX5_lengths 128 = .ok (.istore 9, 2) := dk_54 9 (dk_at dksX5_lengths_5 12 rfl rfl)
theorem dX5_lengths_130 : decode cX5_lengths 130 = .ok (.aload 5, 2) := dk_25 5 (dk_at dksX5_lengths_5 14 rfl rfl)
theorem dX5_lengths_132 : decode cX5_lengths 132 = .ok (.iload 6, 2) := dk_21 6 (dk_at dksX5_lengths_5 16 rfl rfl)
theorem dX5_lengths_134 : decode cX5_lengths 134 = .ok (.iload_n 1, 1) := dk_27 (dk_at dksX5_lengths_5 18 rfl rfl)
theorem dX5_lengths_135 : decode cX5_lengths 135 = .ok (.isub, 1) := dk_100 (dk_at dksX5_lengths_5 19 rfl rfl)
theorem dX5_lengths_136 : decode cX5_lengths 136 = .ok (.aaload, 1) := dk_50 (dk_at dksX5_lengths_5 20 rfl rfl)
theorem dX5_lengths_137 : decode cX5_lengths 137 = .ok (.iload 7, 2) := dk_21 7 (dk_at dksX5_lengths_5 21 rfl rfl)
theorem dX5_lengths_139 : decode cX5_lengths 139 = .ok (.iload_n 3, 1) := dk_29 (dk_at dksX5_lengths_5 23 rfl rfl)
theorem dX5_lengths_140 : decode cX5_lengths 140 = .ok (.isub, 1) := dk_100 (dk_at dksX5_lengths_6 0 rfl rfl)
theorem dX5_lengths_141 : decode cX5_lengths 141 = .ok (.iload 8, 2) := dk_21 8 (dk_at dksX5_lengths_6 1 rfl rfl)
theorem dX5_lengths_143 : decode cX5_lengths 143 = .ok (.iload 9, 2) := dk_21 9 (dk_at dksX5_lengths_6 3 rfl rfl)
theorem dX5_lengths_145 : decode cX5_lengths 145 = .ok (.invokestatic 70, 3) := dk_184 0 70 (dk_at dksX5_lengths_6 5 rfl rfl)
theorem dX5_lengths_148 : decode cX5_lengths 148 = .ok (.iastore, 1) := dk_79 (dk_at dksX5_lengths_6 8 rfl rfl)
theorem dX5_lengths_149 : decode cX5_lengths 149 = .ok (.iinc 7 (-1), 3) := dk_132 7 255 (dk_at dksX5_lengths_6 9 rfl rfl)
theorem dX5_lengths_152 : decode cX5_lengths 152 = .ok (.goto (-118), 3) := dk_167 255 138 (dk_at dksX5_lengths_6 12 rfl rfl)
theorem dX5_lengths_155 : decode cX5_lengths 155 = .ok (.iinc 6 (-1), 3) := dk_132 6 255 (dk_at dksX5_lengths_6 15 rfl rfl)
theorem dX5_lengths_158 : decode cX5_lengths 158 = .ok (.goto (-136), 3) := dk_167 255 120 (dk_at dksX5_lengths_6 18 rfl rfl)
theorem dX5_lengths_161 : decode cX5_lengths 161 = .ok (.aload 5, 2) := dk_25 5 (dk_at dksX5_lengths_6 21 rfl rfl)
theorem dX5_lengths_163 : decode cX5_lengths 163 = .ok (.areturn, 1) := dk_176 (dk_at dksX5_lengths_6 23 rfl rfl)
abbrev cX5_firstLike : ByteArray := prog_2_method_6_code
def yX5_firstLike : MethodName := ⟨RX5, "firstLike", "(Ljava/lang/Comparable;II)I"⟩
def dkwX5_firstLike_1 : List UInt8 := [185, 0, 96, 2, 0, 153, 0, 6, 21, 4, 172, 132, 4, 1, 167, 255, 221, 2, 172]
abbrev dktX5_firstLike_1 : List UInt8 := dkwX5_firstLike_1 ++ []
def dkwX5_firstLike_0 : List UInt8 := [28, 54, 4, 21, 4, 29, 162, 0, 35, 42, 180, 0, 19, 21, 4, 185, 0, 76, 2, 0, 192, 0, 80, 43]
abbrev dktX5_firstLike_0 : List UInt8 := dkwX5_firstLike_0 ++ dktX5_firstLike_1
theorem dksX5_firstLike_0 : cX5_firstLike.data.toList.drop 0 = dktX5_firstLike_0 := by decide +kernel
theorem dksX5_firstLike_1 : cX5_firstLike.data.toList.drop 24 = dktX5_firstLike_1 := dk_seg dksX5_firstLike_0 24 rfl rfl
theorem dX5_firstLike_0 : decode cX5_firstLike 0 = .ok (.iload_n 2, 1) := dk_28 (dk_at dksX5_firstLike_0 0 rfl rfl)
theorem dX5_firstLike_1 : decode cX5_firstLike 1 = .ok (.istore 4, 2) := dk_54 4 (dk_at dksX5_firstLike_0 1 rfl rfl)
theorem dX5_firstLike_3 : decode cX5_firstLike 3 = .ok (.iload 4, 2) := dk_21 4 (dk_at dksX5_firstLike_0 3 rfl rfl)
theorem dX5_firstLike_5 : decode cX5_firstLike 5 = .ok (.iload_n 3, 1) := dk_29 (dk_at dksX5_firstLike_0 5 rfl rfl)
theorem dX5_firstLike_6 : decode cX5_firstLike 6 = .ok (.if_icmp .ge 35, 3) := dk_162 0 35 (dk_at dksX5_firstLike_0 6 rfl rfl)
theorem dX5_firstLike_9 : decode cX5_firstLike 9 = .ok (.aload_n 0, 1) := dk_42 (dk_at dksX5_firstLike_0 9 rfl rfl)
theorem dX5_firstLike_10 : decode cX5_firstLike 10 = .ok (.getfield 19, 3) := dk_180 0 19 (dk_at dksX5_firstLike_0 10 rfl rfl)
theorem dX5_firstLike_13 : decode cX5_firstLike 13 = .ok (.iload 4, 2) := dk_21 4 (dk_at dksX5_firstLike_0 13 rfl rfl)
theorem dX5_firstLike_15 : decode cX5_firstLike 15 = .ok (.invokeinterface 76 2, 5) := by decide +kernel
theorem dX5_firstLike_20 : decode cX5_firstLike 20 = .ok (.checkcast 80, 3) := dk_192 0 80 (dk_at dksX5_firstLike_0 20 rfl rfl)
theorem dX5_firstLike_23 : decode cX5_firstLike 23 = .ok (.aload_n 1, 1) := dk_43 (dk_at dksX5_firstLike_0 23 rfl rfl)
theorem dX5_firstLike_24 : decode cX5_firstLike 24 = .ok (.invokeinterface 96 2, 5) := by decide +kernel
theorem dX5_firstLike_29 : decode cX5_firstLike 29 = .ok (.ifCond .eq 6, 3) := dk_153 0 6 (dk_at dksX5_firstLike_1 5 rfl rfl)
theorem dX5_firstLike_32 : decode cX5_firstLike 32 = .ok (.iload 4, 2) := dk_21 4 (dk_at dksX5_firstLike_1 8 rfl rfl)
theorem dX5_firstLike_34 : decode cX5_firstLike 34 = .ok (.ireturn, 1) := dk_172 (dk_at dksX5_firstLike_1 10 rfl rfl)
theorem dX5_firstLike_35 : decode cX5_firstLike 35 = .ok (.iinc 4 1, 3) := dk_132 4 1 (dk_at dksX5_firstLike_1 11 rfl rfl)
theorem dX5_firstLike_38 : decode cX5_firstLike 38 = .ok (.goto (-35), 3) := dk_167 255 221 (dk_at dksX5_firstLike_1 14 rfl rfl)
theorem dX5_firstLike_41 : decode cX5_firstLike 41 = .ok (.iconst (-1), 1) := dk_2 (dk_at dksX5_firstLike_1 17 rfl rfl)
theorem dX5_firstLike_42 : decode cX5_firstLike 42 = .ok (.ireturn, 1) := dk_172 (dk_at dksX5_firstLike_1 18 rfl rfl)
abbrev cX5_anchored : ByteArray := prog_2_method_3_code
def yX5_anchored : MethodName := ⟨RX5, "anchored", "()Ljava/util/List;"⟩
def dkwX5_anchored_5 : List UInt8 := [185, 0, 22, 1, 0, 182, 0, 28, 42, 180, 0, 10, 176]
abbrev dktX5_anchored_5 : List UInt8 := dkwX5_anchored_5 ++ []
def dkwX5_anchored_4 : List UInt8 := [4, 96, 62, 167, 255, 190, 42, 28, 42, 180, 0, 16, 185, 0, 22, 1, 0, 29, 42, 180, 0, 19]
abbrev dktX5_anchored_4 : List UInt8 := dkwX5_anchored_4 ++ dktX5_anchored_5
def dkwX5_anchored_3 : List UInt8 := [180, 0, 10, 25, 5, 185, 0, 64, 2, 0, 87, 25, 5, 180, 0, 60, 4, 96, 61, 25, 5, 180, 0, 62]
abbrev dktX5_anchored_3 : List UInt8 := dkwX5_anchored_3 ++ dktX5_anchored_4
def dkwX5_anchored_2 : List UInt8 := [192, 0, 58, 58, 5, 42, 28, 25, 5, 180, 0, 60, 29, 25, 5, 180, 0, 62, 182, 0, 28, 42]
abbrev dktX5_anchored_2 : List UInt8 := dkwX5_anchored_2 ++ dktX5_anchored_3
def dkwX5_anchored_1 : List UInt8 := [185, 0, 44, 1, 0, 58, 4, 25, 4, 185, 0, 48, 1, 0, 153, 0, 62, 25, 4, 185, 0, 54, 1, 0]
abbrev dktX5_anchored_1 : List UInt8 := dkwX5_anchored_1 ++ dktX5_anchored_2
def dkwX5_anchored_0 : List UInt8 := [42, 42, 182, 0, 32, 182, 0, 36, 76, 42, 43, 185, 0, 22, 1, 0, 181, 0, 40, 3, 61, 3, 62, 43]
abbrev dktX5_anchored_0 : List UInt8 := dkwX5_anchored_0 ++ dktX5_anchored_1
theorem dksX5_anchored_0 : cX5_anchored.data.toList.drop 0 = dktX5_anchored_0 := by decide +kernel
theorem dksX5_anchored_1 : cX5_anchored.data.toList.drop 24 = dktX5_anchored_1 := dk_seg dksX5_anchored_0 24 rfl rfl
theorem dksX5_anchored_2 : cX5_anchored.data.toList.drop 48 = dktX5_anchored_2 := dk_seg dksX5_anchored_1 24 rfl rfl
theorem dksX5_anchored_3 : cX5_anchored.data.toList.drop 70 = dktX5_anchored_3 := dk_seg dksX5_anchored_2 22 rfl rfl
theorem dksX5_anchored_4 : cX5_anchored.data.toList.drop 94 = dktX5_anchored_4 := dk_seg dksX5_anchored_3 24 rfl rfl
theorem dksX5_anchored_5 : cX5_anchored.data.toList.drop 116 = dktX5_anchored_5 := dk_seg dksX5_anchored_4 22 rfl rfl
theorem dX5_anchored_0 : decode cX5_anchored 0 = .ok (.aload_n 0, 1) := dk_42 (dk_at dksX5_anchored_0 0 rfl rfl)
theorem dX5_anchored_1 : decode cX5_anchored 1 = .ok (.aload_n 0, 1) := dk_42 (dk_at dksX5_anchored_0 1 rfl rfl)
theorem dX5_anchored_2 : decode cX5_anchored 2 = .ok (.invokevirtual 32, 3) := dk_182 0 32 (dk_at dksX5_anchored_0 2 rfl rfl)
theorem dX5_anchored_5 : decode cX5_anchored 5 = .ok (.invokevirtual 36, 3) := dk_182 0 36 (dk_at dksX5_anchored_0 5 rfl rfl)
theorem dX5_anchored_8 : decode cX5_anchored 8 = .ok (.astore_n 1, 1) := dk_76 (dk_at dksX5_anchored_0 8 rfl rfl)
theorem dX5_anchored_9 : decode cX5_anchored 9 = .ok (.aload_n 0, 1) := dk_42 (dk_at dksX5_anchored_0 9 rfl rfl)
theorem dX5_anchored_10 : decode cX5_anchored 10 = .ok (.aload_n 1, 1) := dk_43 (dk_at dksX5_anchored_0 10 rfl rfl)
theorem dX5_anchored_11 : decode cX5_anchored 11 = .ok (.invokeinterface 22 1, 5) := by decide +kernel
theorem dX5_anchored_16 : decode cX5_anchored 16 = .ok (.putfield 40, 3) := dk_181 0 40 (dk_at dksX5_anchored_0 16 rfl rfl)
theorem dX5_anchored_19 : decode cX5_anchored 19 = .ok (.iconst 0, 1) := dk_3 (dk_at dksX5_anchored_0 19 rfl rfl)
theorem dX5_anchored_20 : decode cX5_anchored 20 = .ok (.istore_n 2, 1) := dk_61 (dk_at dksX5_anchored_0 20 rfl rfl)
theorem dX5_anchored_21 : decode cX5_anchored 21 = .ok (.iconst 0, 1) := dk_3 (dk_at dksX5_anchored_0 21 rfl rfl)
theorem dX5_anchored_22 : decode cX5_anchored 22 = .ok (.istore_n 3, 1) := dk_62 (dk_at dksX5_anchored_0 22 rfl rfl)
theorem dX5_anchored_23 : decode cX5_anchored 23 = .ok (.aload_n 1, 1) := dk_43 (dk_at dksX5_anchored_0 23 rfl rfl)
theorem dX5_anchored_24 : decode cX5_anchored 24 = .ok (.invokeinterface 44 1, 5) := by decide +kernel
theorem dX5_anchored_29 : decode cX5_anchored 29 = .ok (.astore 4, 2) := dk_58 4 (dk_at dksX5_anchored_1 5 rfl rfl)
theorem dX5_anchored_31 : decode cX5_anchored 31 = .ok (.aload 4, 2) := dk_25 4 (dk_at dksX5_anchored_1 7 rfl rfl)
theorem dX5_anchored_33 : decode cX5_anchored 33 = .ok (.invokeinterface 48 1, 5) := by decide +kernel
theorem dX5_anchored_38 : decode cX5_anchored 38 = .ok (.ifCond .eq 62, 3) := dk_153 0 62 (dk_at dksX5_anchored_1 14 rfl rfl)
theorem dX5_anchored_41 : decode cX5_anchored 41 = .ok (.aload 4, 2) := dk_25 4 (dk_at dksX5_anchored_1 17 rfl rfl)
theorem dX5_anchored_43 : decode cX5_anchored 43 = .ok (.invokeinterface 54 1, 5) := by decide +kernel
theorem dX5_anchored_48 : decode cX5_anchored 48 = .ok (.checkcast 58, 3) := dk_192 0 58 (dk_at dksX5_anchored_2 0 rfl rfl)
theorem dX5_anchored_51 : decode cX5_anchored 51 = .ok (.astore 5, 2) := dk_58 5 (dk_at dksX5_anchored_2 3 rfl rfl)
theorem dX5_anchored_53 : decode cX5_anchored 53 = .ok (.aload_n 0, 1) := dk_42 (dk_at dksX5_anchored_2 5 rfl rfl)
theorem dX5_anchored_54 : decode cX5_anchored 54 = .ok (.iload_n 2, 1) := dk_28 (dk_at dksX5_anchored_2 6 rfl rfl)
theorem dX5_anchored_55 : decode cX5_anchored 55 = .ok (.aload 5, 2) := dk_25 5 (dk_at dksX5_anchored_2 7 rfl rfl)
theorem dX5_anchored_57 : decode cX5_anchored 57 = .ok (.getfield 60, 3) := dk_180 0 60 (dk_at dksX5_anchored_2 9 rfl rfl)
theorem dX5_anchored_60 : decode cX5_anchored 60 = .ok (.iload_n 3, 1) := dk_29 (dk_at dksX5_anchored_2 12 rfl rfl)
theorem dX5_anchored_61 : decode cX5_anchored 61 = .ok (.aload 5, 2) := dk_25 5 (dk_at dksX5_anchored_2 13 rfl rfl)
theorem dX5_anchored_63 : decode cX5_anchored 63 = .ok (.getfield 62, 3) := dk_180 0 62 (dk_at dksX5_anchored_2 15 rfl rfl)
theorem dX5_anchored_66 : decode cX5_anchored 66 = .ok (.invokevirtual 28, 3) := dk_182 0 28 (dk_at dksX5_anchored_2 18 rfl rfl)
theorem dX5_anchored_69 : decode cX5_anchored 69 = .ok (.aload_n 0, 1) := dk_42 (dk_at dksX5_anchored_2 21 rfl rfl)
theorem dX5_anchored_70 : decode cX5_anchored 70 = .ok (.getfield 10, 3) := dk_180 0 10 (dk_at dksX5_anchored_3 0 rfl rfl)
theorem dX5_anchored_73 : decode cX5_anchored 73 = .ok (.aload 5, 2) := dk_25 5 (dk_at dksX5_anchored_3 3 rfl rfl)
theorem dX5_anchored_75 : decode cX5_anchored 75 = .ok (.invokeinterface 64 2, 5) := by decide +kernel
theorem dX5_anchored_80 : decode cX5_anchored 80 = .ok (.pop, 1) := dk_87 (dk_at dksX5_anchored_3 10 rfl rfl)
theorem dX5_anchored_81 : decode cX5_anchored 81 = .ok (.aload 5, 2) := dk_25 5 (dk_at dksX5_anchored_3 11 rfl rfl)
theorem dX5_anchored_83 : decode cX5_anchored 83 = .ok (.getfield 60, 3) := dk_180 0 60 (dk_at dksX5_anchored_3 13 rfl rfl)
theorem dX5_anchored_86 : decode cX5_anchored 86 = .ok (.iconst 1, 1) := dk_4 (dk_at dksX5_anchored_3 16 rfl rfl)
theorem dX5_anchored_87 : decode cX5_anchored 87 = .ok (.iadd, 1) := dk_96 (dk_at dksX5_anchored_3 17 rfl rfl)
theorem dX5_anchored_88 : decode cX5_anchored 88 = .ok (.istore_n 2, 1) := dk_61 (dk_at dksX5_anchored_3 18 rfl rfl)
theorem dX5_anchored_89 : decode cX5_anchored 89 = .ok (.aload 5, 2) := dk_25 5 (dk_at dksX5_anchored_3 19 rfl rfl)
theorem dX5_anchored_91 : decode cX5_anchored 91 = .ok (.getfield 62, 3) := dk_180 0 62 (dk_at dksX5_anchored_3 21 rfl rfl)
theorem dX5_anchored_94 : decode cX5_anchored 94 = .ok (.iconst 1, 1) := dk_4 (dk_at dksX5_anchored_4 0 rfl rfl)
theorem dX5_anchored_95 : decode cX5_anchored 95 = .ok (.iadd, 1) := dk_96 (dk_at dksX5_anchored_4 1 rfl rfl)
theorem dX5_anchored_96 : decode cX5_anchored 96 = .ok (.istore_n 3, 1) := dk_62 (dk_at dksX5_anchored_4 2 rfl rfl)
theorem dX5_anchored_97 : decode cX5_anchored 97 = .ok (.goto (-66), 3) := dk_167 255 190 (dk_at dksX5_anchored_4 3 rfl rfl)
theorem dX5_anchored_100 : decode cX5_anchored 100 = .ok (.aload_n 0, 1) := dk_42 (dk_at dksX5_anchored_4 6 rfl rfl)
theorem dX5_anchored_101 : decode cX5_anchored 101 = .ok (.iload_n 2, 1) := dk_28 (dk_at dksX5_anchored_4 7 rfl rfl)
theorem dX5_anchored_102 : decode cX5_anchored 102 = .ok (.aload_n 0, 1) := dk_42 (dk_at dksX5_anchored_4 8 rfl rfl)
theorem dX5_anchored_103 : decode cX5_anchored 103 = .ok (.getfield 16, 3) := dk_180 0 16 (dk_at dksX5_anchored_4 9 rfl rfl)
theorem dX5_anchored_106 : decode cX5_anchored 106 = .ok (.invokeinterface 22 1, 5) := by decide +kernel
theorem dX5_anchored_111 : decode cX5_anchored 111 = .ok (.iload_n 3, 1) := dk_29 (dk_at dksX5_anchored_4 17 rfl rfl)
theorem dX5_anchored_112 : decode cX5_anchored 112 = .ok (.aload_n 0, 1) := dk_42 (dk_at dksX5_anchored_4 18 rfl rfl)
theorem dX5_anchored_113 : decode cX5_anchored 113 = .ok (.getfield 19, 3) := dk_180 0 19 (dk_at dksX5_anchored_4 19 rfl rfl)
theorem dX5_anchored_116 : decode cX5_anchored 116 = .ok (.invokeinterface 22 1, 5) := by decide +kernel
theorem dX5_anchored_121 : decode cX5_anchored 121 = .ok (.invokevirtual 28, 3) := dk_182 0 28 (dk_at dksX5_anchored_5 5 rfl rfl)
theorem dX5_anchored_124 : decode cX5_anchored 124 = .ok (.aload_n 0, 1) := dk_42 (dk_at dksX5_anchored_5 8 rfl rfl)
theorem dX5_anchored_125 : decode cX5_anchored 125 = .ok (.getfield 10, 3) := dk_180 0 10 (dk_at dksX5_anchored_5 9 rfl rfl)
theorem dX5_anchored_128 : decode cX5_anchored 128 = .ok (.areturn, 1) := dk_176 (dk_at dksX5_anchored_5 12 rfl rfl)
abbrev cX5_candidates : ByteArray := prog_2_method_8_code
def yX5_candidates : MethodName := ⟨RX5, "candidates", "()Ljava/util/List;"⟩
def dkwX5_candidates_5 : List UInt8 := [183, 0, 93, 185, 0, 64, 2, 0, 87, 132, 4, 1, 167, 255, 159, 45, 176]
abbrev dktX5_candidates_5 : List UInt8 := dkwX5_candidates_5 ++ []
def dkwX5_candidates_4 : List UInt8 := [198, 0, 32, 25, 5, 182, 0, 120, 155, 0, 24, 45, 187, 0, 58, 89, 21, 4, 25, 5, 182, 0, 120]
abbrev dktX5_candidates_4 : List UInt8 := dkwX5_candidates_4 ++ dktX5_candidates_5
def dkwX5_candidates_3 : List UInt8 := [21, 4, 185, 0, 76, 2, 0, 182, 0, 117, 192, 0, 104, 182, 0, 120, 21, 4, 160, 0, 37, 25, 5]
abbrev dktX5_candidates_3 : List UInt8 := dkwX5_candidates_3 ++ dktX5_candidates_4
def dkwX5_candidates_2 : List UInt8 := [180, 0, 16, 21, 4, 185, 0, 76, 2, 0, 182, 0, 117, 192, 0, 104, 58, 5, 43, 42, 180, 0, 16]
abbrev dktX5_candidates_2 : List UInt8 := dkwX5_candidates_2 ++ dktX5_candidates_3
def dkwX5_candidates_1 : List UInt8 := [183, 0, 9, 78, 3, 54, 4, 21, 4, 42, 180, 0, 16, 185, 0, 22, 1, 0, 162, 0, 89, 44, 42]
abbrev dktX5_candidates_1 : List UInt8 := dkwX5_candidates_1 ++ dktX5_candidates_2
def dkwX5_candidates_0 : List UInt8 := [42, 42, 180, 0, 16, 182, 0, 113, 76, 42, 42, 180, 0, 19, 182, 0, 113, 77, 187, 0, 7, 89]
abbrev dktX5_candidates_0 : List UInt8 := dkwX5_candidates_0 ++ dktX5_candidates_1
theorem dksX5_candidates_0 : cX5_candidates.data.toList.drop 0 = dktX5_candidates_0 := by decide +kernel
theorem dksX5_candidates_1 : cX5_candidates.data.toList.drop 22 = dktX5_candidates_1 := dk_seg dksX5_candidates_0 22 rfl rfl
theorem dksX5_candidates_2 : cX5_candidates.data.toList.drop 45 = dktX5_candidates_2 := dk_seg dksX5_candidates_1 23 rfl rfl
theorem dksX5_candidates_3 : cX5_candidates.data.toList.drop 68 = dktX5_candidates_3 := dk_seg dksX5_candidates_2 23 rfl rfl
theorem dksX5_candidates_4 : cX5_candidates.data.toList.drop 91 = dktX5_candidates_4 := dk_seg dksX5_candidates_3 23 rfl rfl
theorem dksX5_candidates_5 : cX5_candidates.data.toList.drop 114 = dktX5_candidates_5 := dk_seg dksX5_candidates_4 23 rfl rfl
theorem dX5_candidates_0 : decode cX5_candidates 0 = .ok (.aload_n 0, 1) := dk_42 (dk_at dksX5_candidates_0 0 rfl rfl)
theorem dX5_candidates_1 : decode cX5_candidates 1 = .ok (.aload_n 0, 1) := dk_42 (dk_at dksX5_candidates_0 1 rfl rfl)
theorem dX5_candidates_2 : decode cX5_candidates 2 = .ok (.getfield 16, 3) := dk_180 0 16 (dk_at dksX5_candidates_0 2 rfl rfl)
theorem dX5_candidates_5 : decode cX5_candidates 5 = .ok (.invokevirtual 113, 3) := dk_182 0 113 (dk_at dksX5_candidates_0 5 rfl rfl)
theorem dX5_candidates_8 : decode cX5_candidates 8 = .ok (.astore_n 1, 1) := dk_76 (dk_at dksX5_candidates_0 8 rfl rfl)
theorem dX5_candidates_9 : decode cX5_candidates 9 = .ok (.aload_n 0, 1) := dk_42 (dk_at dksX5_candidates_0 9 rfl rfl)
theorem dX5_candidates_10 : decode cX5_candidates 10 = .ok (.aload_n 0, 1) := dk_42 (dk_at dksX5_candidates_0 10 rfl rfl)
theorem dX5_candidates_11 : decode cX5_candidates 11 = .ok (.getfield 19, 3) := dk_180 0 19 (dk_at dksX5_candidates_0 11 rfl rfl)
theorem dX5_candidates_14 : decode cX5_candidates 14 = .ok (.invokevirtual 113, 3) := dk_182 0 113 (dk_at dksX5_candidates_0 14 rfl rfl)
theorem dX5_candidates_17 : decode cX5_candidates 17 = .ok (.astore_n 2, 1) := dk_77 (dk_at dksX5_candidates_0 17 rfl rfl)
theorem dX5_candidates_18 : decode cX5_candidates 18 = .ok (.new 7, 3) := dk_187 0 7 (dk_at dksX5_candidates_0 18 rfl rfl)
theorem dX5_candidates_21 : decode cX5_candidates 21 = .ok (.dup, 1) := dk_89 (dk_at dksX5_candidates_0 21 rfl rfl)
theorem dX5_candidates_22 : decode cX5_candidates 22 = .ok (.invokespecial 9, 3) := dk_183 0 9 (dk_at dksX5_candidates_1 0 rfl rfl)
theorem dX5_candidates_25 : decode cX5_candidates 25 = .ok (.astore_n 3, 1) := dk_78 (dk_at dksX5_candidates_1 3 rfl rfl)
theorem dX5_candidates_26 : decode cX5_candidates 26 = .ok (.iconst 0, 1) := dk_3 (dk_at dksX5_candidates_1 4 rfl rfl)
theorem dX5_candidates_27 : decode cX5_candidates 27 = .ok (.istore 4, 2) := dk_54 4 (dk_at dksX5_candidates_1 5 rfl rfl)
theorem dX5_candidates_29 : decode cX5_candidates 29 = .ok (.iload 4, 2) := dk_21 4 (dk_at dksX5_candidates_1 7 rfl rfl)
theorem dX5_candidates_31 : decode cX5_candidates 31 = .ok (.aload_n 0, 1) := dk_42 (dk_at dksX5_candidates_1 9 rfl rfl)
theorem dX5_candidates_32 : decode cX5_candidates 32 = .ok (.getfield 16, 3) := dk_180 0 16 (dk_at dksX5_candidates_1 10 rfl rfl)
theorem dX5_candidates_35 : decode cX5_candidates 35 = .ok (.invokeinterface 22 1, 5) := by decide +kernel
theorem dX5_candidates_40 : decode cX5_candidates 40 = .ok (.if_icmp .ge 89, 3) := dk_162 0 89 (dk_at dksX5_candidates_1 18 rfl rfl)
theorem dX5_candidates_43 : decode cX5_candidates 43 = .ok (.aload_n 2, 1) := dk_44 (dk_at dksX5_candidates_1 21 rfl rfl)
theorem dX5_candidates_44 : decode cX5_candidates 44 = .ok (.aload_n 0, 1) := dk_42 (dk_at dksX5_candidates_1 22 rfl rfl)
theorem dX5_candidates_45 : decode cX5_candidates 45 = .ok (.getfield 16, 3) := dk_180 0 16 (dk_at dksX5_candidates_2 0 rfl rfl)
theorem dX5_candidates_48 : decode cX5_candidates 48 = .ok (.iload 4, 2) := dk_21 4 (dk_at dksX5_candidates_2 3 rfl rfl)
theorem dX5_candidates_50 : decode cX5_candidates 50 = .ok (.invokeinterface 76 2, 5) := by decide +kernel
theorem dX5_candidates_55 : decode cX5_candidates 55 = .ok (.invokevirtual 117, 3) := dk_182 0 117 (dk_at dksX5_candidates_2 10 rfl rfl)
theorem dX5_candidates_58 : decode cX5_candidates 58 = .ok (.checkcast 104, 3) := dk_192 0 104 (dk_at dksX5_candidates_2 13 rfl rfl)
theorem dX5_candidates_61 : decode cX5_candidates 61 = .ok (.astore 5, 2) := dk_58 5 (dk_at dksX5_candidates_2 16 rfl rfl)
theorem dX5_candidates_63 : decode cX5_candidates 63 = .ok (.aload_n 1, 1) := dk_43 (dk_at dksX5_candidates_2 18 rfl rfl)
theorem dX5_candidates_64 : decode cX5_candidates 64 = .ok (.aload_n 0, 1) := dk_42 (dk_at dksX5_candidates_2 19 rfl rfl)
theorem dX5_candidates_65 : decode cX5_candidates 65 = .ok (.getfield 16, 3) := dk_180 0 16 (dk_at dksX5_candidates_2 20 rfl rfl)
theorem dX5_candidates_68 : decode cX5_candidates 68 = .ok (.iload 4, 2) := dk_21 4 (dk_at dksX5_candidates_3 0 rfl rfl)
theorem dX5_candidates_70 : decode cX5_candidates 70 = .ok (.invokeinterface 76 2, 5) := by decide +kernel
theorem dX5_candidates_75 : decode cX5_candidates 75 = .ok (.invokevirtual 117, 3) := dk_182 0 117 (dk_at dksX5_candidates_3 7 rfl rfl)
theorem dX5_candidates_78 : decode cX5_candidates 78 = .ok (.checkcast 104, 3) := dk_192 0 104 (dk_at dksX5_candidates_3 10 rfl rfl)
theorem dX5_candidates_81 : decode cX5_candidates 81 = .ok (.invokevirtual 120, 3) := dk_182 0 120 (dk_at dksX5_candidates_3 13 rfl rfl)
theorem dX5_candidates_84 : decode cX5_candidates 84 = .ok (.iload 4, 2) := dk_21 4 (dk_at dksX5_candidates_3 16 rfl rfl)
theorem dX5_candidates_86 : decode cX5_candidates 86 = .ok (.if_icmp .ne 37, 3) := dk_160 0 37 (dk_at dksX5_candidates_3 18 rfl rfl)
theorem dX5_candidates_89 : decode cX5_candidates 89 = .ok (.aload 5, 2) := dk_25 5 (dk_at dksX5_candidates_3 21 rfl rfl)
theorem dX5_candidates_91 : decode cX5_candidates 91 = .ok (.ifnull 32, 3) := dk_198 0 32 (dk_at dksX5_candidates_4 0 rfl rfl)
theorem dX5_candidates_94 : decode cX5_candidates 94 = .ok (.aload 5, 2) := dk_25 5 (dk_at dksX5_candidates_4 3 rfl rfl)
theorem dX5_candidates_96 : decode cX5_candidates 96 = .ok (.invokevirtual 120, 3) := dk_182 0 120 (dk_at dksX5_candidates_4 5 rfl rfl)
theorem dX5_candidates_99 : decode cX5_candidates 99 = .ok (.ifCond .lt 24, 3) := dk_155 0 24 (dk_at dksX5_candidates_4 8 rfl rfl)
theorem dX5_candidates_102 : decode cX5_candidates 102 = .ok (.aload_n 3, 1) := dk_45 (dk_at dksX5_candidates_4 11 rfl rfl)
theorem dX5_candidates_103 : decode cX5_candidates 103 = .ok (.new 58, 3) := dk_187 0 58 (dk_at dksX5_candidates_4 12 rfl rfl)
theorem dX5_candidates_106 : decode cX5_candidates 106 = .ok (.dup, 1) := dk_89 (dk_at dksX5_candidates_4 15 rfl rfl)
theorem dX5_candidates_107 : decode cX5_candidates 107 = .ok (.iload 4, 2) := dk_21 4 (dk_at dksX5_candidates_4 16 rfl rfl)
theorem dX5_candidates_109 : decode cX5_candidates 109 = .ok (.aload 5, 2) := dk_25 5 (dk_at dksX5_candidates_4 18 rfl rfl)
theorem dX5_candidates_111 : decode cX5_candidates 111 = .ok (.invokevirtual 120, 3) := dk_182 0 120 (dk_at dksX5_candidates_4 20 rfl rfl)
theorem dX5_candidates_114 : decode cX5_candidates 114 = .ok (.invokespecial 93, 3) := dk_183 0 93 (dk_at dksX5_candidates_5 0 rfl rfl)
theorem dX5_candidates_117 : decode cX5_candidates 117 = .ok (.invokeinterface 64 2, 5) := by decide +kernel
theorem dX5_candidates_122 : decode cX5_candidates 122 = .ok (.pop, 1) := dk_87 (dk_at dksX5_candidates_5 8 rfl rfl)
theorem dX5_candidates_123 : decode cX5_candidates 123 = .ok (.iinc 4 1, 3) := dk_132 4 1 (dk_at dksX5_candidates_5 9 rfl rfl)
theorem dX5_candidates_126 : decode cX5_candidates 126 = .ok (.goto (-97), 3) := dk_167 255 159 (dk_at dksX5_candidates_5 12 rfl rfl)
theorem dX5_candidates_129 : decode cX5_candidates 129 = .ok (.aload_n 3, 1) := dk_45 (dk_at dksX5_candidates_5 15 rfl rfl)
theorem dX5_candidates_130 : decode cX5_candidates 130 = .ok (.areturn, 1) := dk_176 (dk_at dksX5_candidates_5 16 rfl rfl)
abbrev cX5_single : ByteArray := prog_2_method_7_code
def yX5_single : MethodName := ⟨RX5, "single", "(Ljava/util/List;)Ljava/util/TreeMap;"⟩
def dkwX5_single_2 : List UInt8 := [167, 0, 4, 29, 184, 0, 103, 182, 0, 109, 87, 132, 3, 1, 167, 255, 207, 44, 176]
abbrev dktX5_single_2 : List UInt8 := dkwX5_single_2 ++ []
def dkwX5_single_1 : List UInt8 := [185, 0, 76, 2, 0, 192, 0, 80, 58, 4, 44, 25, 4, 44, 25, 4, 182, 0, 100, 153, 0, 7, 2]
abbrev dktX5_single_1 : List UInt8 := dkwX5_single_1 ++ dktX5_single_2
def dkwX5_single_0 : List UInt8 := [187, 0, 97, 89, 183, 0, 99, 77, 3, 62, 29, 43, 185, 0, 22, 1, 0, 162, 0, 45, 43, 29]
abbrev dktX5_single_0 : List UInt8 := dkwX5_single_0 ++ dktX5_single_1
theorem dksX5_single_0 : cX5_single.data.toList.drop 0 = dktX5_single_0 := by decide +kernel
theorem dksX5_single_1 : cX5_single.data.toList.drop 22 = dktX5_single_1 := dk_seg dksX5_single_0 22 rfl rfl
theorem dksX5_single_2 : cX5_single.data.toList.drop 45 = dktX5_single_2 := dk_seg dksX5_single_1 23 rfl rfl
theorem dX5_single_0 : decode cX5_single 0 = .ok (.new 97, 3) := dk_187 0 97 (dk_at dksX5_single_0 0 rfl rfl)
theorem dX5_single_3 : decode cX5_single 3 = .ok (.dup, 1) := dk_89 (dk_at dksX5_single_0 3 rfl rfl)
theorem dX5_single_4 : decode cX5_single 4 = .ok (.invokespecial 99, 3) := dk_183 0 99 (dk_at dksX5_single_0 4 rfl rfl)
theorem dX5_single_7 : decode cX5_single 7 = .ok (.astore_n 2, 1) := dk_77 (dk_at dksX5_single_0 7 rfl rfl)
theorem dX5_single_8 : decode cX5_single 8 = .ok (.iconst 0, 1) := dk_3 (dk_at dksX5_single_0 8 rfl rfl)
theorem dX5_single_9 : decode cX5_single 9 = .ok (.istore_n 3, 1) := dk_62 (dk_at dksX5_single_0 9 rfl rfl)
theorem dX5_single_10 : decode cX5_single 10 = .ok (.iload_n 3, 1) := dk_29 (dk_at dksX5_single_0 10 rfl rfl)
theorem dX5_single_11 : decode cX5_single 11 = .ok (.aload_n 1, 1) := dk_43 (dk_at dksX5_single_0 11 rfl rfl)
theorem dX5_single_12 : decode cX5_single 12 = .ok (.invokeinterface 22 1, 5) := by decide +kernel
theorem dX5_single_17 : decode cX5_single 17 = .ok (.if_icmp .ge 45, 3) := dk_162 0 45 (dk_at dksX5_single_0 17 rfl rfl)
theorem dX5_single_20 : decode cX5_single 20 = .ok (.aload_n 1, 1) := dk_43 (dk_at dksX5_single_0 20 rfl rfl)
theorem dX5_single_21 : decode cX5_single 21 = .ok (.iload_n 3, 1) := dk_29 (dk_at dksX5_single_0 21 rfl rfl)
theorem dX5_single_22 : decode cX5_single 22 = .ok (.invokeinterface 76 2, 5) := by decide +kernel
theorem dX5_single_27 : decode cX5_single 27 = .ok (.checkcast 80, 3) := dk_192 0 80 (dk_at dksX5_single_1 5 rfl rfl)
theorem dX5_single_30 : decode cX5_single 30 = .ok (.astore 4, 2) := dk_58 4 (dk_at dksX5_single_1 8 rfl rfl)
theorem dX5_single_32 : decode cX5_single 32 = .ok (.aload_n 2, 1) := dk_44 (dk_at dksX5_single_1 10 rfl rfl)
theorem dX5_single_33 : decode cX5_single 33 = .ok (.aload 4, 2) := dk_25 4 (dk_at dksX5_single_1 11 rfl rfl)
theorem dX5_single_35 : decode cX5_single 35 = .ok (.aload_n 2, 1) := dk_44 (dk_at dksX5_single_1 13 rfl rfl)
theorem dX5_single_36 : decode cX5_single 36 = .ok (.aload 4, 2) := dk_25 4 (dk_at dksX5_single_1 14 rfl rfl)
theorem dX5_single_38 : decode cX5_single 38 = .ok (.invokevirtual 100, 3) := dk_182 0 100 (dk_at dksX5_single_1 16 rfl rfl)
theorem dX5_single_41 : decode cX5_single 41 = .ok (.ifCond .eq 7, 3) := dk_153 0 7 (dk_at dksX5_single_1 19 rfl rfl)
theorem dX5_single_44 : decode cX5_single 44 = .ok (.iconst (-1), 1) := dk_2 (dk_at dksX5_single_1 22 rfl rfl)
theorem dX5_single_45 : decode cX5_single 45 = .ok (.goto 4, 3) := dk_167 0 4 (dk_at dksX5_single_2 0 rfl rfl)
theorem dX5_single_48 : decode cX5_single 48 = .ok (.iload_n 3, 1) := dk_29 (dk_at dksX5_single_2 3 rfl rfl)
theorem dX5_single_49 : decode cX5_single 49 = .ok (.invokestatic 103, 3) := dk_184 0 103 (dk_at dksX5_single_2 4 rfl rfl)
theorem dX5_single_52 : decode cX5_single 52 = .ok (.invokevirtual 109, 3) := dk_182 0 109 (dk_at dksX5_single_2 7 rfl rfl)
theorem dX5_single_55 : decode cX5_single 55 = .ok (.pop, 1) := dk_87 (dk_at dksX5_single_2 10 rfl rfl)
theorem dX5_single_56 : decode cX5_single 56 = .ok (.iinc 3 1, 3) := dk_132 3 1 (dk_at dksX5_single_2 11 rfl rfl)
theorem dX5_single_59 : decode cX5_single 59 = .ok (.goto (-49), 3) := dk_167 255 207 (dk_at dksX5_single_2 14 rfl rfl)
theorem dX5_single_62 : decode cX5_single 62 = .ok (.aload_n 2, 1) := dk_44 (dk_at dksX5_single_2 17 rfl rfl)
theorem dX5_single_63 : decode cX5_single 63 = .ok (.areturn, 1) := dk_176 (dk_at dksX5_single_2 18 rfl rfl)
abbrev cX5_chooseAnchors : ByteArray := prog_2_method_9_code
def yX5_chooseAnchors : MethodName := ⟨RX5, "chooseAnchors", "(Ljava/util/List;)Ljava/util/List;"⟩
def dkwX5_chooseAnchors_9 : List UInt8 := [192, 0, 58, 180, 0, 62, 54, 5, 132, 6, 1, 167, 255, 172, 25, 4, 176]
abbrev dktX5_chooseAnchors_9 : List UInt8 := dkwX5_chooseAnchors_9 ++ []
def dkwX5_chooseAnchors_8 : List UInt8 := [185, 0, 76, 2, 0, 192, 0, 58, 185, 0, 64, 2, 0, 87, 43, 21, 6, 185, 0, 76, 2, 0]
abbrev dktX5_chooseAnchors_8 : List UInt8 := dkwX5_chooseAnchors_8 ++ dktX5_chooseAnchors_9
def dkwX5_chooseAnchors_7 : List UInt8 := [43, 21, 6, 185, 0, 76, 2, 0, 192, 0, 58, 180, 0, 62, 21, 5, 164, 0, 38, 25, 4, 43, 21, 6]
abbrev dktX5_chooseAnchors_7 : List UInt8 := dkwX5_chooseAnchors_7 ++ dktX5_chooseAnchors_8
def dkwX5_chooseAnchors_6 : List UInt8 := [185, 0, 22, 1, 0, 162, 0, 79, 44, 21, 6, 46, 29, 25, 4, 185, 0, 22, 1, 0, 100, 160, 0, 57]
abbrev dktX5_chooseAnchors_6 : List UInt8 := dkwX5_chooseAnchors_6 ++ dktX5_chooseAnchors_7
def dkwX5_chooseAnchors_5 : List UInt8 := [132, 4, 255, 167, 255, 163, 187, 0, 7, 89, 183, 0, 9, 58, 4, 2, 54, 5, 3, 54, 6, 21, 6, 43]
abbrev dktX5_chooseAnchors_5 : List UInt8 := dkwX5_chooseAnchors_5 ++ dktX5_chooseAnchors_6
def dkwX5_chooseAnchors_4 : List UInt8 := [21, 5, 46, 96, 184, 0, 70, 79, 132, 5, 1, 167, 255, 194, 29, 44, 21, 4, 46, 184, 0, 70, 62]
abbrev dktX5_chooseAnchors_4 : List UInt8 := dkwX5_chooseAnchors_4 ++ dktX5_chooseAnchors_5
def dkwX5_chooseAnchors_3 : List UInt8 := [185, 0, 76, 2, 0, 192, 0, 58, 180, 0, 62, 164, 0, 20, 44, 21, 4, 44, 21, 4, 46, 4, 44]
abbrev dktX5_chooseAnchors_3 : List UInt8 := dkwX5_chooseAnchors_3 ++ dktX5_chooseAnchors_4
def dkwX5_chooseAnchors_2 : List UInt8 := [162, 0, 57, 43, 21, 5, 185, 0, 76, 2, 0, 192, 0, 58, 180, 0, 62, 43, 21, 4]
abbrev dktX5_chooseAnchors_2 : List UInt8 := dkwX5_chooseAnchors_2 ++ dktX5_chooseAnchors_3
def dkwX5_chooseAnchors_1 : List UInt8 := [155, 0, 94, 44, 21, 4, 4, 79, 21, 4, 4, 96, 54, 5, 21, 5, 43, 185, 0, 22, 1, 0]
abbrev dktX5_chooseAnchors_1 : List UInt8 := dkwX5_chooseAnchors_1 ++ dktX5_chooseAnchors_2
def dkwX5_chooseAnchors_0 : List UInt8 := [43, 185, 0, 22, 1, 0, 188, 10, 77, 3, 62, 43, 185, 0, 22, 1, 0, 4, 100, 54, 4, 21, 4]
abbrev dktX5_chooseAnchors_0 : List UInt8 := dkwX5_chooseAnchors_0 ++ dktX5_chooseAnchors_1
theorem dksX5_chooseAnchors_0 : cX5_chooseAnchors.data.toList.drop 0 = dktX5_chooseAnchors_0 := by decide +kernel
theorem dksX5_chooseAnchors_1 : cX5_chooseAnchors.data.toList.drop 23 = dktX5_chooseAnchors_1 := dk_seg dksX5_chooseAnchors_0 23 rfl rfl
theorem dksX5_chooseAnchors_2 : cX5_chooseAnchors.data.toList.drop 45 = dktX5_chooseAnchors_2 := dk_seg dksX5_chooseAnchors_1 22 rfl rfl
theorem dksX5_chooseAnchors_3 : cX5_chooseAnchors.data.toList.drop 65 = dktX5_chooseAnchors_3 := dk_seg dksX5_chooseAnchors_2 20 rfl rfl
theorem dksX5_chooseAnchors_4 : cX5_chooseAnchors.data.toList.drop 88 = dktX5_chooseAnchors_4 := dk_seg dksX5_chooseAnchors_3 23 rfl rfl
theorem dksX5_chooseAnchors_5 : cX5_chooseAnchors.data.toList.drop 111 = dktX5_chooseAnchors_5 := dk_seg dksX5_chooseAnchors_4 23 rfl rfl
theorem dksX5_chooseAnchors_6 : cX5_chooseAnchors.data.toList.drop 135 = dktX5_chooseAnchors_6 := dk_seg dksX5_chooseAnchors_5 24 rfl rfl
theorem dksX5_chooseAnchors_7 : cX5_chooseAnchors.data.toList.drop 159 = dktX5_chooseAnchors_7 := dk_seg dksX5_chooseAnchors_6 24 rfl rfl
theorem dksX5_chooseAnchors_8 : cX5_chooseAnchors.data.toList.drop 183 = dktX5_chooseAnchors_8 := dk_seg dksX5_chooseAnchors_7 24 rfl rfl
theorem dksX5_chooseAnchors_9 : cX5_chooseAnchors.data.toList.drop 205 = dktX5_chooseAnchors_9 := dk_seg dksX5_chooseAnchors_8 22 rfl rfl
theorem dX5_chooseAnchors_0 : decode cX5_chooseAnchors 0 = .ok (.aload_n 1, 1) := dk_43 (dk_at dksX5_chooseAnchors_0 0 rfl rfl)
theorem dX5_chooseAnchors_1 : decode cX5_chooseAnchors 1 = .ok (.invokeinterface 22 1, 5) := by decide +kernel
theorem dX5_chooseAnchors_6 : decode cX5_chooseAnchors 6 = .ok (.newarray .int, 2) := dk_188_10 (dk_at dksX5_chooseAnchors_0 6 rfl rfl)
theorem dX5_chooseAnchors_8 : decode cX5_chooseAnchors 8 = .ok (.astore_n 2, 1) := dk_77 (dk_at dksX5_chooseAnchors_0 8 rfl rfl)
theorem dX5_chooseAnchors_9 : decode cX5_chooseAnchors 9 = .ok (.iconst 0, 1) := dk_3 (dk_at dksX5_chooseAnchors_0 9 rfl rfl)
theorem dX5_chooseAnchors_10 : decode cX5_chooseAnchors 10 = .ok (.istore_n 3, 1) := dk_62 (dk_at dksX5_chooseAnchors_0 10 rfl rfl)
theorem dX5_chooseAnchors_11 : decode cX5_chooseAnchors 11 = .ok (.aload_n 1, 1) := dk_43 (dk_at dksX5_chooseAnchors_0 11 rfl rfl)
theorem dX5_chooseAnchors_12 : decode cX5_chooseAnchors 12 = .ok (.invokeinterface 22 1, 5) := by decide +kernel
theorem dX5_chooseAnchors_17 : decode cX5_chooseAnchors 17 = .ok (.iconst 1, 1) := dk_4 (dk_at dksX5_chooseAnchors_0 17 rfl rfl)
theorem dX5_chooseAnchors_18 : decode cX5_chooseAnchors 18 = .ok (.isub, 1) := dk_100 (dk_at dksX5_chooseAnchors_0 18 rfl rfl)
theorem dX5_chooseAnchors_19 : decode cX5_chooseAnchors 19 = .ok (.istore 4, 2) := dk_54 4 (dk_at dksX5_chooseAnchors_0 19 rfl rfl)
theorem dX5_chooseAnchors_21 : decode cX5_chooseAnchors 21 = .ok (.iload 4, 2) := dk_21 4 (dk_at dksX5_chooseAnchors_0 21 rfl rfl)
theorem dX5_chooseAnchors_23 : decode cX5_chooseAnchors 23 = .ok (.ifCond .lt 94, 3) := dk_155 0 94 (dk_at dksX5_chooseAnchors_1 0 rfl rfl)
theorem dX5_chooseAnchors_26 : decode cX5_chooseAnchors 26 = .ok (.aload_n 2, 1) := dk_44 (dk_at dksX5_chooseAnchors_1 3 rfl rfl)
theorem dX5_chooseAnchors_27 : decode cX5_chooseAnchors 27 = .ok (.iload 4, 2) := dk_21 4 (dk_at dksX5_chooseAnchors_1 4 rfl rfl)
theorem dX5_chooseAnchors_29 : decode cX5_chooseAnchors 29 = .ok (.iconst 1, 1) := dk_4 (dk_at dksX5_chooseAnchors_1 6 rfl rfl)
theorem dX5_chooseAnchors_30 : decode cX5_chooseAnchors 30 = .ok (.iastore, 1) := dk_79 (dk_at dksX5_chooseAnchors_1 7 rfl rfl)
theorem dX5_chooseAnchors_31 : decode cX5_chooseAnchors 31 = .ok (.iload 4, 2) := dk_21 4 (dk_at dksX5_chooseAnchors_1 8 rfl rfl)
theorem dX5_chooseAnchors_33 : decode cX5_chooseAnchors 33 = .ok (.iconst 1, 1) := dk_4 (dk_at dksX5_chooseAnchors_1 10 rfl rfl)
theorem dX5_chooseAnchors_34 : decode cX5_chooseAnchors 34 = .ok (.iadd, 1) := dk_96 (dk_at dksX5_chooseAnchors_1 11 rfl rfl)
theorem dX5_chooseAnchors_35 : decode cX5_chooseAnchors 35 = .ok (.istore 5, 2) := dk_54 5 (dk_at dksX5_chooseAnchors_1 12 rfl rfl)
theorem dX5_chooseAnchors_37 : decode cX5_chooseAnchors 37 = .ok (.iload 5, 2) := dk_21 5 (dk_at dksX5_chooseAnchors_1 14 rfl rfl)
theorem dX5_chooseAnchors_39 : decode cX5_chooseAnchors 39 = .ok (.aload_n 1, 1) := dk_43 (dk_at dksX5_chooseAnchors_1 16 rfl rfl)
theorem dX5_chooseAnchors_40 : decode cX5_chooseAnchors 40 = .ok (.invokeinterface 22 1, 5) := by decide +kernel
theorem dX5_chooseAnchors_45 : decode cX5_chooseAnchors 45 = .ok (.if_icmp .ge 57, 3) := dk_162 0 57 (dk_at dksX5_chooseAnchors_2 0 rfl rfl)
theorem dX5_chooseAnchors_48 : decode cX5_chooseAnchors 48 = .ok (.aload_n 1, 1) := dk_43 (dk_at dksX5_chooseAnchors_2 3 rfl rfl)
theorem dX5_chooseAnchors_49 : decode cX5_chooseAnchors 49 = .ok (.iload 5, 2) := dk_21 5 (dk_at dksX5_chooseAnchors_2 4 rfl rfl)
theorem dX5_chooseAnchors_51 : decode cX5_chooseAnchors 51 = .ok (.invokeinterface 76 2, 5) := by decide +kernel
theorem dX5_chooseAnchors_56 : decode cX5_chooseAnchors 56 = .ok (.checkcast 58, 3) := dk_192 0 58 (dk_at dksX5_chooseAnchors_2 11 rfl rfl)
theorem dX5_chooseAnchors_59 : decode cX5_chooseAnchors 59 = .ok (.getfield 62, 3) := dk_180 0 62 (dk_at dksX5_chooseAnchors_2 14 rfl rfl)
theorem dX5_chooseAnchors_62 : decode cX5_chooseAnchors 62 = .ok (.aload_n 1, 1) := dk_43 (dk_at dksX5_chooseAnchors_2 17 rfl rfl)
theorem dX5_chooseAnchors_63 : decode cX5_chooseAnchors 63 = .ok (.iload 4, 2) := dk_21 4 (dk_at dksX5_chooseAnchors_2 18 rfl rfl)
theorem dX5_chooseAnchors_65 : decode cX5_chooseAnchors 65 = .ok (.invokeinterface 76 2, 5) := by decide +kernel
theorem dX5_chooseAnchors_70 : decode cX5_chooseAnchors 70 = .ok (.checkcast 58, 3) := dk_192 0 58 (dk_at dksX5_chooseAnchors_3 5 rfl rfl)
theorem dX5_chooseAnchors_73 : decode cX5_chooseAnchors 73 = .ok (.getfield 62, 3) := dk_180 0 62 (dk_at dksX5_chooseAnchors_3 8 rfl rfl)
theorem dX5_chooseAnchors_76 : decode cX5_chooseAnchors 76 = .ok (.if_icmp .le 20, 3) := dk_164 0 20 (dk_at dksX5_chooseAnchors_3 11 rfl rfl)
theorem dX5_chooseAnchors_79 : decode cX5_chooseAnchors 79 = .ok (.aload_n 2, 1) := dk_44 (dk_at dksX5_chooseAnchors_3 14 rfl rfl)
theorem dX5_chooseAnchors_80 : decode cX5_chooseAnchors 80 = .ok (.iload 4, 2) := dk_21 4 (dk_at dksX5_chooseAnchors_3 15 rfl rfl)
theorem dX5_chooseAnchors_82 : decode cX5_chooseAnchors 82 = .ok (.aload_n 2, 1) := dk_44 (dk_at dksX5_chooseAnchors_3 17 rfl rfl)
theorem dX5_chooseAnchors_83 : decode cX5_chooseAnchors 83 = .ok (.iload 4, 2) := dk_21 4 (dk_at dksX5_chooseAnchors_3 18 rfl rfl)
theorem dX5_chooseAnchors_85 : decode cX5_chooseAnchors 85 = .ok (.iaload, 1) := dk_46 (dk_at dksX5_chooseAnchors_3 20 rfl rfl)
theorem dX5_chooseAnchors_86 : decode cX5_chooseAnchors 86 = .ok (.iconst 1, 1) := dk_4 (dk_at dksX5_chooseAnchors_3 21 rfl rfl)
theorem dX5_chooseAnchors_87 : decode cX5_chooseAnchors 87 = .ok (.aload_n 2, 1) := dk_44 (dk_at dksX5_chooseAnchors_3 22 rfl rfl)
theorem dX5_chooseAnchors_88 : decode cX5_chooseAnchors 88 = .ok (.iload 5, 2) := dk_21 5 (dk_at dksX5_chooseAnchors_4 0 rfl rfl)
theorem dX5_chooseAnchors_90 : decode cX5_chooseAnchors 90 = .ok (.iaload, 1) := dk_46 (dk_at dksX5_chooseAnchors_4 2 rfl rfl)
theorem dX5_chooseAnchors_91 : decode cX5_chooseAnchors 91 = .ok (.iadd, 1) := dk_96 (dk_at dksX5_chooseAnchors_4 3 rfl rfl)
theorem dX5_chooseAnchors_92 : decode cX5_chooseAnchors 92 = .ok (.invokestatic 70, 3) := dk_184 0 70 (dk_at dksX5_chooseAnchors_4 4 rfl rfl)
theorem dX5_chooseAnchors_95 : decode cX5_chooseAnchors 95 = .ok (.iastore, 1) := dk_79 (dk_at dksX5_chooseAnchors_4 7 rfl rfl)
theorem dX5_chooseAnchors_96 : decode cX5_chooseAnchors 96 = .ok (.iinc 5 1, 3) := dk_132 5 1 (dk_at dksX5_chooseAnchors_4 8 rfl rfl)
theorem dX5_chooseAnchors_99 : decode cX5_chooseAnchors 99 = .ok (.goto (-62), 3) := dk_167 255 194 (dk_at dksX5_chooseAnchors_4 11 rfl rfl)
theorem dX5_chooseAnchors_102 : decode cX5_chooseAnchors 102 = .ok (.iload_n 3, 1) := dk_29 (dk_at dksX5_chooseAnchors_4 14 rfl rfl)
theorem dX5_chooseAnchors_103 : decode cX5_chooseAnchors 103 = .ok (.aload_n 2, 1) := dk_44 (dk_at dksX5_chooseAnchors_4 15 rfl rfl)
theorem dX5_chooseAnchors_104 : decode cX5_chooseAnchors 104 = .ok (.iload 4, 2) := dk_21 4 (dk_at dksX5_chooseAnchors_4 16 rfl rfl)
theorem dX5_chooseAnchors_106 : decode cX5_chooseAnchors 106 = .ok (.iaload, 1) := dk_46 (dk_at dksX5_chooseAnchors_4 18 rfl rfl)
theorem dX5_chooseAnchors_107 : decode cX5_chooseAnchors 107 = .ok (.invokestatic 70, 3) := dk_184 0 70 (dk_at dksX5_chooseAnchors_4 19 rfl rfl)
theorem dX5_chooseAnchors_110 : decode cX5_chooseAnchors 110 = .ok (.istore_n 3, 1) := dk_62 (dk_at dksX5_chooseAnchors_4 22 rfl rfl)
theorem dX5_chooseAnchors_111 : decode cX5_chooseAnchors 111 = .ok (.iinc 4 (-1), 3) := dk_132 4 255 (dk_at dksX5_chooseAnchors_5 0 rfl rfl)
theorem dX5_chooseAnchors_114 : decode cX5_chooseAnchors 114 = .ok (.goto (-93), 3) := dk_167 255 163 (dk_at dksX5_chooseAnchors_5 3 rfl rfl)
theorem dX5_chooseAnchors_117 : decode cX5_chooseAnchors 117 = .ok (.new 7, 3) := dk_187 0 7 (dk_at dksX5_chooseAnchors_5 6 rfl rfl)
theorem dX5_chooseAnchors_120 : decode cX5_chooseAnchors 120 = .ok (.dup, 1) := dk_89 (dk_at dksX5_chooseAnchors_5 9 rfl rfl)
theorem dX5_chooseAnchors_121 : decode cX5_chooseAnchors 121 = .ok (.invokespecial 9, 3) := dk_183 0 9 (dk_at dksX5_chooseAnchors_5 10 rfl rfl)
theorem dX5_chooseAnchors_124 : decode cX5_chooseAnchors 124 = .ok (.astore 4, 2) := dk_58 4 (dk_at dksX5_chooseAnchors_5 13 rfl rfl)
theorem dX5_chooseAnchors_126 : decode cX5_chooseAnchors 126 = .ok (.iconst (-1), 1) := dk_2 (dk_at dksX5_chooseAnchors_5 15 rfl rfl)
theorem dX5_chooseAnchors_127 : decode cX5_chooseAnchors 127 = .ok (.istore 5, 2) := dk_54 5 (dk_at dksX5_chooseAnchors_5 16 rfl rfl)
theorem dX5_chooseAnchors_129 : decode cX5_chooseAnchors 129 = .ok (.iconst 0, 1) := dk_3 (dk_at dksX5_chooseAnchors_5 18 rfl rfl)
theorem dX5_chooseAnchors_130 : decode cX5_chooseAnchors 130 = .ok (.istore 6, 2) := dk_54 6 (dk_at dksX5_chooseAnchors_5 19 rfl rfl)
theorem dX5_chooseAnchors_132 : decode cX5_chooseAnchors 132 = .ok (.iload 6, 2) := dk_21 6 (dk_at dksX5_chooseAnchors_5 21 rfl rfl)
theorem dX5_chooseAnchors_134 : decode cX5_chooseAnchors 134 = .ok (.aload_n 1, 1) := dk_43 (dk_at dksX5_chooseAnchors_5 23 rfl rfl)
theorem dX5_chooseAnchors_135 : decode cX5_chooseAnchors 135 = .ok (.invokeinterface 22 1, 5) := by decide +kernel
theorem dX5_chooseAnchors_140 : decode cX5_chooseAnchors 140 = .ok (.if_icmp .ge 79, 3) := dk_162 0 79 (dk_at dksX5_chooseAnchors_6 5 rfl rfl)
theorem dX5_chooseAnchors_143 : decode cX5_chooseAnchors 143 = .ok (.aload_n 2, 1) := dk_44 (dk_at dksX5_chooseAnchors_6 8 rfl rfl)
theorem dX5_chooseAnchors_144 : decode cX5_chooseAnchors 144 = .ok (.iload 6, 2) := dk_21 6 (dk_at dksX5_chooseAnchors_6 9 rfl rfl)
theorem dX5_chooseAnchors_146 : decode cX5_chooseAnchors 146 = .ok (.iaload, 1) := dk_46 (dk_at dksX5_chooseAnchors_6 11 rfl rfl)
theorem dX5_chooseAnchors_147 : decode cX5_chooseAnchors 147 = .ok (.iload_n 3, 1) := dk_29 (dk_at dksX5_chooseAnchors_6 12 rfl rfl)
theorem dX5_chooseAnchors_148 : decode cX5_chooseAnchors 148 = .ok (.aload 4, 2) := dk_25 4 (dk_at dksX5_chooseAnchors_6 13 rfl rfl)
theorem dX5_chooseAnchors_150 : decode cX5_chooseAnchors 150 = .ok (.invokeinterface 22 1, 5) := by decide +kernel
theorem dX5_chooseAnchors_155 : decode cX5_chooseAnchors 155 = .ok (.isub, 1) := dk_100 (dk_at dksX5_chooseAnchors_6 20 rfl rfl)
theorem dX5_chooseAnchors_156 : decode cX5_chooseAnchors 156 = .ok (.if_icmp .ne 57, 3) := dk_160 0 57 (dk_at dksX5_chooseAnchors_6 21 rfl rfl)
theorem dX5_chooseAnchors_159 : decode cX5_chooseAnchors 159 = .ok (.aload_n 1, 1) := dk_43 (dk_at dksX5_chooseAnchors_7 0 rfl rfl)
theorem dX5_chooseAnchors_160 : decode cX5_chooseAnchors 160 = .ok (.iload 6, 2) := dk_21 6 (dk_at dksX5_chooseAnchors_7 1 rfl rfl)
theorem dX5_chooseAnchors_162 : decode cX5_chooseAnchors 162 = .ok (.invokeinterface 76 2, 5) := by decide +kernel
theorem dX5_chooseAnchors_167 : decode cX5_chooseAnchors 167 = .ok (.checkcast 58, 3) := dk_192 0 58 (dk_at dksX5_chooseAnchors_7 8 rfl rfl)
theorem dX5_chooseAnchors_170 : decode cX5_chooseAnchors 170 = .ok (.getfield 62, 3) := dk_180 0 62 (dk_at dksX5_chooseAnchors_7 11 rfl rfl)
theorem dX5_chooseAnchors_173 : decode cX5_chooseAnchors 173 = .ok (.iload 5, 2) := dk_21 5 (dk_at dksX5_chooseAnchors_7 14 rfl rfl)
theorem dX5_chooseAnchors_175 : decode cX5_chooseAnchors 175 = .ok (.if_icmp .le 38, 3) := dk_164 0 38 (dk_at dksX5_chooseAnchors_7 16 rfl rfl)
theorem dX5_chooseAnchors_178 : decode cX5_chooseAnchors 178 = .ok (.aload 4, 2) := dk_25 4 (dk_at dksX5_chooseAnchors_7 19 rfl rfl)
theorem dX5_chooseAnchors_180 : decode cX5_chooseAnchors 180 = .ok (.aload_n 1, 1) := dk_43 (dk_at dksX5_chooseAnchors_7 21 rfl rfl)
theorem dX5_chooseAnchors_181 : decode cX5_chooseAnchors 181 = .ok (.iload 6, 2) := dk_21 6 (dk_at dksX5_chooseAnchors_7 22 rfl rfl)
theorem dX5_chooseAnchors_183 : decode cX5_chooseAnchors 183 = .ok (.invokeinterface 76 2, 5) := by decide +kernel
theorem dX5_chooseAnchors_188 : decode cX5_chooseAnchors 188 = .ok (.checkcast 58, 3) := dk_192 0 58 (dk_at dksX5_chooseAnchors_8 5 rfl rfl)
theorem dX5_chooseAnchors_191 : decode cX5_chooseAnchors 191 = .ok (.invokeinterface 64 2, 5) := by decide +kernel
theorem dX5_chooseAnchors_196 : decode cX5_chooseAnchors 196 = .ok (.pop, 1) := dk_87 (dk_at dksX5_chooseAnchors_8 13 rfl rfl)
theorem dX5_chooseAnchors_197 : decode cX5_chooseAnchors 197 = .ok (.aload_n 1, 1) := dk_43 (dk_at dksX5_chooseAnchors_8 14 rfl rfl)
theorem dX5_chooseAnchors_198 : decode cX5_chooseAnchors 198 = .ok (.iload 6, 2) := dk_21 6 (dk_at dksX5_chooseAnchors_8 15 rfl rfl)
theorem dX5_chooseAnchors_200 : decode cX5_chooseAnchors 200 = .ok (.invokeinterface 76 2, 5) := by decide +kernel
theorem dX5_chooseAnchors_205 : decode cX5_chooseAnchors 205 = .ok (.checkcast 58, 3) := dk_192 0 58 (dk_at dksX5_chooseAnchors_9 0 rfl rfl)
theorem dX5_chooseAnchors_208 : decode cX5_chooseAnchors 208 = .ok (.getfield 62, 3) := dk_180 0 62 (dk_at dksX5_chooseAnchors_9 3 rfl rfl)
theorem dX5_chooseAnchors_211 : decode cX5_chooseAnchors 211 = .ok (.istore 5, 2) := dk_54 5 (dk_at dksX5_chooseAnchors_9 6 rfl rfl)
theorem dX5_chooseAnchors_213 : decode cX5_chooseAnchors 213 = .ok (.iinc 6 1, 3) := dk_132 6 1 (dk_at dksX5_chooseAnchors_9 8 rfl rfl)
theorem dX5_chooseAnchors_216 : decode cX5_chooseAnchors 216 = .ok (.goto (-84), 3) := dk_167 255 172 (dk_at dksX5_chooseAnchors_9 11 rfl rfl)
theorem dX5_chooseAnchors_219 : decode cX5_chooseAnchors 219 = .ok (.aload 4, 2) := dk_25 4 (dk_at dksX5_chooseAnchors_9 14 rfl rfl)
theorem dX5_chooseAnchors_221 : decode cX5_chooseAnchors 221 = .ok (.areturn, 1) := dk_176 (dk_at dksX5_chooseAnchors_9 16 rfl rfl)
theorem q123 : (Jvm.Cond.initialized "MergeWorkbench$Aligner") ∈ lw_all := lw_g (lw_at lw_m1 40 rfl) rfl
theorem q294 : (Jvm.Cond.selects "MergeWorkbench$Aligner" ({ cls := "java/lang/Object", name := "getClass", desc := "()Ljava/lang/Class;" } : Jvm.MethodName) ({ cls := "java/lang/Object", name := "getClass", desc := "()Ljava/lang/Class;" } : Jvm.MethodName)) ∈ lw_all := lw_g (lw_at lw_m1 211 rfl) rfl
theorem q1462 : (Jvm.Cond.selects "MergeWorkbench$Aligner" ({ cls := "java/lang/Object", name := "equals", desc := "(Ljava/lang/Object;)Z" } : Jvm.MethodName) ({ cls := "java/lang/Object", name := "equals", desc := "(Ljava/lang/Object;)Z" } : Jvm.MethodName)) ∈ lw_all := lw_g (lw_at lw_m6 179 rfl) rfl
theorem q1634 : (Jvm.Cond.instantiable "MergeWorkbench$Aligner" (4 : Nat)) ∈ lw_all := lw_g (lw_at lw_m7 111 rfl) rfl
theorem q1636 : (Jvm.Cond.instanceMethod ({ cls := "MergeWorkbench$Aligner", name := "<init>", desc := "(Ljava/util/List;Ljava/util/List;)V" } : Jvm.MethodName)) ∈ lw_all := lw_g (lw_at lw_m7 113 rfl) rfl
theorem q1637 : (Jvm.Cond.code ({ cls := "MergeWorkbench$Aligner", name := "<init>", desc := "(Ljava/util/List;Ljava/util/List;)V" } : Jvm.MethodName) prog_2_method_1_code (3 : Nat) (Option.none : Option Jvm.ClassFile.FieldType)) ∈ lw_all := lw_g (lw_at lw_m7 114 rfl) rfl
theorem q1638 : (Jvm.Cond.methodLink "MergeWorkbench$Aligner" (1 : Nat) ({ cls := "java/lang/Object", name := "<init>", desc := "()V" } : Jvm.MethodName)) ∈ lw_all := lw_g (lw_at lw_m7 115 rfl) rfl
theorem q1639 : (Jvm.Cond.classLink "MergeWorkbench$Aligner" (7 : Nat) "java/util/ArrayList") ∈ lw_all := lw_g (lw_at lw_m7 116 rfl) rfl
theorem q1640 : (Jvm.Cond.methodLink "MergeWorkbench$Aligner" (9 : Nat) ({ cls := "java/util/ArrayList", name := "<init>", desc := "()V" } : Jvm.MethodName)) ∈ lw_all := lw_g (lw_at lw_m7 117 rfl) rfl
theorem q1641 : (Jvm.Cond.fieldLink "MergeWorkbench$Aligner" (16 : Nat) "MergeWorkbench$Aligner" "a" "Ljava/util/List;") ∈ lw_all := lw_g (lw_at lw_m7 118 rfl) rfl
theorem q1642 : (Jvm.Cond.fieldLink "MergeWorkbench$Aligner" (19 : Nat) "MergeWorkbench$Aligner" "b" "Ljava/util/List;") ∈ lw_all := lw_g (lw_at lw_m7 119 rfl) rfl
theorem q1643 : (Jvm.Cond.fieldLink "MergeWorkbench$Aligner" (10 : Nat) "MergeWorkbench$Aligner" "matches" "Ljava/util/List;") ∈ lw_all := lw_g (lw_at lw_m7 120 rfl) rfl
theorem q1645 : (Jvm.Cond.fieldLink "MergeWorkbench$Aligner" (40 : Nat) "MergeWorkbench$Aligner" "anchors" "I") ∈ lw_all := lw_g (lw_at lw_m7 122 rfl) rfl
theorem q1646 : (Jvm.Cond.laysFinal "MergeWorkbench$Aligner" "MergeWorkbench$Aligner" "a" "Ljava/util/List;") ∈ lw_all := lw_g (lw_at lw_m7 123 rfl) rfl
theorem q1647 : (Jvm.Cond.soleField "MergeWorkbench$Aligner" "a") ∈ lw_all := lw_g (lw_at lw_m7 124 rfl) rfl
theorem q1648 : (Jvm.Cond.laysFinal "MergeWorkbench$Aligner" "MergeWorkbench$Aligner" "b" "Ljava/util/List;") ∈ lw_all := lw_g (lw_at lw_m7 125 rfl) rfl
theorem q1649 : (Jvm.Cond.soleField "MergeWorkbench$Aligner" "b") ∈ lw_all := lw_g (lw_at lw_m7 126 rfl) rfl
theorem q1650 : (Jvm.Cond.laysFinal "MergeWorkbench$Aligner" "MergeWorkbench$Aligner" "matches" "Ljava/util/List;") ∈ lw_all := lw_g (lw_at lw_m7 127 rfl) rfl
theorem q1651 : (Jvm.Cond.soleField "MergeWorkbench$Aligner" "matches") ∈ lw_all := lw_g (lw_at lw_m7 128 rfl) rfl
theorem q1652 : (Jvm.Cond.lays "MergeWorkbench$Aligner" "MergeWorkbench$Aligner" "anchors" "I") ∈ lw_all := lw_g (lw_at lw_m7 129 rfl) rfl
theorem q1653 : (Jvm.Cond.soleField "MergeWorkbench$Aligner" "anchors") ∈ lw_all := lw_g (lw_at lw_m7 130 rfl) rfl
theorem q1654 : (Jvm.Cond.superclass "MergeWorkbench$Aligner" "java/lang/Object") ∈ lw_all := lw_g (lw_at lw_m7 131 rfl) rfl
theorem q1656 : (Jvm.Cond.instanceMethod ({ cls := "MergeWorkbench$Aligner", name := "plain", desc := "()Ljava/util/List;" } : Jvm.MethodName)) ∈ lw_all := lw_g (lw_at lw_m7 133 rfl) rfl
theorem q1657 : (Jvm.Cond.selects "MergeWorkbench$Aligner" ({ cls := "MergeWorkbench$Aligner", name := "plain", desc := "()Ljava/util/List;" } : Jvm.MethodName) ({ cls := "MergeWorkbench$Aligner", name := "plain", desc := "()Ljava/util/List;" } : Jvm.MethodName)) ∈ lw_all := lw_g (lw_at lw_m7 134 rfl) rfl
theorem q1658 : (Jvm.Cond.code ({ cls := "MergeWorkbench$Aligner", name := "plain", desc := "()Ljava/util/List;" } : Jvm.MethodName) prog_2_method_2_code (1 : Nat) (Option.some (Jvm.ClassFile.FieldType.object "java/util/List"))) ∈ lw_all := lw_g (lw_at lw_m7 135 rfl) rfl
theorem q1659 : (Jvm.Cond.interfaceEntry "MergeWorkbench$Aligner" (22 : Nat)) ∈ lw_tbl := lw_at lw_m7 136 rfl
theorem q1660 : (Jvm.Cond.methodLink "MergeWorkbench$Aligner" (22 : Nat) ({ cls := "java/util/List", name := "size", desc := "()I" } : Jvm.MethodName)) ∈ lw_all := lw_g (lw_at lw_m7 137 rfl) rfl
theorem q1661 : (Jvm.Cond.methodLink "MergeWorkbench$Aligner" (28 : Nat) ({ cls := "MergeWorkbench$Aligner", name := "align", desc := "(IIII)V" } : Jvm.MethodName)) ∈ lw_all := lw_g (lw_at lw_m7 138 rfl) rfl
theorem q1662 : (Jvm.Cond.privateMethod ({ cls := "MergeWorkbench$Aligner", name := "align", desc := "(IIII)V" } : Jvm.MethodName)) ∈ lw_tbl := lw_at lw_m7 139 rfl
theorem q1663 : (Jvm.Cond.instanceMethod ({ cls := "MergeWorkbench$Aligner", name := "align", desc := "(IIII)V" } : Jvm.MethodName)) ∈ lw_all := lw_g (lw_at lw_m7 140 rfl) rfl
theorem q1664 : (Jvm.Cond.code ({ cls := "MergeWorkbench$Aligner", name := "align", desc := "(IIII)V" } : Jvm.MethodName) prog_2_method_5_code (9 : Nat) (Option.none : Option Jvm.ClassFile.FieldType)) ∈ lw_all := lw_g (lw_at lw_m7 141 rfl) rfl
theorem q1665 : (Jvm.Cond.methodLink "MergeWorkbench$Aligner" (85 : Nat) ({ cls := "MergeWorkbench$Aligner", name := "lengths", desc := "(IIII)[[I" } : Jvm.MethodName)) ∈ lw_all := lw_g (lw_at lw_m7 142 rfl) rfl
theorem q1666 : (Jvm.Cond.privateMethod ({ cls := "MergeWorkbench$Aligner", name := "lengths", desc := "(IIII)[[I" } : Jvm.MethodName)) ∈ lw_tbl := lw_at lw_m7 143 rfl
theorem q1667 : (Jvm.Cond.instanceMethod ({ cls := "MergeWorkbench$Aligner", name := "lengths", desc := "(IIII)[[I" } : Jvm.MethodName)) ∈ lw_all := lw_g (lw_at lw_m7 144 rfl) rfl
theorem q1668 : (Jvm.Cond.code ({ cls := "MergeWorkbench$Aligner", name := "lengths", desc := "(IIII)[[I" } : Jvm.MethodName) prog_2_method_4_code (10 : Nat) (Option.some (Jvm.ClassFile.FieldType.array (Jvm.ClassFile.FieldType.array Jvm.ClassFile.FieldType.int)))) ∈ lw_all := lw_g (lw_at lw_m7 145 rfl) rfl
theorem q1669 : (Jvm.Cond.classLink "MergeWorkbench$Aligner" (68 : Nat) "[[I") ∈ lw_all := lw_g (lw_at lw_m7 146 rfl) rfl
theorem q1671 : (Jvm.Cond.methodLink "MergeWorkbench$Aligner" (70 : Nat) ({ cls := "java/lang/Math", name := "max", desc := "(II)I" } : Jvm.MethodName)) ∈ lw_all := lw_g (lw_at lw_m7 148 rfl) rfl
theorem q1672 : (Jvm.Cond.interfaceEntry "MergeWorkbench$Aligner" (76 : Nat)) ∈ lw_tbl := lw_at lw_m7 149 rfl
theorem q1673 : (Jvm.Cond.methodLink "MergeWorkbench$Aligner" (76 : Nat) ({ cls := "java/util/List", name := "get", desc := "(I)Ljava/lang/Object;" } : Jvm.MethodName)) ∈ lw_all := lw_g (lw_at lw_m7 150 rfl) rfl
theorem q1674 : (Jvm.Cond.classLink "MergeWorkbench$Aligner" (80 : Nat) "java/lang/Comparable") ∈ lw_all := lw_g (lw_at lw_m7 151 rfl) rfl
theorem q1675 : (Jvm.Cond.interfaceEntry "MergeWorkbench$Aligner" (82 : Nat)) ∈ lw_tbl := lw_at lw_m7 152 rfl
theorem q1676 : (Jvm.Cond.methodLink "MergeWorkbench$Aligner" (82 : Nat) ({ cls := "java/lang/Comparable", name := "equals", desc := "(Ljava/lang/Object;)Z" } : Jvm.MethodName)) ∈ lw_all := lw_g (lw_at lw_m7 153 rfl) rfl
theorem q1687 : (Jvm.Cond.methodLink "MergeWorkbench$Aligner" (89 : Nat) ({ cls := "MergeWorkbench$Aligner", name := "firstLike", desc := "(Ljava/lang/Comparable;II)I" } : Jvm.MethodName)) ∈ lw_all := lw_g (lw_at lw_m7 164 rfl) rfl
theorem q1688 : (Jvm.Cond.privateMethod ({ cls := "MergeWorkbench$Aligner", name := "firstLike", desc := "(Ljava/lang/Comparable;II)I" } : Jvm.MethodName)) ∈ lw_tbl := lw_at lw_m7 165 rfl
theorem q1689 : (Jvm.Cond.instanceMethod ({ cls := "MergeWorkbench$Aligner", name := "firstLike", desc := "(Ljava/lang/Comparable;II)I" } : Jvm.MethodName)) ∈ lw_all := lw_g (lw_at lw_m7 166 rfl) rfl
theorem q1690 : (Jvm.Cond.code ({ cls := "MergeWorkbench$Aligner", name := "firstLike", desc := "(Ljava/lang/Comparable;II)I" } : Jvm.MethodName) prog_2_method_6_code (5 : Nat) (Option.some Jvm.ClassFile.FieldType.int)) ∈ lw_all := lw_g (lw_at lw_m7 167 rfl) rfl
theorem q1691 : (Jvm.Cond.interfaceEntry "MergeWorkbench$Aligner" (96 : Nat)) ∈ lw_tbl := lw_at lw_m7 168 rfl
theorem q1692 : (Jvm.Cond.methodLink "MergeWorkbench$Aligner" (96 : Nat) ({ cls := "java/lang/Comparable", name := "equals", desc := "(Ljava/lang/Object;)Z" } : Jvm.MethodName)) ∈ lw_all := lw_g (lw_at lw_m7 169 rfl) rfl
theorem q1693 : (Jvm.Cond.classLink "MergeWorkbench$Aligner" (58 : Nat) "MergeWorkbench$Match") ∈ lw_all := lw_g (lw_at lw_m7 170 rfl) rfl
theorem q1695 : (Jvm.Cond.methodLink "MergeWorkbench$Aligner" (93 : Nat) ({ cls := "MergeWorkbench$Match", name := "<init>", desc := "(II)V" } : Jvm.MethodName)) ∈ lw_all := lw_g (lw_at lw_m7 172 rfl) rfl
theorem q1702 : (Jvm.Cond.fieldLinkNest "MergeWorkbench$Aligner" (60 : Nat) "MergeWorkbench$Match" "a" "I" "MergeWorkbench") ∈ lw_tbl := lw_at lw_m7 179 rfl
theorem q1706 : (Jvm.Cond.fieldLinkNest "MergeWorkbench$Aligner" (62 : Nat) "MergeWorkbench$Match" "b" "I" "MergeWorkbench") ∈ lw_tbl := lw_at lw_m7 183 rfl
theorem q1713 : (Jvm.Cond.interfaceEntry "MergeWorkbench$Aligner" (64 : Nat)) ∈ lw_tbl := lw_at lw_m7 190 rfl
theorem q1714 : (Jvm.Cond.methodLink "MergeWorkbench$Aligner" (64 : Nat) ({ cls := "java/util/List", name := "add", desc := "(Ljava/lang/Object;)Z" } : Jvm.MethodName)) ∈ lw_all := lw_g (lw_at lw_m7 191 rfl) rfl
theorem q2197 : (Jvm.Cond.instanceMethod ({ cls := "MergeWorkbench$Aligner", name := "anchored", desc := "()Ljava/util/List;" } : Jvm.MethodName)) ∈ lw_all := lw_g (lw_at lw_m9 194 rfl) rfl
theorem q2198 : (Jvm.Cond.selects "MergeWorkbench$Aligner" ({ cls := "MergeWorkbench$Aligner", name := "anchored", desc := "()Ljava/util/List;" } : Jvm.MethodName) ({ cls := "MergeWorkbench$Aligner", name := "anchored", desc := "()Ljava/util/List;" } : Jvm.MethodName)) ∈ lw_all := lw_g (lw_at lw_m9 195 rfl) rfl
theorem q2199 : (Jvm.Cond.code ({ cls := "MergeWorkbench$Aligner", name := "anchored", desc := "()Ljava/util/List;" } : Jvm.MethodName) prog_2_method_3_code (6 : Nat) (Option.some (Jvm.ClassFile.FieldType.object "java/util/List"))) ∈ lw_all := lw_g (lw_at lw_m9 196 rfl) rfl
theorem q2200 : (Jvm.Cond.methodLink "MergeWorkbench$Aligner" (32 : Nat) ({ cls := "MergeWorkbench$Aligner", name := "candidates", desc := "()Ljava/util/List;" } : Jvm.MethodName)) ∈ lw_all := lw_g (lw_at lw_m9 197 rfl) rfl
theorem q2201 : (Jvm.Cond.privateMethod ({ cls := "MergeWorkbench$Aligner", name := "candidates", desc := "()Ljava/util/List;" } : Jvm.MethodName)) ∈ lw_tbl := lw_at lw_m9 198 rfl
theorem q2202 : (Jvm.Cond.instanceMethod ({ cls := "MergeWorkbench$Aligner", name := "candidates", desc := "()Ljava/util/List;" } : Jvm.MethodName)) ∈ lw_all := lw_g (lw_at lw_m9 199 rfl) rfl
theorem q2203 : (Jvm.Cond.code ({ cls := "MergeWorkbench$Aligner", name := "candidates", desc := "()Ljava/util/List;" } : Jvm.MethodName) prog_2_method_8_code (6 : Nat) (Option.some (Jvm.ClassFile.FieldType.object "java/util/List"))) ∈ lw_all := lw_g (lw_at lw_m9 200 rfl) rfl
theorem q2204 : (Jvm.Cond.methodLink "MergeWorkbench$Aligner" (113 : Nat) ({ cls := "MergeWorkbench$Aligner", name := "single", desc := "(Ljava/util/List;)Ljava/util/TreeMap;" } : Jvm.MethodName)) ∈ lw_all := lw_g (lw_at lw_m9 201 rfl) rfl
theorem q2205 : (Jvm.Cond.privateMethod ({ cls := "MergeWorkbench$Aligner", name := "single", desc := "(Ljava/util/List;)Ljava/util/TreeMap;" } : Jvm.MethodName)) ∈ lw_tbl := lw_at lw_m9 202 rfl
theorem q2206 : (Jvm.Cond.instanceMethod ({ cls := "MergeWorkbench$Aligner", name := "single", desc := "(Ljava/util/List;)Ljava/util/TreeMap;" } : Jvm.MethodName)) ∈ lw_all := lw_g (lw_at lw_m9 203 rfl) rfl
theorem q2207 : (Jvm.Cond.code ({ cls := "MergeWorkbench$Aligner", name := "single", desc := "(Ljava/util/List;)Ljava/util/TreeMap;" } : Jvm.MethodName) prog_2_method_7_code (5 : Nat) (Option.some (Jvm.ClassFile.FieldType.object "java/util/TreeMap"))) ∈ lw_all := lw_g (lw_at lw_m9 204 rfl) rfl
theorem q2208 : (Jvm.Cond.classLink "MergeWorkbench$Aligner" (97 : Nat) "java/util/TreeMap") ∈ lw_all := lw_g (lw_at lw_m9 205 rfl) rfl
theorem q2210 : (Jvm.Cond.methodLink "MergeWorkbench$Aligner" (99 : Nat) ({ cls := "java/util/TreeMap", name := "<init>", desc := "()V" } : Jvm.MethodName)) ∈ lw_all := lw_g (lw_at lw_m9 207 rfl) rfl
theorem q2241 : (Jvm.Cond.methodLink "MergeWorkbench$Aligner" (100 : Nat) ({ cls := "java/util/TreeMap", name := "containsKey", desc := "(Ljava/lang/Object;)Z" } : Jvm.MethodName)) ∈ lw_all := lw_g (lw_at lw_m9 238 rfl) rfl
theorem q2261 : (Jvm.Cond.methodLink "MergeWorkbench$Aligner" (103 : Nat) ({ cls := "java/lang/Integer", name := "valueOf", desc := "(I)Ljava/lang/Integer;" } : Jvm.MethodName)) ∈ lw_all := lw_g (lw_at lw_m10 18 rfl) rfl
theorem q2262 : (Jvm.Cond.methodLink "MergeWorkbench$Aligner" (109 : Nat) ({ cls := "java/util/TreeMap", name := "put", desc := "(Ljava/lang/Object;Ljava/lang/Object;)Ljava/lang/Object;" } : Jvm.MethodName)) ∈ lw_all := lw_g (lw_at lw_m10 19 rfl) rfl
theorem q2338 : (Jvm.Cond.methodLink "MergeWorkbench$Aligner" (117 : Nat) ({ cls := "java/util/TreeMap", name := "get", desc := "(Ljava/lang/Object;)Ljava/lang/Object;" } : Jvm.MethodName)) ∈ lw_all := lw_g (lw_at lw_m10 95 rfl) rfl
theorem q2342 : (Jvm.Cond.classLink "MergeWorkbench$Aligner" (104 : Nat) "java/lang/Integer") ∈ lw_all := lw_g (lw_at lw_m10 99 rfl) rfl
theorem q2343 : (Jvm.Cond.methodLink "MergeWorkbench$Aligner" (120 : Nat) ({ cls := "java/lang/Integer", name := "intValue", desc := "()I" } : Jvm.MethodName)) ∈ lw_all := lw_g (lw_at lw_m10 100 rfl) rfl
theorem q2344 : (Jvm.Cond.methodLink "MergeWorkbench$Aligner" (36 : Nat) ({ cls := "MergeWorkbench$Aligner", name := "chooseAnchors", desc := "(Ljava/util/List;)Ljava/util/List;" } : Jvm.MethodName)) ∈ lw_all := lw_g (lw_at lw_m10 101 rfl) rfl
theorem q2345 : (Jvm.Cond.privateMethod ({ cls := "MergeWorkbench$Aligner", name := "chooseAnchors", desc := "(Ljava/util/List;)Ljava/util/List;" } : Jvm.MethodName)) ∈ lw_tbl := lw_at lw_m10 102 rfl
theorem q2346 : (Jvm.Cond.instanceMethod ({ cls := "MergeWorkbench$Aligner", name := "chooseAnchors", desc := "(Ljava/util/List;)Ljava/util/List;" } : Jvm.MethodName)) ∈ lw_all := lw_g (lw_at lw_m10 103 rfl) rfl
theorem q2347 : (Jvm.Cond.code ({ cls := "MergeWorkbench$Aligner", name := "chooseAnchors", desc := "(Ljava/util/List;)Ljava/util/List;" } : Jvm.MethodName) prog_2_method_9_code (7 : Nat) (Option.some (Jvm.ClassFile.FieldType.object "java/util/List"))) ∈ lw_all := lw_g (lw_at lw_m10 104 rfl) rfl
theorem q2348 : (Jvm.Cond.interfaceEntry "MergeWorkbench$Aligner" (44 : Nat)) ∈ lw_tbl := lw_at lw_m10 105 rfl
theorem q2349 : (Jvm.Cond.methodLink "MergeWorkbench$Aligner" (44 : Nat) ({ cls := "java/util/List", name := "iterator", desc := "()Ljava/util/Iterator;" } : Jvm.MethodName)) ∈ lw_all := lw_g (lw_at lw_m10 106 rfl) rfl
theorem q2350 : (Jvm.Cond.interfaceEntry "MergeWorkbench$Aligner" (48 : Nat)) ∈ lw_tbl := lw_at lw_m10 107 rfl
theorem q2351 : (Jvm.Cond.methodLink "MergeWorkbench$Aligner" (48 : Nat) ({ cls := "java/util/Iterator", name := "hasNext", desc := "()Z" } : Jvm.MethodName)) ∈ lw_all := lw_g (lw_at lw_m10 108 rfl) rfl
theorem q2352 : (Jvm.Cond.interfaceEntry "MergeWorkbench$Aligner" (54 : Nat)) ∈ lw_tbl := lw_at lw_m10 109 rfl
theorem q2353 : (Jvm.Cond.methodLink "MergeWorkbench$Aligner" (54 : Nat) ({ cls := "java/util/Iterator", name := "next", desc := "()Ljava/lang/Object;" } : Jvm.MethodName)) ∈ lw_all := lw_g (lw_at lw_m10 110 rfl) rfl
theorem q3919 : (Jvm.Cond.castable "MergeWorkbench$Aligner" "java/lang/Object") ∈ lw_tbl := lw_at lw_m16 236 rfl
theorem in_X5 : ∀ w ∈ wsX50, w ∈ lw_all := lw_in wsX50 [1646, 1648, 1650, 1652] (by decide +kernel) (by decide +kernel)

/-! MergeWorkbench$Match -/
set_option maxRecDepth 100000
def RX6 : String := "MergeWorkbench$Match"
def TX6 : u_T := fun k => match k with
  | 0 => ("MergeWorkbench$Match", "a", "I", true)
  | _ => ("MergeWorkbench$Match", "b", "I", true)
def tyX6 : Nat → FieldType := fun k => match k with
  | 0 => .int
  | _ => .int
abbrev wsX60 : List Cond := u_ws RX6 TX6 2
theorem nmX6 : ∀ a, a < 2 → ∀ b, b < 2 → a ≠ b → (TX6 a).2.1 ≠ (TX6 b).2.1 := by decide +kernel
theorem tyX6_ok : ∀ k, k < 2 → parseFieldDescriptor (TX6 k).2.2.1 = some (tyX6 k) := by decide +kernel
abbrev cX6_init : ByteArray := prog_12_method_1_code
def yX6_init : MethodName := ⟨RX6, "<init>", "(II)V"⟩
def dkwX6_init_0 : List UInt8 := [42, 183, 0, 1, 42, 27, 181, 0, 7, 42, 28, 181, 0, 13, 177]
abbrev dktX6_init_0 : List UInt8 := dkwX6_init_0 ++ []
theorem dksX6_init_0 : cX6_init.data.toList.drop 0 = dktX6_init_0 := by decide +kernel
theorem dX6_init_0 : decode cX6_init 0 = .ok (.aload_n 0, 1) := dk_42 (dk_at dksX6_init_0 0 rfl rfl)
theorem dX6_init_1 : decode cX6_init 1 = .ok (.invokespecial 1, 3) := dk_183 0 1 (dk_at dksX6_init_0 1 rfl rfl)
theorem dX6_init_4 : decode cX6_init 4 = .ok (.aload_n 0, 1) := dk_42 (dk_at dksX6_init_0 4 rfl rfl)
theorem dX6_init_5 : decode cX6_init 5 = .ok (.iload_n 1, 1) := dk_27 (dk_at dksX6_init_0 5 rfl rfl)
theorem dX6_init_6 : decode cX6_init 6 = .ok (.putfield 7, 3) := dk_181 0 7 (dk_at dksX6_init_0 6 rfl rfl)
theorem dX6_init_9 : decode cX6_init 9 = .ok (.aload_n 0, 1) := dk_42 (dk_at dksX6_init_0 9 rfl rfl)
theorem dX6_init_10 : decode cX6_init 10 = .ok (.iload_n 2, 1) := dk_28 (dk_at dksX6_init_0 10 rfl rfl)
theorem dX6_init_11 : decode cX6_init 11 = .ok (.putfield 13, 3) := dk_181 0 13 (dk_at dksX6_init_0 11 rfl rfl)
theorem dX6_init_14 : decode cX6_init 14 = .ok (.return_, 1) := dk_177 (dk_at dksX6_init_0 14 rfl rfl)
theorem q124 : (Jvm.Cond.initialized "MergeWorkbench$Match") ∈ lw_all := lw_g (lw_at lw_m1 41 rfl) rfl
theorem q304 : (Jvm.Cond.selects "MergeWorkbench$Match" ({ cls := "java/lang/Object", name := "getClass", desc := "()Ljava/lang/Class;" } : Jvm.MethodName) ({ cls := "java/lang/Object", name := "getClass", desc := "()Ljava/lang/Class;" } : Jvm.MethodName)) ∈ lw_all := lw_g (lw_at lw_m1 221 rfl) rfl
theorem q1472 : (Jvm.Cond.selects "MergeWorkbench$Match" ({ cls := "java/lang/Object", name := "equals", desc := "(Ljava/lang/Object;)Z" } : Jvm.MethodName) ({ cls := "java/lang/Object", name := "equals", desc := "(Ljava/lang/Object;)Z" } : Jvm.MethodName)) ∈ lw_all := lw_g (lw_at lw_m6 189 rfl) rfl
theorem q1694 : (Jvm.Cond.instantiable "MergeWorkbench$Match" (2 : Nat)) ∈ lw_all := lw_g (lw_at lw_m7 171 rfl) rfl
theorem q1696 : (Jvm.Cond.instanceMethod ({ cls := "MergeWorkbench$Match", name := "<init>", desc := "(II)V" } : Jvm.MethodName)) ∈ lw_all := lw_g (lw_at lw_m7 173 rfl) rfl
theorem q1697 : (Jvm.Cond.code ({ cls := "MergeWorkbench$Match", name := "<init>", desc := "(II)V" } : Jvm.MethodName) prog_12_method_1_code (3 : Nat) (Option.none : Option Jvm.ClassFile.FieldType)) ∈ lw_all := lw_g (lw_at lw_m7 174 rfl) rfl
theorem q1698 : (Jvm.Cond.methodLink "MergeWorkbench$Match" (1 : Nat) ({ cls := "java/lang/Object", name := "<init>", desc := "()V" } : Jvm.MethodName)) ∈ lw_all := lw_g (lw_at lw_m7 175 rfl) rfl
theorem q1699 : (Jvm.Cond.fieldLink "MergeWorkbench$Match" (7 : Nat) "MergeWorkbench$Match" "a" "I") ∈ lw_all := lw_g (lw_at lw_m7 176 rfl) rfl
theorem q1703 : (Jvm.Cond.fieldLink "MergeWorkbench$Match" (13 : Nat) "MergeWorkbench$Match" "b" "I") ∈ lw_all := lw_g (lw_at lw_m7 180 rfl) rfl
theorem q1707 : (Jvm.Cond.laysFinal "MergeWorkbench$Match" "MergeWorkbench$Match" "a" "I") ∈ lw_all := lw_g (lw_at lw_m7 184 rfl) rfl
theorem q1708 : (Jvm.Cond.soleField "MergeWorkbench$Match" "a") ∈ lw_all := lw_g (lw_at lw_m7 185 rfl) rfl
theorem q1709 : (Jvm.Cond.laysFinal "MergeWorkbench$Match" "MergeWorkbench$Match" "b" "I") ∈ lw_all := lw_g (lw_at lw_m7 186 rfl) rfl
theorem q1710 : (Jvm.Cond.soleField "MergeWorkbench$Match" "b") ∈ lw_all := lw_g (lw_at lw_m7 187 rfl) rfl
theorem q1711 : (Jvm.Cond.superclass "MergeWorkbench$Match" "java/lang/Object") ∈ lw_all := lw_g (lw_at lw_m7 188 rfl) rfl
theorem q3920 : (Jvm.Cond.castable "MergeWorkbench$Match" "java/lang/Object") ∈ lw_tbl := lw_at lw_m16 237 rfl
theorem in_X6 : ∀ w ∈ wsX60, w ∈ lw_all := lw_in wsX60 [1707, 1709] (by decide +kernel) (by decide +kernel)

/-! MergeWorkbench$Reader -/
set_option maxRecDepth 100000
def RX7 : String := "MergeWorkbench$Reader"
def TX7 : u_T := fun k => match k with
  | 0 => ("MergeWorkbench$Reader", "text", "Ljava/lang/String;", true)
  | 1 => ("MergeWorkbench$Reader", "at", "I", false)
  | _ => ("MergeWorkbench$Reader", "open", "I", false)
def tyX7 : Nat → FieldType := fun k => match k with
  | 0 => .object "java/lang/String"
  | 1 => .int
  | _ => .int
abbrev wsX70 : List Cond := u_ws RX7 TX7 3
theorem nmX7 : ∀ a, a < 3 → ∀ b, b < 3 → a ≠ b → (TX7 a).2.1 ≠ (TX7 b).2.1 := by decide +kernel
theorem tyX7_ok : ∀ k, k < 3 → parseFieldDescriptor (TX7 k).2.2.1 = some (tyX7 k) := by decide +kernel
abbrev cX7_init : ByteArray := prog_19_method_1_code
def yX7_init : MethodName := ⟨RX7, "<init>", "(Ljava/lang/String;)V"⟩
def dkwX7_init_0 : List UInt8 := [42, 183, 0, 3, 42, 43, 181, 0, 9, 177]
abbrev dktX7_init_0 : List UInt8 := dkwX7_init_0 ++ []
theorem dksX7_init_0 : cX7_init.data.toList.drop 0 = dktX7_init_0 := by decide +kernel
theorem dX7_init_0 : decode cX7_init 0 = .ok (.aload_n 0, 1) := dk_42 (dk_at dksX7_init_0 0 rfl rfl)
theorem dX7_init_1 : decode cX7_init 1 = .ok (.invokespecial 3, 3) := dk_183 0 3 (dk_at dksX7_init_0 1 rfl rfl)
theorem dX7_init_4 : decode cX7_init 4 = .ok (.aload_n 0, 1) := dk_42 (dk_at dksX7_init_0 4 rfl rfl)
theorem dX7_init_5 : decode cX7_init 5 = .ok (.aload_n 1, 1) := dk_43 (dk_at dksX7_init_0 5 rfl rfl)
theorem dX7_init_6 : decode cX7_init 6 = .ok (.putfield 9, 3) := dk_181 0 9 (dk_at dksX7_init_0 6 rfl rfl)
theorem dX7_init_9 : decode cX7_init 9 = .ok (.return_, 1) := dk_177 (dk_at dksX7_init_0 9 rfl rfl)
abbrev cX7_document : ByteArray := prog_19_method_7_code
def yX7_document : MethodName := ⟨RX7, "document", "()Ljava/util/List;"⟩
def dkwX7_document_1 : List UInt8 := [3, 182, 0, 49, 43, 176]
abbrev dktX7_document_1 : List UInt8 := dkwX7_document_1 ++ []
def dkwX7_document_0 : List UInt8 := [42, 182, 0, 53, 76, 42, 42, 180, 0, 15, 42, 180, 0, 9, 182, 0, 19, 160, 0, 7, 4, 167, 0, 4]
abbrev dktX7_document_0 : List UInt8 := dkwX7_document_0 ++ dktX7_document_1
theorem dksX7_document_0 : cX7_document.data.toList.drop 0 = dktX7_document_0 := by decide +kernel
theorem dksX7_document_1 : cX7_document.data.toList.drop 24 = dktX7_document_1 := dk_seg dksX7_document_0 24 rfl rfl
theorem dX7_document_0 : decode cX7_document 0 = .ok (.aload_n 0, 1) := dk_42 (dk_at dksX7_document_0 0 rfl rfl)
theorem dX7_document_1 : decode cX7_document 1 = .ok (.invokevirtual 53, 3) := dk_182 0 53 (dk_at dksX7_document_0 1 rfl rfl)
theorem dX7_document_4 : decode cX7_document 4 = .ok (.astore_n 1, 1) := dk_76 (dk_at dksX7_document_0 4 rfl rfl)
theorem dX7_document_5 : decode cX7_document 5 = .ok (.aload_n 0, 1) := dk_42 (dk_at dksX7_document_0 5 rfl rfl)
theorem dX7_document_6 : decode cX7_document 6 = .ok (.aload_n 0, 1) := dk_42 (dk_at dksX7_document_0 6 rfl rfl)
theorem dX7_document_7 : decode cX7_document 7 = .ok (.getfield 15, 3) := dk_180 0 15 (dk_at dksX7_document_0 7 rfl rfl)
theorem dX7_document_10 : decode cX7_document 10 = .ok (.aload_n 0, 1) := dk_42 (dk_at dksX7_document_0 10 rfl rfl)
theorem dX7_document_11 : decode cX7_document 11 = .ok (.getfield 9, 3) := dk_180 0 9 (dk_at dksX7_document_0 11 rfl rfl)
theorem dX7_document_14 : decode cX7_document 14 = .ok (.invokevirtual 19, 3) := dk_182 0 19 (dk_at dksX7_document_0 14 rfl rfl)
theorem dX7_document_17 : decode cX7_document 17 = .ok (.if_icmp .ne 7, 3) := dk_160 0 7 (dk_at dksX7_document_0 17 rfl rfl)
theorem dX7_document_20 : decode cX7_document 20 = .ok (.iconst 1, 1) := dk_4 (dk_at dksX7_document_0 20 rfl rfl)
theorem dX7_document_21 : decode cX7_document 21 = .ok (.goto 4, 3) := dk_167 0 4 (dk_at dksX7_document_0 21 rfl rfl)
theorem dX7_document_24 : decode cX7_document 24 = .ok (.iconst 0, 1) := dk_3 (dk_at dksX7_document_1 0 rfl rfl)
theorem dX7_document_25 : decode cX7_document 25 = .ok (.invokevirtual 49, 3) := dk_182 0 49 (dk_at dksX7_document_1 1 rfl rfl)
theorem dX7_document_28 : decode cX7_document 28 = .ok (.aload_n 1, 1) := dk_43 (dk_at dksX7_document_1 4 rfl rfl)
theorem dX7_document_29 : decode cX7_document 29 = .ok (.areturn, 1) := dk_176 (dk_at dksX7_document_1 5 rfl rfl)
abbrev cX7_items : ByteArray := prog_19_method_6_code
def yX7_items : MethodName := ⟨RX7, "items", "()Ljava/util/List;"⟩
def dkwX7_items_1 : List UInt8 := [185, 0, 72, 1, 0, 16, 24, 163, 0, 11, 43, 44, 185, 0, 77, 2, 0, 87, 167, 255, 225, 43, 176]
abbrev dktX7_items_1 : List UInt8 := dkwX7_items_1 ++ []
def dkwX7_items_0 : List UInt8 := [187, 0, 69, 89, 183, 0, 71, 76, 42, 182, 0, 45, 153, 0, 30, 42, 182, 0, 81, 77, 43]
abbrev dktX7_items_0 : List UInt8 := dkwX7_items_0 ++ dktX7_items_1
theorem dksX7_items_0 : cX7_items.data.toList.drop 0 = dktX7_items_0 := by decide +kernel
theorem dksX7_items_1 : cX7_items.data.toList.drop 21 = dktX7_items_1 := dk_seg dksX7_items_0 21 rfl rfl
theorem dX7_items_0 : decode cX7_items 0 = .ok (.new 69, 3) := dk_187 0 69 (dk_at dksX7_items_0 0 rfl rfl)
theorem dX7_items_3 : decode cX7_items 3 = .ok (.dup, 1) := dk_89 (dk_at dksX7_items_0 3 rfl rfl)
theorem dX7_items_4 : decode cX7_items 4 = .ok (.invokespecial 71, 3) := dk_183 0 71 (dk_at dksX7_items_0 4 rfl rfl)
theorem dX7_items_7 : decode cX7_items 7 = .ok (.astore_n 1, 1) := dk_76 (dk_at dksX7_items_0 7 rfl rfl)
theorem dX7_items_8 : decode cX7_items 8 = .ok (.aload_n 0, 1) := dk_42 (dk_at dksX7_items_0 8 rfl rfl)
theorem dX7_items_9 : decode cX7_items 9 = .ok (.invokevirtual 45, 3) := dk_182 0 45 (dk_at dksX7_items_0 9 rfl rfl)
theorem dX7_items_12 : decode cX7_items 12 = .ok (.ifCond .eq 30, 3) := dk_153 0 30 (dk_at dksX7_items_0 12 rfl rfl)
theorem dX7_items_15 : decode cX7_items 15 = .ok (.aload_n 0, 1) := dk_42 (dk_at dksX7_items_0 15 rfl rfl)
theorem dX7_items_16 : decode cX7_items 16 = .ok (.invokevirtual 81, 3) := dk_182 0 81 (dk_at dksX7_items_0 16 rfl rfl)
theorem dX7_items_19 : decode cX7_items 19 = .ok (.astore_n 2, 1) := dk_77 (dk_at dksX7_items_0 19 rfl rfl)
theorem dX7_items_20 : decode cX7_items 20 = .ok (.aload_n 1, 1) := dk_43 (dk_at dksX7_items_0 20 rfl rfl)
theorem dX7_items_21 : decode cX7_items 21 = .ok (.invokeinterface 72 1, 5) := by decide +kernel
theorem dX7_items_26 : decode cX7_items 26 = .ok (.bipush 24, 2) := dk_16 24 (dk_at dksX7_items_1 5 rfl rfl)
theorem dX7_items_28 : decode cX7_items 28 = .ok (.if_icmp .gt 11, 3) := dk_163 0 11 (dk_at dksX7_items_1 7 rfl rfl)
theorem dX7_items_31 : decode cX7_items 31 = .ok (.aload_n 1, 1) := dk_43 (dk_at dksX7_items_1 10 rfl rfl)
theorem dX7_items_32 : decode cX7_items 32 = .ok (.aload_n 2, 1) := dk_44 (dk_at dksX7_items_1 11 rfl rfl)
theorem dX7_items_33 : decode cX7_items 33 = .ok (.invokeinterface 77 2, 5) := by decide +kernel
theorem dX7_items_38 : decode cX7_items 38 = .ok (.pop, 1) := dk_87 (dk_at dksX7_items_1 17 rfl rfl)
theorem dX7_items_39 : decode cX7_items 39 = .ok (.goto (-31), 3) := dk_167 255 225 (dk_at dksX7_items_1 18 rfl rfl)
theorem dX7_items_42 : decode cX7_items 42 = .ok (.aload_n 1, 1) := dk_43 (dk_at dksX7_items_1 21 rfl rfl)
theorem dX7_items_43 : decode cX7_items 43 = .ok (.areturn, 1) := dk_176 (dk_at dksX7_items_1 22 rfl rfl)
abbrev cX7_isItem : ByteArray := prog_19_method_4_code
def yX7_isItem : MethodName := ⟨RX7, "isItem", "()Z"⟩
def dkwX7_isItem_1 : List UInt8 := [180, 0, 42, 7, 162, 0, 7, 4, 167, 0, 4, 3, 172]
abbrev dktX7_isItem_1 : List UInt8 := dkwX7_isItem_1 ++ []
def dkwX7_isItem_0 : List UInt8 := [42, 16, 97, 16, 122, 182, 0, 38, 154, 0, 22, 42, 16, 40, 16, 40, 182, 0, 38, 153, 0, 15, 42]
abbrev dktX7_isItem_0 : List UInt8 := dkwX7_isItem_0 ++ dktX7_isItem_1
theorem dksX7_isItem_0 : cX7_isItem.data.toList.drop 0 = dktX7_isItem_0 := by decide +kernel
theorem dksX7_isItem_1 : cX7_isItem.data.toList.drop 23 = dktX7_isItem_1 := dk_seg dksX7_isItem_0 23 rfl rfl
theorem dX7_isItem_0 : decode cX7_isItem 0 = .ok (.aload_n 0, 1) := dk_42 (dk_at dksX7_isItem_0 0 rfl rfl)
theorem dX7_isItem_1 : decode cX7_isItem 1 = .ok (.bipush 97, 2) := dk_16 97 (dk_at dksX7_isItem_0 1 rfl rfl)
theorem dX7_isItem_3 : decode cX7_isItem 3 = .ok (.bipush 122, 2) := dk_16 122 (dk_at dksX7_isItem_0 3 rfl rfl)
theorem dX7_isItem_5 : decode cX7_isItem 5 = .ok (.invokevirtual 38, 3) := dk_182 0 38 (dk_at dksX7_isItem_0 5 rfl rfl)
theorem dX7_isItem_8 : decode cX7_isItem 8 = .ok (.ifCond .ne 22, 3) := dk_154 0 22 (dk_at dksX7_isItem_0 8 rfl rfl)
theorem dX7_isItem_11 : decode cX7_isItem 11 = .ok (.aload_n 0, 1) := dk_42 (dk_at dksX7_isItem_0 11 rfl rfl)
theorem dX7_isItem_12 : decode cX7_isItem 12 = .ok (.bipush 40, 2) := dk_16 40 (dk_at dksX7_isItem_0 12 rfl rfl)
theorem dX7_isItem_14 : decode cX7_isItem 14 = .ok (.bipush 40, 2) := dk_16 40 (dk_at dksX7_isItem_0 14 rfl rfl)
theorem dX7_isItem_16 : decode cX7_isItem 16 = .ok (.invokevirtual 38, 3) := dk_182 0 38 (dk_at dksX7_isItem_0 16 rfl rfl)
theorem dX7_isItem_19 : decode cX7_isItem 19 = .ok (.ifCond .eq 15, 3) := dk_153 0 15 (dk_at dksX7_isItem_0 19 rfl rfl)
theorem dX7_isItem_22 : decode cX7_isItem 22 = .ok (.aload_n 0, 1) := dk_42 (dk_at dksX7_isItem_0 22 rfl rfl)
theorem dX7_isItem_23 : decode cX7_isItem 23 = .ok (.getfield 42, 3) := dk_180 0 42 (dk_at dksX7_isItem_1 0 rfl rfl)
theorem dX7_isItem_26 : decode cX7_isItem 26 = .ok (.iconst 4, 1) := dk_7 (dk_at dksX7_isItem_1 3 rfl rfl)
theorem dX7_isItem_27 : decode cX7_isItem 27 = .ok (.if_icmp .ge 7, 3) := dk_162 0 7 (dk_at dksX7_isItem_1 4 rfl rfl)
theorem dX7_isItem_30 : decode cX7_isItem 30 = .ok (.iconst 1, 1) := dk_4 (dk_at dksX7_isItem_1 7 rfl rfl)
theorem dX7_isItem_31 : decode cX7_isItem 31 = .ok (.goto 4, 3) := dk_167 0 4 (dk_at dksX7_isItem_1 8 rfl rfl)
theorem dX7_isItem_34 : decode cX7_isItem 34 = .ok (.iconst 0, 1) := dk_3 (dk_at dksX7_isItem_1 11 rfl rfl)
theorem dX7_isItem_35 : decode cX7_isItem 35 = .ok (.ireturn, 1) := dk_172 (dk_at dksX7_isItem_1 12 rfl rfl)
abbrev cX7_isAt : ByteArray := prog_19_method_2_code
def yX7_isAt : MethodName := ⟨RX7, "isAt", "(II)Z"⟩
def dkwX7_isAt_1 : List UInt8 := [182, 0, 25, 27, 28, 184, 0, 29, 153, 0, 7, 4, 167, 0, 4, 3, 172]
abbrev dktX7_isAt_1 : List UInt8 := dkwX7_isAt_1 ++ []
def dkwX7_isAt_0 : List UInt8 := [42, 180, 0, 15, 42, 180, 0, 9, 182, 0, 19, 162, 0, 26, 42, 180, 0, 9, 42, 180, 0, 15]
abbrev dktX7_isAt_0 : List UInt8 := dkwX7_isAt_0 ++ dktX7_isAt_1
theorem dksX7_isAt_0 : cX7_isAt.data.toList.drop 0 = dktX7_isAt_0 := by decide +kernel
theorem dksX7_isAt_1 : cX7_isAt.data.toList.drop 22 = dktX7_isAt_1 := dk_seg dksX7_isAt_0 22 rfl rfl
theorem dX7_isAt_0 : decode cX7_isAt 0 = .ok (.aload_n 0, 1) := dk_42 (dk_at dksX7_isAt_0 0 rfl rfl)
theorem dX7_isAt_1 : decode cX7_isAt 1 = .ok (.getfield 15, 3) := dk_180 0 15 (dk_at dksX7_isAt_0 1 rfl rfl)
theorem dX7_isAt_4 : decode cX7_isAt 4 = .ok (.aload_n 0, 1) := dk_42 (dk_at dksX7_isAt_0 4 rfl rfl)
theorem dX7_isAt_5 : decode cX7_isAt 5 = .ok (.getfield 9, 3) := dk_180 0 9 (dk_at dksX7_isAt_0 5 rfl rfl)
theorem dX7_isAt_8 : decode cX7_isAt 8 = .ok (.invokevirtual 19, 3) := dk_182 0 19 (dk_at dksX7_isAt_0 8 rfl rfl)
theorem dX7_isAt_11 : decode cX7_isAt 11 = .ok (.if_icmp .ge 26, 3) := dk_162 0 26 (dk_at dksX7_isAt_0 11 rfl rfl)
theorem dX7_isAt_14 : decode cX7_isAt 14 = .ok (.aload_n 0, 1) := dk_42 (dk_at dksX7_isAt_0 14 rfl rfl)
theorem dX7_isAt_15 : decode cX7_isAt 15 = .ok (.getfield 9, 3) := dk_180 0 9 (dk_at dksX7_isAt_0 15 rfl rfl)
theorem dX7_isAt_18 : decode cX7_isAt 18 = .ok (.aload_n 0, 1) := dk_42 (dk_at dksX7_isAt_0 18 rfl rfl)
theorem dX7_isAt_19 : decode cX7_isAt 19 = .ok (.getfield 15, 3) := dk_180 0 15 (dk_at dksX7_isAt_0 19 rfl rfl)
theorem dX7_isAt_22 : decode cX7_isAt 22 = .ok (.invokevirtual 25, 3) := dk_182 0 25 (dk_at dksX7_isAt_1 0 rfl rfl)
theorem dX7_isAt_25 : decode cX7_isAt 25 = .ok (.iload_n 1, 1) := dk_27 (dk_at dksX7_isAt_1 3 rfl rfl)
theorem dX7_isAt_26 : decode cX7_isAt 26 = .ok (.iload_n 2, 1) := dk_28 (dk_at dksX7_isAt_1 4 rfl rfl)
theorem dX7_isAt_27 : decode cX7_isAt 27 = .ok (.invokestatic 29, 3) := dk_184 0 29 (dk_at dksX7_isAt_1 5 rfl rfl)
theorem dX7_isAt_30 : decode cX7_isAt 30 = .ok (.ifCond .eq 7, 3) := dk_153 0 7 (dk_at dksX7_isAt_1 8 rfl rfl)
theorem dX7_isAt_33 : decode cX7_isAt 33 = .ok (.iconst 1, 1) := dk_4 (dk_at dksX7_isAt_1 11 rfl rfl)
theorem dX7_isAt_34 : decode cX7_isAt 34 = .ok (.goto 4, 3) := dk_167 0 4 (dk_at dksX7_isAt_1 12 rfl rfl)
theorem dX7_isAt_37 : decode cX7_isAt 37 = .ok (.iconst 0, 1) := dk_3 (dk_at dksX7_isAt_1 15 rfl rfl)
theorem dX7_isAt_38 : decode cX7_isAt 38 = .ok (.ireturn, 1) := dk_172 (dk_at dksX7_isAt_1 16 rfl rfl)
abbrev cX7_item : ByteArray := prog_19_method_5_code
def yX7_item : MethodName := ⟨RX7, "item", "()Ljava/util/List;"⟩
def dkwX7_item_8 : List UInt8 := [132, 4, 1, 167, 255, 228, 45, 176]
abbrev dktX7_item_8 : List UInt8 := dkwX7_item_8 ++ []
def dkwX7_item_7 : List UInt8 := [162, 0, 28, 45, 185, 0, 72, 1, 0, 16, 24, 163, 0, 17, 45, 43, 185, 0, 77, 2, 0, 87]
abbrev dktX7_item_7 : List UInt8 := dkwX7_item_7 ++ dktX7_item_8
def dkwX7_item_6 : List UInt8 := [89, 180, 0, 15, 4, 96, 181, 0, 15, 187, 0, 69, 89, 183, 0, 71, 78, 3, 54, 4, 21, 4, 28]
abbrev dktX7_item_6 : List UInt8 := dkwX7_item_6 ++ dktX7_item_7
def dkwX7_item_5 : List UInt8 := [16, 57, 182, 0, 38, 153, 0, 28, 42, 180, 0, 9, 42, 180, 0, 15, 182, 0, 25, 16, 48, 100, 61, 42]
abbrev dktX7_item_5 : List UInt8 := dkwX7_item_5 ++ dktX7_item_6
def dkwX7_item_4 : List UInt8 := [100, 184, 0, 57, 184, 0, 63, 76, 42, 89, 180, 0, 15, 4, 96, 181, 0, 15, 4, 61, 42, 16, 50]
abbrev dktX7_item_4 : List UInt8 := dkwX7_item_4 ++ dktX7_item_5
def dkwX7_item_3 : List UInt8 := [180, 0, 42, 4, 100, 181, 0, 42, 167, 0, 34, 42, 180, 0, 9, 42, 180, 0, 15, 182, 0, 25, 16, 97]
abbrev dktX7_item_3 : List UInt8 := dkwX7_item_3 ++ dktX7_item_4
def dkwX7_item_2 : List UInt8 := [16, 41, 16, 41, 182, 0, 38, 182, 0, 49, 42, 89, 180, 0, 15, 4, 96, 181, 0, 15, 42, 89]
abbrev dktX7_item_2 : List UInt8 := dkwX7_item_2 ++ dktX7_item_3
def dkwX7_item_1 : List UInt8 := [180, 0, 42, 4, 96, 181, 0, 42, 42, 42, 182, 0, 45, 182, 0, 49, 42, 182, 0, 53, 76, 42, 42]
abbrev dktX7_item_1 : List UInt8 := dkwX7_item_1 ++ dktX7_item_2
def dkwX7_item_0 : List UInt8 := [42, 16, 40, 16, 40, 182, 0, 38, 153, 0, 71, 42, 89, 180, 0, 15, 4, 96, 181, 0, 15, 42, 89]
abbrev dktX7_item_0 : List UInt8 := dkwX7_item_0 ++ dktX7_item_1
theorem dksX7_item_0 : cX7_item.data.toList.drop 0 = dktX7_item_0 := by decide +kernel
theorem dksX7_item_1 : cX7_item.data.toList.drop 23 = dktX7_item_1 := dk_seg dksX7_item_0 23 rfl rfl
theorem dksX7_item_2 : cX7_item.data.toList.drop 46 = dktX7_item_2 := dk_seg dksX7_item_1 23 rfl rfl
theorem dksX7_item_3 : cX7_item.data.toList.drop 68 = dktX7_item_3 := dk_seg dksX7_item_2 22 rfl rfl
theorem dksX7_item_4 : cX7_item.data.toList.drop 92 = dktX7_item_4 := dk_seg dksX7_item_3 24 rfl rfl
theorem dksX7_item_5 : cX7_item.data.toList.drop 115 = dktX7_item_5 := dk_seg dksX7_item_4 23 rfl rfl
theorem dksX7_item_6 : cX7_item.data.toList.drop 139 = dktX7_item_6 := dk_seg dksX7_item_5 24 rfl rfl
theorem dksX7_item_7 : cX7_item.data.toList.drop 162 = dktX7_item_7 := dk_seg dksX7_item_6 23 rfl rfl
theorem dksX7_item_8 : cX7_item.data.toList.drop 184 = dktX7_item_8 := dk_seg dksX7_item_7 22 rfl rfl
theorem dX7_item_0 : decode cX7_item 0 = .ok (.aload_n 0, 1) := dk_42 (dk_at dksX7_item_0 0 rfl rfl)
theorem dX7_item_1 : decode cX7_item 1 = .ok (.bipush 40, 2) := dk_16 40 (dk_at dksX7_item_0 1 rfl rfl)
theorem dX7_item_3 : decode cX7_item 3 = .ok (.bipush 40, 2) := dk_16 40 (dk_at dksX7_item_0 3 rfl rfl)
theorem dX7_item_5 : decode cX7_item 5 = .ok (.invokevirtual 38, 3) := dk_182 0 38 (dk_at dksX7_item_0 5 rfl rfl)
theorem dX7_item_8 : decode cX7_item 8 = .ok (.ifCond .eq 71, 3) := dk_153 0 71 (dk_at dksX7_item_0 8 rfl rfl)
theorem dX7_item_11 : decode cX7_item 11 = .ok (.aload_n 0, 1) := dk_42 (dk_at dksX7_item_0 11 rfl rfl)
theorem dX7_item_12 : decode cX7_item 12 = .ok (.dup, 1) := dk_89 (dk_at dksX7_item_0 12 rfl rfl)
theorem dX7_item_13 : decode cX7_item 13 = .ok (.getfield 15, 3) := dk_180 0 15 (dk_at dksX7_item_0 13 rfl rfl)
theorem dX7_item_16 : decode cX7_item 16 = .ok (.iconst 1, 1) := dk_4 (dk_at dksX7_item_0 16 rfl rfl)
theorem dX7_item_17 : decode cX7_item 17 = .ok (.iadd, 1) := dk_96 (dk_at dksX7_item_0 17 rfl rfl)
theorem dX7_item_18 : decode cX7_item 18 = .ok (.putfield 15, 3) := dk_181 0 15 (dk_at dksX7_item_0 18 rfl rfl)
theorem dX7_item_21 : decode cX7_item 21 = .ok (.aload_n 0, 1) := dk_42 (dk_at dksX7_item_0 21 rfl rfl)
theorem dX7_item_22 : decode cX7_item 22 = .ok (.dup, 1) := dk_89 (dk_at dksX7_item_0 22 rfl rfl)
theorem dX7_item_23 : decode cX7_item 23 = .ok (.getfield 42, 3) := dk_180 0 42 (dk_at dksX7_item_1 0 rfl rfl)
theorem dX7_item_26 : decode cX7_item 26 = .ok (.iconst 1, 1) := dk_4 (dk_at dksX7_item_1 3 rfl rfl)
theorem dX7_item_27 : decode cX7_item 27 = .ok (.iadd, 1) := dk_96 (dk_at dksX7_item_1 4 rfl rfl)
theorem dX7_item_28 : decode cX7_item 28 = .ok (.putfield 42, 3) := dk_181 0 42 (dk_at dksX7_item_1 5 rfl rfl)
theorem dX7_item_31 : decode cX7_item 31 = .ok (.aload_n 0, 1) := dk_42 (dk_at dksX7_item_1 8 rfl rfl)
theorem dX7_item_32 : decode cX7_item 32 = .ok (.aload_n 0, 1) := dk_42 (dk_at dksX7_item_1 9 rfl rfl)
theorem dX7_item_33 : decode cX7_item 33 = .ok (.invokevirtual 45, 3) := dk_182 0 45 (dk_at dksX7_item_1 10 rfl rfl)
theorem dX7_item_36 : decode cX7_item 36 = .ok (.invokevirtual 49, 3) := dk_182 0 49 (dk_at dksX7_item_1 13 rfl rfl)
theorem dX7_item_39 : decode cX7_item 39 = .ok (.aload_n 0, 1) := dk_42 (dk_at dksX7_item_1 16 rfl rfl)
theorem dX7_item_40 : decode cX7_item 40 = .ok (.invokevirtual 53, 3) := dk_182 0 53 (dk_at dksX7_item_1 17 rfl rfl)
theorem dX7_item_43 : decode cX7_item 43 = .ok (.astore_n 1, 1) := dk_76 (dk_at dksX7_item_1 20 rfl rfl)
theorem dX7_item_44 : decode cX7_item 44 = .ok (.aload_n 0, 1) := dk_42 (dk_at dksX7_item_1 21 rfl rfl)
theorem dX7_item_45 : decode cX7_item 45 = .ok (.aload_n 0, 1) := dk_42 (dk_at dksX7_item_1 22 rfl rfl)
theorem dX7_item_46 : decode cX7_item 46 = .ok (.bipush 41, 2) := dk_16 41 (dk_at dksX7_item_2 0 rfl rfl)
theorem dX7_item_48 : decode cX7_item 48 = .ok (.bipush 41, 2) := dk_16 41 (dk_at dksX7_item_2 2 rfl rfl)
theorem dX7_item_50 : decode cX7_item 50 = .ok (.invokevirtual 38, 3) := dk_182 0 38 (dk_at dksX7_item_2 4 rfl rfl)
theorem dX7_item_53 : decode cX7_item 53 = .ok (.invokevirtual 49, 3) := dk_182 0 49 (dk_at dksX7_item_2 7 rfl rfl)
theorem dX7_item_56 : decode cX7_item 56 = .ok (.aload_n 0, 1) := dk_42 (dk_at dksX7_item_2 10 rfl rfl)
theorem dX7_item_57 : decode cX7_item 57 = .ok (.dup, 1) := dk_89 (dk_at dksX7_item_2 11 rfl rfl)
theorem dX7_item_58 : decode cX7_item 58 = .ok (.getfield 15, 3) := dk_180 0 15 (dk_at dksX7_item_2 12 rfl rfl)
theorem dX7_item_61 : decode cX7_item 61 = .ok (.iconst 1, 1) := dk_4 (dk_at dksX7_item_2 15 rfl rfl)
theorem dX7_item_62 : decode cX7_item 62 = .ok (.iadd, 1) := dk_96 (dk_at dksX7_item_2 16 rfl rfl)
theorem dX7_item_63 : decode cX7_item 63 = .ok (.putfield 15, 3) := dk_181 0 15 (dk_at dksX7_item_2 17 rfl rfl)
theorem dX7_item_66 : decode cX7_item 66 = .ok (.aload_n 0, 1) := dk_42 (dk_at dksX7_item_2 20 rfl rfl)
theorem dX7_item_67 : decode cX7_item 67 = .ok (.dup, 1) := dk_89 (dk_at dksX7_item_2 21 rfl rfl)
theorem dX7_item_68 : decode cX7_item 68 = .ok (.getfield 42, 3) := dk_180 0 42 (dk_at dksX7_item_3 0 rfl rfl)
theorem dX7_item_71 : decode cX7_item 71 = .ok (.iconst 1, 1) := dk_4 (dk_at dksX7_item_3 3 rfl rfl)
theorem dX7_item_72 : decode cX7_item 72 = .ok (.isub, 1) := dk_100 (dk_at dksX7_item_3 4 rfl rfl)
theorem dX7_item_73 : decode cX7_item 73 = .ok (.putfield 42, 3) := dk_181 0 42 (dk_at dksX7_item_3 5 rfl rfl)
theorem dX7_item_76 : decode cX7_item 76 = .ok (.goto 34, 3) := dk_167 0 34 (dk_at dksX7_item_3 8 rfl rfl)
theorem dX7_item_79 : decode cX7_item 79 = .ok (.aload_n 0, 1) := dk_42 (dk_at dksX7_item_3 11 rfl rfl)
theorem dX7_item_80 : decode cX7_item 80 = .ok (.getfield 9, 3) := dk_180 0 9 (dk_at dksX7_item_3 12 rfl rfl)
theorem dX7_item_83 : decode cX7_item 83 = .ok (.aload_n 0, 1) := dk_42 (dk_at dksX7_item_3 15 rfl rfl)
theorem dX7_item_84 : decode cX7_item 84 = .ok (.getfield 15, 3) := dk_180 0 15 (dk_at dksX7_item_3 16 rfl rfl)
theorem dX7_item_87 : decode cX7_item 87 = .ok (.invokevirtual 25, 3) := dk_182 0 25 (dk_at dksX7_item_3 19 rfl rfl)
theorem dX7_item_90 : decode cX7_item 90 = .ok (.bipush 97, 2) := dk_16 97 (dk_at dksX7_item_3 22 rfl rfl)
theorem dX7_item_92 : decode cX7_item 92 = .ok (.isub, 1) := dk_100 (dk_at dksX7_item_4 0 rfl rfl)
theorem dX7_item_93 : decode cX7_item 93 = .ok (.invokestatic 57, 3) := dk_184 0 57 (dk_at dksX7_item_4 1 rfl rfl)
theorem dX7_item_96 : decode cX7_item 96 = .ok (.invokestatic 63, 3) := dk_184 0 63 (dk_at dksX7_item_4 4 rfl rfl)
theorem dX7_item_99 : decode cX7_item 99 = .ok (.astore_n 1, 1) := dk_76 (dk_at dksX7_item_4 7 rfl rfl)
theorem dX7_item_100 : decode cX7_item 100 = .ok (.aload_n 0, 1) := dk_42 (dk_at dksX7_item_4 8 rfl rfl)
theorem dX7_item_101 : decode cX7_item 101 = .ok (.dup, 1) := dk_89 (dk_at dksX7_item_4 9 rfl rfl)
theorem dX7_item_102 : decode cX7_item 102 = .ok (.getfield 15, 3) := dk_180 0 15 (dk_at dksX7_item_4 10 rfl rfl)
theorem dX7_item_105 : decode cX7_item 105 = .ok (.iconst 1, 1) := dk_4 (dk_at dksX7_item_4 13 rfl rfl)
theorem dX7_item_106 : decode cX7_item 106 = .ok (.iadd, 1) := dk_96 (dk_at dksX7_item_4 14 rfl rfl)
theorem dX7_item_107 : decode cX7_item 107 = .ok (.putfield 15, 3) := dk_181 0 15 (dk_at dksX7_item_4 15 rfl rfl)
theorem dX7_item_110 : decode cX7_item 110 = .ok (.iconst 1, 1) := dk_4 (dk_at dksX7_item_4 18 rfl rfl)
theorem dX7_item_111 : decode cX7_item 111 = .ok (.istore_n 2, 1) := dk_61 (dk_at dksX7_item_4 19 rfl rfl)
theorem dX7_item_112 : decode cX7_item 112 = .ok (.aload_n 0, 1) := dk_42 (dk_at dksX7_item_4 20 rfl rfl)
theorem dX7_item_113 : decode cX7_item 113 = .ok (.bipush 50, 2) := dk_16 50 (dk_at dksX7_item_4 21 rfl rfl)
theorem dX7_item_115 : decode cX7_item 115 = .ok (.bipush 57, 2) := dk_16 57 (dk_at dksX7_item_5 0 rfl rfl)
theorem dX7_item_117 : decode cX7_item 117 = .ok (.invokevirtual 38, 3) := dk_182 0 38 (dk_at dksX7_item_5 2 rfl rfl)
theorem dX7_item_120 : decode cX7_item 120 = .ok (.ifCond .eq 28, 3) := dk_153 0 28 (dk_at dksX7_item_5 5 rfl rfl)
theorem dX7_item_123 : decode cX7_item 123 = .ok (.aload_n 0, 1) := dk_42 (dk_at dksX7_item_5 8 rfl rfl)
theorem dX7_item_124 : decode cX7_item 124 = .ok (.getfield 9, 3) := dk_180 0 9 (dk_at dksX7_item_5 9 rfl rfl)
theorem dX7_item_127 : decode cX7_item 127 = .ok (.aload_n 0, 1) := dk_42 (dk_at dksX7_item_5 12 rfl rfl)
theorem dX7_item_128 : decode cX7_item 128 = .ok (.getfield 15, 3) := dk_180 0 15 (dk_at dksX7_item_5 13 rfl rfl)
theorem dX7_item_131 : decode cX7_item 131 = .ok (.invokevirtual 25, 3) := dk_182 0 25 (dk_at dksX7_item_5 16 rfl rfl)
theorem dX7_item_134 : decode cX7_item 134 = .ok (.bipush 48, 2) := dk_16 48 (dk_at dksX7_item_5 19 rfl rfl)
theorem dX7_item_136 : decode cX7_item 136 = .ok (.isub, 1) := dk_100 (dk_at dksX7_item_5 21 rfl rfl)
theorem dX7_item_137 : decode cX7_item 137 = .ok (.istore_n 2, 1) := dk_61 (dk_at dksX7_item_5 22 rfl rfl)
theorem dX7_item_138 : decode cX7_item 138 = .ok (.aload_n 0, 1) := dk_42 (dk_at dksX7_item_5 23 rfl rfl)
theorem dX7_item_139 : decode cX7_item 139 = .ok (.dup, 1) := dk_89 (dk_at dksX7_item_6 0 rfl rfl)
theorem dX7_item_140 : decode cX7_item 140 = .ok (.getfield 15, 3) := dk_180 0 15 (dk_at dksX7_item_6 1 rfl rfl)
theorem dX7_item_143 : decode cX7_item 143 = .ok (.iconst 1, 1) := dk_4 (dk_at dksX7_item_6 4 rfl rfl)
theorem dX7_item_144 : decode cX7_item 144 = .ok (.iadd, 1) := dk_96 (dk_at dksX7_item_6 5 rfl rfl)
theorem dX7_item_145 : decode cX7_item 145 = .ok (.putfield 15, 3) := dk_181 0 15 (dk_at dksX7_item_6 6 rfl rfl)
theorem dX7_item_148 : decode cX7_item 148 = .ok (.new 69, 3) := dk_187 0 69 (dk_at dksX7_item_6 9 rfl rfl)
theorem dX7_item_151 : decode cX7_item 151 = .ok (.dup, 1) := dk_89 (dk_at dksX7_item_6 12 rfl rfl)
theorem dX7_item_152 : decode cX7_item 152 = .ok (.invokespecial 71, 3) := dk_183 0 71 (dk_at dksX7_item_6 13 rfl rfl)
theorem dX7_item_155 : decode cX7_item 155 = .ok (.astore_n 3, 1) := dk_78 (dk_at dksX7_item_6 16 rfl rfl)
theorem dX7_item_156 : decode cX7_item 156 = .ok (.iconst 0, 1) := dk_3 (dk_at dksX7_item_6 17 rfl rfl)
theorem dX7_item_157 : decode cX7_item 157 = .ok (.istore 4, 2) := dk_54 4 (dk_at dksX7_item_6 18 rfl rfl)
theorem dX7_item_159 : decode cX7_item 159 = .ok (.iload 4, 2) := dk_21 4 (dk_at dksX7_item_6 20 rfl rfl)
theorem dX7_item_161 : decode cX7_item 161 = .ok (.iload_n 2, 1) := dk_28 (dk_at dksX7_item_6 22 rfl rfl)
theorem dX7_item_162 : decode cX7_item 162 = .ok (.if_icmp .ge 28, 3) := dk_162 0 28 (dk_at dksX7_item_7 0 rfl rfl)
theorem dX7_item_165 : decode cX7_item 165 = .ok (.aload_n 3, 1) := dk_45 (dk_at dksX7_item_7 3 rfl rfl)
theorem dX7_item_166 : decode cX7_item 166 = .ok (.invokeinterface 72 1, 5) := by decide +kernel
theorem dX7_item_171 : decode cX7_item 171 = .ok (.bipush 24, 2) := dk_16 24 (dk_at dksX7_item_7 9 rfl rfl)
theorem dX7_item_173 : decode cX7_item 173 = .ok (.if_icmp .gt 17, 3) := dk_163 0 17 (dk_at dksX7_item_7 11 rfl rfl)
theorem dX7_item_176 : decode cX7_item 176 = .ok (.aload_n 3, 1) := dk_45 (dk_at dksX7_item_7 14 rfl rfl)
theorem dX7_item_177 : decode cX7_item 177 = .ok (.aload_n 1, 1) := dk_43 (dk_at dksX7_item_7 15 rfl rfl)
theorem dX7_item_178 : decode cX7_item 178 = .ok (.invokeinterface 77 2, 5) := by decide +kernel
theorem dX7_item_183 : decode cX7_item 183 = .ok (.pop, 1) := dk_87 (dk_at dksX7_item_7 21 rfl rfl)
theorem dX7_item_184 : decode cX7_item 184 = .ok (.iinc 4 1, 3) := dk_132 4 1 (dk_at dksX7_item_8 0 rfl rfl)
theorem dX7_item_187 : decode cX7_item 187 = .ok (.goto (-28), 3) := dk_167 255 228 (dk_at dksX7_item_8 3 rfl rfl)
theorem dX7_item_190 : decode cX7_item 190 = .ok (.aload_n 3, 1) := dk_45 (dk_at dksX7_item_8 6 rfl rfl)
theorem dX7_item_191 : decode cX7_item 191 = .ok (.areturn, 1) := dk_176 (dk_at dksX7_item_8 7 rfl rfl)
abbrev cX7_expect : ByteArray := prog_19_method_3_code
def yX7_expect : MethodName := ⟨RX7, "expect", "(Z)V"⟩
def dkwX7_expect_0 : List UInt8 := [27, 154, 0, 15, 187, 0, 33, 89, 42, 180, 0, 15, 183, 0, 35, 191, 177]
abbrev dktX7_expect_0 : List UInt8 := dkwX7_expect_0 ++ []
theorem dksX7_expect_0 : cX7_expect.data.toList.drop 0 = dktX7_expect_0 := by decide +kernel
theorem dX7_expect_0 : decode cX7_expect 0 = .ok (.iload_n 1, 1) := dk_27 (dk_at dksX7_expect_0 0 rfl rfl)
theorem dX7_expect_1 : decode cX7_expect 1 = .ok (.ifCond .ne 15, 3) := dk_154 0 15 (dk_at dksX7_expect_0 1 rfl rfl)
theorem dX7_expect_4 : decode cX7_expect 4 = .ok (.new 33, 3) := dk_187 0 33 (dk_at dksX7_expect_0 4 rfl rfl)
theorem dX7_expect_7 : decode cX7_expect 7 = .ok (.dup, 1) := dk_89 (dk_at dksX7_expect_0 7 rfl rfl)
theorem dX7_expect_8 : decode cX7_expect 8 = .ok (.aload_n 0, 1) := dk_42 (dk_at dksX7_expect_0 8 rfl rfl)
theorem dX7_expect_9 : decode cX7_expect 9 = .ok (.getfield 15, 3) := dk_180 0 15 (dk_at dksX7_expect_0 9 rfl rfl)
theorem dX7_expect_12 : decode cX7_expect 12 = .ok (.invokespecial 35, 3) := dk_183 0 35 (dk_at dksX7_expect_0 12 rfl rfl)
theorem dX7_expect_15 : decode cX7_expect 15 = .ok (.athrow, 1) := dk_191 (dk_at dksX7_expect_0 15 rfl rfl)
theorem dX7_expect_16 : decode cX7_expect 16 = .ok (.return_, 1) := dk_177 (dk_at dksX7_expect_0 16 rfl rfl)
theorem q125 : (Jvm.Cond.initialized "MergeWorkbench$Reader") ∈ lw_all := lw_g (lw_at lw_m1 42 rfl) rfl
theorem q311 : (Jvm.Cond.selects "MergeWorkbench$Reader" ({ cls := "java/lang/Object", name := "getClass", desc := "()Ljava/lang/Class;" } : Jvm.MethodName) ({ cls := "java/lang/Object", name := "getClass", desc := "()Ljava/lang/Class;" } : Jvm.MethodName)) ∈ lw_all := lw_g (lw_at lw_m1 228 rfl) rfl
theorem q1479 : (Jvm.Cond.selects "MergeWorkbench$Reader" ({ cls := "java/lang/Object", name := "equals", desc := "(Ljava/lang/Object;)Z" } : Jvm.MethodName) ({ cls := "java/lang/Object", name := "equals", desc := "(Ljava/lang/Object;)Z" } : Jvm.MethodName)) ∈ lw_all := lw_g (lw_at lw_m6 196 rfl) rfl
theorem q1752 : (Jvm.Cond.instantiable "MergeWorkbench$Reader" (3 : Nat)) ∈ lw_all := lw_g (lw_at lw_m7 229 rfl) rfl
theorem q1755 : (Jvm.Cond.instanceMethod ({ cls := "MergeWorkbench$Reader", name := "<init>", desc := "(Ljava/lang/String;)V" } : Jvm.MethodName)) ∈ lw_all := lw_g (lw_at lw_m7 232 rfl) rfl
theorem q1756 : (Jvm.Cond.code ({ cls := "MergeWorkbench$Reader", name := "<init>", desc := "(Ljava/lang/String;)V" } : Jvm.MethodName) prog_19_method_1_code (2 : Nat) (Option.none : Option Jvm.ClassFile.FieldType)) ∈ lw_all := lw_g (lw_at lw_m7 233 rfl) rfl
theorem q1757 : (Jvm.Cond.methodLink "MergeWorkbench$Reader" (3 : Nat) ({ cls := "java/lang/Object", name := "<init>", desc := "()V" } : Jvm.MethodName)) ∈ lw_all := lw_g (lw_at lw_m7 234 rfl) rfl
theorem q1758 : (Jvm.Cond.fieldLink "MergeWorkbench$Reader" (9 : Nat) "MergeWorkbench$Reader" "text" "Ljava/lang/String;") ∈ lw_all := lw_g (lw_at lw_m7 235 rfl) rfl
theorem q1759 : (Jvm.Cond.fieldLink "MergeWorkbench$Reader" (15 : Nat) "MergeWorkbench$Reader" "at" "I") ∈ lw_all := lw_g (lw_at lw_m7 236 rfl) rfl
theorem q1760 : (Jvm.Cond.fieldLink "MergeWorkbench$Reader" (42 : Nat) "MergeWorkbench$Reader" "open" "I") ∈ lw_all := lw_g (lw_at lw_m7 237 rfl) rfl
theorem q1761 : (Jvm.Cond.laysFinal "MergeWorkbench$Reader" "MergeWorkbench$Reader" "text" "Ljava/lang/String;") ∈ lw_all := lw_g (lw_at lw_m7 238 rfl) rfl
theorem q1762 : (Jvm.Cond.soleField "MergeWorkbench$Reader" "text") ∈ lw_all := lw_g (lw_at lw_m7 239 rfl) rfl
theorem q1763 : (Jvm.Cond.lays "MergeWorkbench$Reader" "MergeWorkbench$Reader" "at" "I") ∈ lw_all := lw_g (lw_at lw_m8 0 rfl) rfl
theorem q1764 : (Jvm.Cond.soleField "MergeWorkbench$Reader" "at") ∈ lw_all := lw_g (lw_at lw_m8 1 rfl) rfl
theorem q1765 : (Jvm.Cond.lays "MergeWorkbench$Reader" "MergeWorkbench$Reader" "open" "I") ∈ lw_all := lw_g (lw_at lw_m8 2 rfl) rfl
theorem q1766 : (Jvm.Cond.soleField "MergeWorkbench$Reader" "open") ∈ lw_all := lw_g (lw_at lw_m8 3 rfl) rfl
theorem q1767 : (Jvm.Cond.superclass "MergeWorkbench$Reader" "java/lang/Object") ∈ lw_all := lw_g (lw_at lw_m8 4 rfl) rfl
theorem q1769 : (Jvm.Cond.instanceMethod ({ cls := "MergeWorkbench$Reader", name := "document", desc := "()Ljava/util/List;" } : Jvm.MethodName)) ∈ lw_all := lw_g (lw_at lw_m8 6 rfl) rfl
theorem q1770 : (Jvm.Cond.selects "MergeWorkbench$Reader" ({ cls := "MergeWorkbench$Reader", name := "document", desc := "()Ljava/util/List;" } : Jvm.MethodName) ({ cls := "MergeWorkbench$Reader", name := "document", desc := "()Ljava/util/List;" } : Jvm.MethodName)) ∈ lw_all := lw_g (lw_at lw_m8 7 rfl) rfl
theorem q1771 : (Jvm.Cond.code ({ cls := "MergeWorkbench$Reader", name := "document", desc := "()Ljava/util/List;" } : Jvm.MethodName) prog_19_method_7_code (2 : Nat) (Option.some (Jvm.ClassFile.FieldType.object "java/util/List"))) ∈ lw_all := lw_g (lw_at lw_m8 8 rfl) rfl
theorem q1772 : (Jvm.Cond.methodLink "MergeWorkbench$Reader" (53 : Nat) ({ cls := "MergeWorkbench$Reader", name := "items", desc := "()Ljava/util/List;" } : Jvm.MethodName)) ∈ lw_all := lw_g (lw_at lw_m8 9 rfl) rfl
theorem q1773 : (Jvm.Cond.privateMethod ({ cls := "MergeWorkbench$Reader", name := "items", desc := "()Ljava/util/List;" } : Jvm.MethodName)) ∈ lw_tbl := lw_at lw_m8 10 rfl
theorem q1774 : (Jvm.Cond.instanceMethod ({ cls := "MergeWorkbench$Reader", name := "items", desc := "()Ljava/util/List;" } : Jvm.MethodName)) ∈ lw_all := lw_g (lw_at lw_m8 11 rfl) rfl
theorem q1775 : (Jvm.Cond.code ({ cls := "MergeWorkbench$Reader", name := "items", desc := "()Ljava/util/List;" } : Jvm.MethodName) prog_19_method_6_code (3 : Nat) (Option.some (Jvm.ClassFile.FieldType.object "java/util/List"))) ∈ lw_all := lw_g (lw_at lw_m8 12 rfl) rfl
theorem q1776 : (Jvm.Cond.classLink "MergeWorkbench$Reader" (69 : Nat) "java/util/ArrayList") ∈ lw_all := lw_g (lw_at lw_m8 13 rfl) rfl
theorem q1777 : (Jvm.Cond.methodLink "MergeWorkbench$Reader" (71 : Nat) ({ cls := "java/util/ArrayList", name := "<init>", desc := "()V" } : Jvm.MethodName)) ∈ lw_all := lw_g (lw_at lw_m8 14 rfl) rfl
theorem q1778 : (Jvm.Cond.methodLink "MergeWorkbench$Reader" (45 : Nat) ({ cls := "MergeWorkbench$Reader", name := "isItem", desc := "()Z" } : Jvm.MethodName)) ∈ lw_all := lw_g (lw_at lw_m8 15 rfl) rfl
theorem q1779 : (Jvm.Cond.privateMethod ({ cls := "MergeWorkbench$Reader", name := "isItem", desc := "()Z" } : Jvm.MethodName)) ∈ lw_tbl := lw_at lw_m8 16 rfl
theorem q1780 : (Jvm.Cond.instanceMethod ({ cls := "MergeWorkbench$Reader", name := "isItem", desc := "()Z" } : Jvm.MethodName)) ∈ lw_all := lw_g (lw_at lw_m8 17 rfl) rfl
theorem q1781 : (Jvm.Cond.code ({ cls := "MergeWorkbench$Reader", name := "isItem", desc := "()Z" } : Jvm.MethodName) prog_19_method_4_code (1 : Nat) (Option.some Jvm.ClassFile.FieldType.boolean)) ∈ lw_all := lw_g (lw_at lw_m8 18 rfl) rfl
theorem q1782 : (Jvm.Cond.methodLink "MergeWorkbench$Reader" (38 : Nat) ({ cls := "MergeWorkbench$Reader", name := "isAt", desc := "(II)Z" } : Jvm.MethodName)) ∈ lw_all := lw_g (lw_at lw_m8 19 rfl) rfl
theorem q1783 : (Jvm.Cond.privateMethod ({ cls := "MergeWorkbench$Reader", name := "isAt", desc := "(II)Z" } : Jvm.MethodName)) ∈ lw_tbl := lw_at lw_m8 20 rfl
theorem q1784 : (Jvm.Cond.instanceMethod ({ cls := "MergeWorkbench$Reader", name := "isAt", desc := "(II)Z" } : Jvm.MethodName)) ∈ lw_all := lw_g (lw_at lw_m8 21 rfl) rfl
theorem q1785 : (Jvm.Cond.code ({ cls := "MergeWorkbench$Reader", name := "isAt", desc := "(II)Z" } : Jvm.MethodName) prog_19_method_2_code (3 : Nat) (Option.some Jvm.ClassFile.FieldType.boolean)) ∈ lw_all := lw_g (lw_at lw_m8 22 rfl) rfl
theorem q1786 : (Jvm.Cond.methodLink "MergeWorkbench$Reader" (19 : Nat) ({ cls := "java/lang/String", name := "length", desc := "()I" } : Jvm.MethodName)) ∈ lw_all := lw_g (lw_at lw_m8 23 rfl) rfl
theorem q1787 : (Jvm.Cond.methodLink "MergeWorkbench$Reader" (25 : Nat) ({ cls := "java/lang/String", name := "charAt", desc := "(I)C" } : Jvm.MethodName)) ∈ lw_all := lw_g (lw_at lw_m8 24 rfl) rfl
theorem q1802 : (Jvm.Cond.methodLinkNest "MergeWorkbench$Reader" (29 : Nat) ({ cls := "MergeWorkbench", name := "isBetween", desc := "(III)Z" } : Jvm.MethodName) "MergeWorkbench") ∈ lw_tbl := lw_at lw_m8 39 rfl
theorem q1803 : (Jvm.Cond.methodLink "MergeWorkbench$Reader" (81 : Nat) ({ cls := "MergeWorkbench$Reader", name := "item", desc := "()Ljava/util/List;" } : Jvm.MethodName)) ∈ lw_all := lw_g (lw_at lw_m8 40 rfl) rfl
theorem q1804 : (Jvm.Cond.privateMethod ({ cls := "MergeWorkbench$Reader", name := "item", desc := "()Ljava/util/List;" } : Jvm.MethodName)) ∈ lw_tbl := lw_at lw_m8 41 rfl
theorem q1805 : (Jvm.Cond.instanceMethod ({ cls := "MergeWorkbench$Reader", name := "item", desc := "()Ljava/util/List;" } : Jvm.MethodName)) ∈ lw_all := lw_g (lw_at lw_m8 42 rfl) rfl
theorem q1806 : (Jvm.Cond.code ({ cls := "MergeWorkbench$Reader", name := "item", desc := "()Ljava/util/List;" } : Jvm.MethodName) prog_19_method_5_code (5 : Nat) (Option.some (Jvm.ClassFile.FieldType.object "java/util/List"))) ∈ lw_all := lw_g (lw_at lw_m8 43 rfl) rfl
theorem q1807 : (Jvm.Cond.methodLink "MergeWorkbench$Reader" (49 : Nat) ({ cls := "MergeWorkbench$Reader", name := "expect", desc := "(Z)V" } : Jvm.MethodName)) ∈ lw_all := lw_g (lw_at lw_m8 44 rfl) rfl
theorem q1808 : (Jvm.Cond.privateMethod ({ cls := "MergeWorkbench$Reader", name := "expect", desc := "(Z)V" } : Jvm.MethodName)) ∈ lw_tbl := lw_at lw_m8 45 rfl
theorem q1809 : (Jvm.Cond.instanceMethod ({ cls := "MergeWorkbench$Reader", name := "expect", desc := "(Z)V" } : Jvm.MethodName)) ∈ lw_all := lw_g (lw_at lw_m8 46 rfl) rfl
theorem q1810 : (Jvm.Cond.code ({ cls := "MergeWorkbench$Reader", name := "expect", desc := "(Z)V" } : Jvm.MethodName) prog_19_method_3_code (2 : Nat) (Option.none : Option Jvm.ClassFile.FieldType)) ∈ lw_all := lw_g (lw_at lw_m8 47 rfl) rfl
theorem q1811 : (Jvm.Cond.classLink "MergeWorkbench$Reader" (33 : Nat) "MergeWorkbench$SyntaxException") ∈ lw_all := lw_g (lw_at lw_m8 48 rfl) rfl
theorem q1820 : (Jvm.Cond.methodLink "MergeWorkbench$Reader" (35 : Nat) ({ cls := "MergeWorkbench$SyntaxException", name := "<init>", desc := "(I)V" } : Jvm.MethodName)) ∈ lw_all := lw_g (lw_at lw_m8 57 rfl) rfl
theorem q1830 : (Jvm.Cond.methodLink "MergeWorkbench$Reader" (57 : Nat) ({ cls := "java/lang/Integer", name := "valueOf", desc := "(I)Ljava/lang/Integer;" } : Jvm.MethodName)) ∈ lw_all := lw_g (lw_at lw_m8 67 rfl) rfl
theorem q1831 : (Jvm.Cond.methodLink "MergeWorkbench$Reader" (63 : Nat) ({ cls := "java/util/Collections", name := "singletonList", desc := "(Ljava/lang/Object;)Ljava/util/List;" } : Jvm.MethodName)) ∈ lw_all := lw_g (lw_at lw_m8 68 rfl) rfl
theorem q1845 : (Jvm.Cond.interfaceEntry "MergeWorkbench$Reader" (72 : Nat)) ∈ lw_tbl := lw_at lw_m8 82 rfl
theorem q1846 : (Jvm.Cond.methodLink "MergeWorkbench$Reader" (72 : Nat) ({ cls := "java/util/List", name := "size", desc := "()I" } : Jvm.MethodName)) ∈ lw_all := lw_g (lw_at lw_m8 83 rfl) rfl
theorem q1847 : (Jvm.Cond.interfaceEntry "MergeWorkbench$Reader" (77 : Nat)) ∈ lw_tbl := lw_at lw_m8 84 rfl
theorem q1848 : (Jvm.Cond.methodLink "MergeWorkbench$Reader" (77 : Nat) ({ cls := "java/util/List", name := "addAll", desc := "(Ljava/util/Collection;)Z" } : Jvm.MethodName)) ∈ lw_all := lw_g (lw_at lw_m8 85 rfl) rfl
theorem q3921 : (Jvm.Cond.castable "MergeWorkbench$Reader" "java/lang/Object") ∈ lw_tbl := lw_at lw_m16 238 rfl
theorem in_X7 : ∀ w ∈ wsX70, w ∈ lw_all := lw_in wsX70 [1761, 1763, 1765] (by decide +kernel) (by decide +kernel)

/-! MergeWorkbench$SyntaxException -/
set_option maxRecDepth 100000
def RX8 : String := "MergeWorkbench$SyntaxException"
def TX8 : u_T := fun k => match k with
  | 0 => ("java/lang/Throwable", "cause", "Ljava/lang/Throwable;", false)
  | 1 => ("java/lang/Throwable", "stackTrace", "[Ljava/lang/StackTraceElement;", false)
  | 2 => ("java/lang/Throwable", "suppressedExceptions", "Ljava/util/List;", false)
  | 3 => ("java/lang/Throwable", "detailMessage", "Ljava/lang/String;", false)
  | 4 => ("java/lang/Throwable", "backtrace", "Ljava/lang/Object;", false)
  | 5 => ("java/lang/Throwable", "depth", "I", false)
  | _ => ("MergeWorkbench$SyntaxException", "position", "I", true)
def tyX8 : Nat → FieldType := fun k => match k with
  | 0 => .object "java/lang/Throwable"
  | 1 => .array (.object "java/lang/StackTraceElement")
  | 2 => .object "java/util/List"
  | 3 => .object "java/lang/String"
  | 4 => .object "java/lang/Object"
  | 5 => .int
  | _ => .int
abbrev wsX80 : List Cond := u_ws RX8 TX8 7
theorem nmX8 : ∀ a, a < 7 → ∀ b, b < 7 → a ≠ b → (TX8 a).2.1 ≠ (TX8 b).2.1 := by decide +kernel
theorem tyX8_ok : ∀ k, k < 7 → parseFieldDescriptor (TX8 k).2.2.1 = some (tyX8 k) := by decide +kernel
abbrev cX8_init : ByteArray := prog_20_method_1_code
def yX8_init : MethodName := ⟨RX8, "<init>", "(I)V"⟩
def dkwX8_init_0 : List UInt8 := [42, 183, 0, 1, 42, 27, 181, 0, 7, 177]
abbrev dktX8_init_0 : List UInt8 := dkwX8_init_0 ++ []
theorem dksX8_init_0 : cX8_init.data.toList.drop 0 = dktX8_init_0 := by decide +kernel
theorem dX8_init_0 : decode cX8_init 0 = .ok (.aload_n 0, 1) := dk_42 (dk_at dksX8_init_0 0 rfl rfl)
theorem dX8_init_1 : decode cX8_init 1 = .ok (.invokespecial 1, 3) := dk_183 0 1 (dk_at dksX8_init_0 1 rfl rfl)
theorem dX8_init_4 : decode cX8_init 4 = .ok (.aload_n 0, 1) := dk_42 (dk_at dksX8_init_0 4 rfl rfl)
theorem dX8_init_5 : decode cX8_init 5 = .ok (.iload_n 1, 1) := dk_27 (dk_at dksX8_init_0 5 rfl rfl)
theorem dX8_init_6 : decode cX8_init 6 = .ok (.putfield 7, 3) := dk_181 0 7 (dk_at dksX8_init_0 6 rfl rfl)
theorem dX8_init_9 : decode cX8_init 9 = .ok (.return_, 1) := dk_177 (dk_at dksX8_init_0 9 rfl rfl)
theorem q126 : (Jvm.Cond.initialized "MergeWorkbench$SyntaxException") ∈ lw_all := lw_g (lw_at lw_m1 43 rfl) rfl
theorem q312 : (Jvm.Cond.selects "MergeWorkbench$SyntaxException" ({ cls := "java/lang/Object", name := "getClass", desc := "()Ljava/lang/Class;" } : Jvm.MethodName) ({ cls := "java/lang/Object", name := "getClass", desc := "()Ljava/lang/Class;" } : Jvm.MethodName)) ∈ lw_all := lw_g (lw_at lw_m1 229 rfl) rfl
theorem q411 : (Jvm.Cond.selects "MergeWorkbench$SyntaxException" ({ cls := "java/lang/Throwable", name := "fillInStackTrace", desc := "()Ljava/lang/Throwable;" } : Jvm.MethodName) ({ cls := "java/lang/Throwable", name := "fillInStackTrace", desc := "()Ljava/lang/Throwable;" } : Jvm.MethodName)) ∈ lw_all := lw_g (lw_at lw_m2 88 rfl) rfl
theorem q1061 : (Jvm.Cond.selects "MergeWorkbench$SyntaxException" ({ cls := "java/lang/Throwable", name := "toString", desc := "()Ljava/lang/String;" } : Jvm.MethodName) ({ cls := "java/lang/Throwable", name := "toString", desc := "()Ljava/lang/String;" } : Jvm.MethodName)) ∈ lw_all := lw_g (lw_at lw_m5 18 rfl) rfl
theorem q1076 : (Jvm.Cond.selects "MergeWorkbench$SyntaxException" ({ cls := "java/lang/Throwable", name := "getLocalizedMessage", desc := "()Ljava/lang/String;" } : Jvm.MethodName) ({ cls := "java/lang/Throwable", name := "getLocalizedMessage", desc := "()Ljava/lang/String;" } : Jvm.MethodName)) ∈ lw_all := lw_g (lw_at lw_m5 33 rfl) rfl
theorem q1090 : (Jvm.Cond.selects "MergeWorkbench$SyntaxException" ({ cls := "java/lang/Throwable", name := "getMessage", desc := "()Ljava/lang/String;" } : Jvm.MethodName) ({ cls := "java/lang/Throwable", name := "getMessage", desc := "()Ljava/lang/String;" } : Jvm.MethodName)) ∈ lw_all := lw_g (lw_at lw_m5 47 rfl) rfl
theorem q1480 : (Jvm.Cond.selects "MergeWorkbench$SyntaxException" ({ cls := "java/lang/Object", name := "equals", desc := "(Ljava/lang/Object;)Z" } : Jvm.MethodName) ({ cls := "java/lang/Object", name := "equals", desc := "(Ljava/lang/Object;)Z" } : Jvm.MethodName)) ∈ lw_all := lw_g (lw_at lw_m6 197 rfl) rfl
theorem q1812 : (Jvm.Cond.instantiable "MergeWorkbench$SyntaxException" (7 : Nat)) ∈ lw_all := lw_g (lw_at lw_m8 49 rfl) rfl
theorem q1813 : (Jvm.Cond.castable "MergeWorkbench$SyntaxException" "MergeWorkbench$SyntaxException") ∈ lw_tbl := lw_at lw_m8 50 rfl
theorem q1814 : (Jvm.Cond.selects "MergeWorkbench$SyntaxException" ({ cls := "java/lang/Throwable", name := "fillInStackTrace", desc := "(I)Ljava/lang/Throwable;" } : Jvm.MethodName) ({ cls := "java/lang/Throwable", name := "fillInStackTrace", desc := "(I)Ljava/lang/Throwable;" } : Jvm.MethodName)) ∈ lw_all := lw_g (lw_at lw_m8 51 rfl) rfl
theorem q1815 : (Jvm.Cond.lays "MergeWorkbench$SyntaxException" "java/lang/Throwable" "cause" "Ljava/lang/Throwable;") ∈ lw_all := lw_g (lw_at lw_m8 52 rfl) rfl
theorem q1816 : (Jvm.Cond.lays "MergeWorkbench$SyntaxException" "java/lang/Throwable" "stackTrace" "[Ljava/lang/StackTraceElement;") ∈ lw_all := lw_g (lw_at lw_m8 53 rfl) rfl
theorem q1817 : (Jvm.Cond.lays "MergeWorkbench$SyntaxException" "java/lang/Throwable" "suppressedExceptions" "Ljava/util/List;") ∈ lw_all := lw_g (lw_at lw_m8 54 rfl) rfl
theorem q1818 : (Jvm.Cond.lays "MergeWorkbench$SyntaxException" "java/lang/Throwable" "detailMessage" "Ljava/lang/String;") ∈ lw_all := lw_g (lw_at lw_m8 55 rfl) rfl
theorem q1819 : (Jvm.Cond.lays "MergeWorkbench$SyntaxException" "java/lang/Throwable" "backtrace" "Ljava/lang/Object;") ∈ lw_all := lw_g (lw_at lw_m8 56 rfl) rfl
theorem q1821 : (Jvm.Cond.instanceMethod ({ cls := "MergeWorkbench$SyntaxException", name := "<init>", desc := "(I)V" } : Jvm.MethodName)) ∈ lw_all := lw_g (lw_at lw_m8 58 rfl) rfl
theorem q1822 : (Jvm.Cond.code ({ cls := "MergeWorkbench$SyntaxException", name := "<init>", desc := "(I)V" } : Jvm.MethodName) prog_20_method_1_code (2 : Nat) (Option.none : Option Jvm.ClassFile.FieldType)) ∈ lw_all := lw_g (lw_at lw_m8 59 rfl) rfl
theorem q1823 : (Jvm.Cond.methodLink "MergeWorkbench$SyntaxException" (1 : Nat) ({ cls := "java/lang/Exception", name := "<init>", desc := "()V" } : Jvm.MethodName)) ∈ lw_all := lw_g (lw_at lw_m8 60 rfl) rfl
theorem q1824 : (Jvm.Cond.fieldLink "MergeWorkbench$SyntaxException" (7 : Nat) "MergeWorkbench$SyntaxException" "position" "I") ∈ lw_all := lw_g (lw_at lw_m8 61 rfl) rfl
theorem q1826 : (Jvm.Cond.laysFinal "MergeWorkbench$SyntaxException" "MergeWorkbench$SyntaxException" "position" "I") ∈ lw_all := lw_g (lw_at lw_m8 63 rfl) rfl
theorem q1827 : (Jvm.Cond.soleField "MergeWorkbench$SyntaxException" "position") ∈ lw_all := lw_g (lw_at lw_m8 64 rfl) rfl
theorem q1828 : (Jvm.Cond.lays "MergeWorkbench$SyntaxException" "java/lang/Throwable" "depth" "I") ∈ lw_all := lw_g (lw_at lw_m8 65 rfl) rfl
theorem q1829 : (Jvm.Cond.superclass "MergeWorkbench$SyntaxException" "java/lang/Exception") ∈ lw_all := lw_g (lw_at lw_m8 66 rfl) rfl
theorem q3922 : (Jvm.Cond.castable "MergeWorkbench$SyntaxException" "java/lang/Object") ∈ lw_tbl := lw_at lw_m16 239 rfl
theorem in_X8 : ∀ w ∈ wsX80, w ∈ lw_all := lw_in wsX80 [1815, 1816, 1817, 1818, 1819, 1828, 1826] (by decide +kernel) (by decide +kernel)

/-! MergeWorkbench$Comparison -/
set_option maxRecDepth 100000
def RX9 : String := "MergeWorkbench$Comparison"
def TX9 : u_T := fun k => match k with
  | 0 => ("MergeWorkbench$Comparison", "a", "Ljava/util/List;", true)
  | 1 => ("MergeWorkbench$Comparison", "b", "Ljava/util/List;", true)
  | 2 => ("MergeWorkbench$Comparison", "matches", "Ljava/util/List;", true)
  | 3 => ("MergeWorkbench$Comparison", "anchors", "I", true)
  | 4 => ("MergeWorkbench$Comparison", "differences", "Ljava/util/List;", true)
  | _ => ("MergeWorkbench$Comparison", "moves", "Ljava/util/List;", true)
def tyX9 : Nat → FieldType := fun k => match k with
  | 0 => .object "java/util/List"
  | 1 => .object "java/util/List"
  | 2 => .object "java/util/List"
  | 3 => .int
  | 4 => .object "java/util/List"
  | _ => .object "java/util/List"
abbrev wsX90 : List Cond := u_ws RX9 TX9 6
theorem nmX9 : ∀ a, a < 6 → ∀ b, b < 6 → a ≠ b → (TX9 a).2.1 ≠ (TX9 b).2.1 := by decide +kernel
theorem tyX9_ok : ∀ k, k < 6 → parseFieldDescriptor (TX9 k).2.2.1 = some (tyX9 k) := by decide +kernel
abbrev cX9_init : ByteArray := prog_6_method_1_code
def yX9_init : MethodName := ⟨RX9, "<init>", "(Ljava/util/List;Ljava/util/List;I)V"⟩
def dkwX9_init_8 : List UInt8 := [185, 0, 74, 1, 0, 21, 6, 42, 180, 0, 25, 185, 0, 74, 1, 0, 182, 0, 70, 177]
abbrev dktX9_init_8 : List UInt8 := dkwX9_init_8 ++ []
def dkwX9_init_7 : List UInt8 := [54, 5, 25, 8, 180, 0, 68, 4, 96, 54, 6, 167, 255, 198, 42, 21, 5, 42, 180, 0, 22]
abbrev dktX9_init_7 : List UInt8 := dkwX9_init_7 ++ dktX9_init_8
def dkwX9_init_6 : List UInt8 := [21, 5, 25, 8, 180, 0, 66, 21, 6, 25, 8, 180, 0, 68, 182, 0, 70, 25, 8, 180, 0, 66, 4, 96]
abbrev dktX9_init_6 : List UInt8 := dkwX9_init_6 ++ dktX9_init_7
def dkwX9_init_5 : List UInt8 := [25, 7, 185, 0, 54, 1, 0, 153, 0, 54, 25, 7, 185, 0, 60, 1, 0, 192, 0, 64, 58, 8, 42]
abbrev dktX9_init_5 : List UInt8 := dkwX9_init_5 ++ dktX9_init_6
def dkwX9_init_4 : List UInt8 := [180, 0, 43, 181, 0, 47, 3, 54, 5, 3, 54, 6, 42, 180, 0, 40, 185, 0, 48, 1, 0, 58, 7]
abbrev dktX9_init_4 : List UInt8 := dkwX9_init_4 ++ dktX9_init_5
def dkwX9_init_3 : List UInt8 := [154, 0, 11, 25, 4, 182, 0, 33, 167, 0, 8, 25, 4, 182, 0, 37, 181, 0, 40, 42, 25, 4]
abbrev dktX9_init_3 : List UInt8 := dkwX9_init_3 ++ dktX9_init_4
def dkwX9_init_2 : List UInt8 := [181, 0, 25, 187, 0, 28, 89, 42, 180, 0, 22, 42, 180, 0, 25, 183, 0, 30, 58, 4, 42, 29]
abbrev dktX9_init_2 : List UInt8 := dkwX9_init_2 ++ dktX9_init_3
def dkwX9_init_1 : List UInt8 := [181, 0, 16, 42, 187, 0, 7, 89, 43, 183, 0, 19, 181, 0, 22, 42, 187, 0, 7, 89, 44, 183, 0, 19]
abbrev dktX9_init_1 : List UInt8 := dkwX9_init_1 ++ dktX9_init_2
def dkwX9_init_0 : List UInt8 := [42, 183, 0, 1, 42, 187, 0, 7, 89, 183, 0, 9, 181, 0, 10, 42, 187, 0, 7, 89, 183, 0, 9]
abbrev dktX9_init_0 : List UInt8 := dkwX9_init_0 ++ dktX9_init_1
theorem dksX9_init_0 : cX9_init.data.toList.drop 0 = dktX9_init_0 := by decide +kernel
theorem dksX9_init_1 : cX9_init.data.toList.drop 23 = dktX9_init_1 := dk_seg dksX9_init_0 23 rfl rfl
theorem dksX9_init_2 : cX9_init.data.toList.drop 47 = dktX9_init_2 := dk_seg dksX9_init_1 24 rfl rfl
theorem dksX9_init_3 : cX9_init.data.toList.drop 69 = dktX9_init_3 := dk_seg dksX9_init_2 22 rfl rfl
theorem dksX9_init_4 : cX9_init.data.toList.drop 91 = dktX9_init_4 := dk_seg dksX9_init_3 22 rfl rfl
theorem dksX9_init_5 : cX9_init.data.toList.drop 114 = dktX9_init_5 := dk_seg dksX9_init_4 23 rfl rfl
theorem dksX9_init_6 : cX9_init.data.toList.drop 137 = dktX9_init_6 := dk_seg dksX9_init_5 23 rfl rfl
theorem dksX9_init_7 : cX9_init.data.toList.drop 161 = dktX9_init_7 := dk_seg dksX9_init_6 24 rfl rfl
theorem dksX9_init_8 : cX9_init.data.toList.drop 182 = dktX9_init_8 := dk_seg dksX9_init_7 21 rfl rfl
theorem dX9_init_0 : decode cX9_init 0 = .ok (.aload_n 0, 1) := dk_42 (dk_at dksX9_init_0 0 rfl rfl)
theorem dX9_init_1 : decode cX9_init 1 = .ok (.invokespecial 1, 3) := dk_183 0 1 (dk_at dksX9_init_0 1 rfl rfl)
theorem dX9_init_4 : decode cX9_init 4 = .ok (.aload_n 0, 1) := dk_42 (dk_at dksX9_init_0 4 rfl rfl)
theorem dX9_init_5 : decode cX9_init 5 = .ok (.new 7, 3) := dk_187 0 7 (dk_at dksX9_init_0 5 rfl rfl)
theorem dX9_init_8 : decode cX9_init 8 = .ok (.dup, 1) := dk_89 (dk_at dksX9_init_0 8 rfl rfl)
theorem dX9_init_9 : decode cX9_init 9 = .ok (.invokespecial 9, 3) := dk_183 0 9 (dk_at dksX9_init_0 9 rfl rfl)
theorem dX9_init_12 : decode cX9_init 12 = .ok (.putfield 10, 3) := dk_181 0 10 (dk_at dksX9_init_0 12 rfl rfl)
theorem dX9_init_15 : decode cX9_init 15 = .ok (.aload_n 0, 1) := dk_42 (dk_at dksX9_init_0 15 rfl rfl)
theorem dX9_init_16 : decode cX9_init 16 = .ok (.new 7, 3) := dk_187 0 7 (dk_at dksX9_init_0 16 rfl rfl)
theorem dX9_init_19 : decode cX9_init 19 = .ok (.dup, 1) := dk_89 (dk_at dksX9_init_0 19 rfl rfl)
theorem dX9_init_20 : decode cX9_init 20 = .ok (.invokespecial 9, 3) := dk_183 0 9 (dk_at dksX9_init_0 20 rfl rfl)
theorem dX9_init_23 : decode cX9_init 23 = .ok (.putfield 16, 3) := dk_181 0 16 (dk_at dksX9_init_1 0 rfl rfl)
theorem dX9_init_26 : decode cX9_init 26 = .ok (.aload_n 0, 1) := dk_42 (dk_at dksX9_init_1 3 rfl rfl)
theorem dX9_init_27 : decode cX9_init 27 = .ok (.new 7, 3) := dk_187 0 7 (dk_at dksX9_init_1 4 rfl rfl)
theorem dX9_init_30 : decode cX9_init 30 = .ok (.dup, 1) := dk_89 (dk_at dksX9_init_1 7 rfl rfl)
theorem dX9_init_31 : decode cX9_init 31 = .ok (.aload_n 1, 1) := dk_43 (dk_at dksX9_init_1 8 rfl rfl)
theorem dX9_init_32 : decode cX9_init 32 = .ok (.invokespecial 19, 3) := dk_183 0 19 (dk_at dksX9_init_1 9 rfl rfl)
theorem dX9_init_35 : decode cX9_init 35 = .ok (.putfield 22, 3) := dk_181 0 22 (dk_at dksX9_init_1 12 rfl rfl)
theorem dX9_init_38 : decode cX9_init 38 = .ok (.aload_n 0, 1) := dk_42 (dk_at dksX9_init_1 15 rfl rfl)
theorem dX9_init_39 : decode cX9_init 39 = .ok (.new 7, 3) := dk_187 0 7 (dk_at dksX9_init_1 16 rfl rfl)
theorem dX9_init_42 : decode cX9_init 42 = .ok (.dup, 1) := dk_89 (dk_at dksX9_init_1 19 rfl rfl)
theorem dX9_init_43 : decode cX9_init 43 = .ok (.aload_n 2, 1) := dk_44 (dk_at dksX9_init_1 20 rfl rfl)
theorem dX9_init_44 : decode cX9_init 44 = .ok (.invokespecial 19, 3) := dk_183 0 19 (dk_at dksX9_init_1 21 rfl rfl)
theorem dX9_init_47 : decode cX9_init 47 = .ok (.putfield 25, 3) := dk_181 0 25 (dk_at dksX9_init_2 0 rfl rfl)
theorem dX9_init_50 : decode cX9_init 50 = .ok (.new 28, 3) := dk_187 0 28 (dk_at dksX9_init_2 3 rfl rfl)
theorem dX9_init_53 : decode cX9_init 53 = .ok (.dup, 1) := dk_89 (dk_at dksX9_init_2 6 rfl rfl)
theorem dX9_init_54 : decode cX9_init 54 = .ok (.aload_n 0, 1) := dk_42 (dk_at dksX9_init_2 7 rfl rfl)
theorem dX9_init_55 : decode cX9_init 55 = .ok (.getfield 22, 3) := dk_180 0 22 (dk_at dksX9_init_2 8 rfl rfl)
theorem dX9_init_58 : decode cX9_init 58 = .ok (.aload_n 0, 1) := dk_42 (dk_at dksX9_init_2 11 rfl rfl)
theorem dX9_init_59 : decode cX9_init 59 = .ok (.getfield 25, 3) := dk_180 0 25 (dk_at dksX9_init_2 12 rfl rfl)
theorem dX9_init_62 : decode cX9_init 62 = .ok (.invokespecial 30, 3) := dk_183 0 30 (dk_at dksX9_init_2 15 rfl rfl)
theorem dX9_init_65 : decode cX9_init 65 = .ok (.astore 4, 2) := dk_58 4 (dk_at dksX9_init_2 18 rfl rfl)
theorem dX9_init_67 : decode cX9_init 67 = .ok (.aload_n 0, 1) := dk_42 (dk_at dksX9_init_2 20 rfl rfl)
theorem dX9_init_68 : decode cX9_init 68 = .ok (.iload_n 3, 1) := dk_29 (dk_at dksX9_init_2 21 rfl rfl)
theorem dX9_init_69 : decode cX9_init 69 = .ok (.ifCond .ne 11, 3) := dk_154 0 11 (dk_at dksX9_init_3 0 rfl rfl)
theorem dX9_init_72 : decode cX9_init 72 = .ok (.aload 4, 2) := dk_25 4 (dk_at dksX9_init_3 3 rfl rfl)
theorem dX9_init_74 : decode cX9_init 74 = .ok (.invokevirtual 33, 3) := dk_182 0 33 (dk_at dksX9_init_3 5 rfl rfl)
theorem dX9_init_77 : decode cX9_init 77 = .ok (.goto 8, 3) := dk_167 0 8 (dk_at dksX9_init_3 8 rfl rfl)
theorem dX9_init_80 : decode cX9_init 80 = .ok (.aload 4, 2) := dk_25 4 (dk_at dksX9_init_3 11 rfl rfl)
theorem dX9_init_82 : decode cX9_init 82 = .ok (.invokevirtual 37, 3) := dk_182 0 37 (dk_at dksX9_init_3 13 rfl rfl)
theorem dX9_init_85 : decode cX9_init 85 = .ok (.putfield 40, 3) := dk_181 0 40 (dk_at dksX9_init_3 16 rfl rfl)
theorem dX9_init_88 : decode cX9_init 88 = .ok (.aload_n 0, 1) := dk_42 (dk_at dksX9_init_3 19 rfl rfl)
theorem dX9_init_89 : decode cX9_init 89 = .ok (.aload 4, 2) := dk_25 4 (dk_at dksX9_init_3 20 rfl rfl)
theorem dX9_init_91 : decode cX9_init 91 = .ok (.getfield 43, 3) := dk_180 0 43 (dk_at dksX9_init_4 0 rfl rfl)
theorem dX9_init_94 : decode cX9_init 94 = .ok (.putfield 47, 3) := dk_181 0 47 (dk_at dksX9_init_4 3 rfl rfl)
theorem dX9_init_97 : decode cX9_init 97 = .ok (.iconst 0, 1) := dk_3 (dk_at dksX9_init_4 6 rfl rfl)
theorem dX9_init_98 : decode cX9_init 98 = .ok (.istore 5, 2) := dk_54 5 (dk_at dksX9_init_4 7 rfl rfl)
theorem dX9_init_100 : decode cX9_init 100 = .ok (.iconst 0, 1) := dk_3 (dk_at dksX9_init_4 9 rfl rfl)
theorem dX9_init_101 : decode cX9_init 101 = .ok (.istore 6, 2) := dk_54 6 (dk_at dksX9_init_4 10 rfl rfl)
theorem dX9_init_103 : decode cX9_init 103 = .ok (.aload_n 0, 1) := dk_42 (dk_at dksX9_init_4 12 rfl rfl)
theorem dX9_init_104 : decode cX9_init 104 = .ok (.getfield 40, 3) := dk_180 0 40 (dk_at dksX9_init_4 13 rfl rfl)
theorem dX9_init_107 : decode cX9_init 107 = .ok (.invokeinterface 48 1, 5) := by decide +kernel
theorem dX9_init_112 : decode cX9_init 112 = .ok (.astore 7, 2) := dk_58 7 (dk_at dksX9_init_4 21 rfl rfl)
theorem dX9_init_114 : decode cX9_init 114 = .ok (.aload 7, 2) := dk_25 7 (dk_at dksX9_init_5 0 rfl rfl)
theorem dX9_init_116 : decode cX9_init 116 = .ok (.invokeinterface 54 1, 5) := by decide +kernel
theorem dX9_init_121 : decode cX9_init 121 = .ok (.ifCond .eq 54, 3) := dk_153 0 54 (dk_at dksX9_init_5 7 rfl rfl)
theorem dX9_init_124 : decode cX9_init 124 = .ok (.aload 7, 2) := dk_25 7 (dk_at dksX9_init_5 10 rfl rfl)
theorem dX9_init_126 : decode cX9_init 126 = .ok (.invokeinterface 60 1, 5) := by decide +kernel
theorem dX9_init_131 : decode cX9_init 131 = .ok (.checkcast 64, 3) := dk_192 0 64 (dk_at dksX9_init_5 17 rfl rfl)
theorem dX9_init_134 : decode cX9_init 134 = .ok (.astore 8, 2) := dk_58 8 (dk_at dksX9_init_5 20 rfl rfl)
theorem dX9_init_136 : decode cX9_init 136 = .ok (.aload_n 0, 1) := dk_42 (dk_at dksX9_init_5 22 rfl rfl)
theorem dX9_init_137 : decode cX9_init 137 = .ok (.iload 5, 2) := dk_21 5 (dk_at dksX9_init_6 0 rfl rfl)
theorem dX9_init_139 : decode cX9_init 139 = .ok (.aload 8, 2) := dk_25 8 (dk_at dksX9_init_6 2 rfl rfl)
theorem dX9_init_141 : decode cX9_init 141 = .ok (.getfield 66, 3) := dk_180 0 66 (dk_at dksX9_init_6 4 rfl rfl)
theorem dX9_init_144 : decode cX9_init 144 = .ok (.iload 6, 2) := dk_21 6 (dk_at dksX9_init_6 7 rfl rfl)
theorem dX9_init_146 : decode cX9_init 146 = .ok (.aload 8, 2) := dk_25 8 (dk_at dksX9_init_6 9 rfl rfl)
theorem dX9_init_148 : decode cX9_init 148 = .ok (.getfield 68, 3) := dk_180 0 68 (dk_at dksX9_init_6 11 rfl rfl)
theorem dX9_init_151 : decode cX9_init 151 = .ok (.invokevirtual 70, 3) := dk_182 0 70 (dk_at dksX9_init_6 14 rfl rfl)
theorem dX9_init_154 : decode cX9_init 154 = .ok (.aload 8, 2) := dk_25 8 (dk_at dksX9_init_6 17 rfl rfl)
theorem dX9_init_156 : decode cX9_init 156 = .ok (.getfield 66, 3) := dk_180 0 66 (dk_at dksX9_init_6 19 rfl rfl)
theorem dX9_init_159 : decode cX9_init 159 = .ok (.iconst 1, 1) := dk_4 (dk_at dksX9_init_6 22 rfl rfl)
theorem dX9_init_160 : decode cX9_init 160 = .ok (.iadd, 1) := dk_96 (dk_at dksX9_init_6 23 rfl rfl)
theorem dX9_init_161 : decode cX9_init 161 = .ok (.istore 5, 2) := dk_54 5 (dk_at dksX9_init_7 0 rfl rfl)
theorem dX9_init_163 : decode cX9_init 163 = .ok (.aload 8, 2) := dk_25 8 (dk_at dksX9_init_7 2 rfl rfl)
theorem dX9_init_165 : decode cX9_init 165 = .ok (.getfield 68, 3) := dk_180 0 68 (dk_at dksX9_init_7 4 rfl rfl)
theorem dX9_init_168 : decode cX9_init 168 = .ok (.iconst 1, 1) := dk_4 (dk_at dksX9_init_7 7 rfl rfl)
theorem dX9_init_169 : decode cX9_init 169 = .ok (.iadd, 1) := dk_96 (dk_at dksX9_init_7 8 rfl rfl)
theorem dX9_init_170 : decode cX9_init 170 = .ok (.istore 6, 2) := dk_54 6 (dk_at dksX9_init_7 9 rfl rfl)
theorem dX9_init_172 : decode cX9_init 172 = .ok (.goto (-58), 3) := dk_167 255 198 (dk_at dksX9_init_7 11 rfl rfl)
theorem dX9_init_175 : decode cX9_init 175 = .ok (.aload_n 0, 1) := dk_42 (dk_at dksX9_init_7 14 rfl rfl)
theorem dX9_init_176 : decode cX9_init 176 = .ok (.iload 5, 2) := dk_21 5 (dk_at dksX9_init_7 15 rfl rfl)
theorem dX9_init_178 : decode cX9_init 178 = .ok (.aload_n 0, 1) := dk_42 (dk_at dksX9_init_7 17 rfl rfl)
theorem dX9_init_179 : decode cX9_init 179 = .ok (.getfield 22, 3) := dk_180 0 22 (dk_at dksX9_init_7 18 rfl rfl)
theorem dX9_init_182 : decode cX9_init 182 = .ok (.invokeinterface 74 1, 5) := by decide +kernel
theorem dX9_init_187 : decode cX9_init 187 = .ok (.iload 6, 2) := dk_21 6 (dk_at dksX9_init_8 5 rfl rfl)
theorem dX9_init_189 : decode cX9_init 189 = .ok (.aload_n 0, 1) := dk_42 (dk_at dksX9_init_8 7 rfl rfl)
theorem dX9_init_190 : decode cX9_init 190 = .ok (.getfield 25, 3) := dk_180 0 25 (dk_at dksX9_init_8 8 rfl rfl)
theorem dX9_init_193 : decode cX9_init 193 = .ok (.invokeinterface 74 1, 5) := by decide +kernel
theorem dX9_init_198 : decode cX9_init 198 = .ok (.invokevirtual 70, 3) := dk_182 0 70 (dk_at dksX9_init_8 16 rfl rfl)
theorem dX9_init_201 : decode cX9_init 201 = .ok (.return_, 1) := dk_177 (dk_at dksX9_init_8 19 rfl rfl)
abbrev cX9_addDifference : ByteArray := prog_6_method_2_code
def yX9_addDifference : MethodName := ⟨RX9, "addDifference", "(IIII)V"⟩
def dkwX9_addDifference_2 : List UInt8 := [183, 0, 85, 185, 0, 88, 2, 0, 87, 177]
abbrev dktX9_addDifference_2 : List UInt8 := dkwX9_addDifference_2 ++ []
def dkwX9_addDifference_1 : List UInt8 := [180, 0, 22, 27, 28, 183, 0, 82, 187, 0, 80, 89, 42, 180, 0, 25, 29, 21, 4, 183, 0, 82]
abbrev dktX9_addDifference_1 : List UInt8 := dkwX9_addDifference_1 ++ dktX9_addDifference_2
def dkwX9_addDifference_0 : List UInt8 := [27, 28, 161, 0, 9, 29, 21, 4, 162, 0, 47, 42, 180, 0, 10, 187, 0, 78, 89, 187, 0, 80, 89, 42]
abbrev dktX9_addDifference_0 : List UInt8 := dkwX9_addDifference_0 ++ dktX9_addDifference_1
theorem dksX9_addDifference_0 : cX9_addDifference.data.toList.drop 0 = dktX9_addDifference_0 := by decide +kernel
theorem dksX9_addDifference_1 : cX9_addDifference.data.toList.drop 24 = dktX9_addDifference_1 := dk_seg dksX9_addDifference_0 24 rfl rfl
theorem dksX9_addDifference_2 : cX9_addDifference.data.toList.drop 46 = dktX9_addDifference_2 := dk_seg dksX9_addDifference_1 22 rfl rfl
theorem dX9_addDifference_0 : decode cX9_addDifference 0 = .ok (.iload_n 1, 1) := dk_27 (dk_at dksX9_addDifference_0 0 rfl rfl)
theorem dX9_addDifference_1 : decode cX9_addDifference 1 = .ok (.iload_n 2, 1) := dk_28 (dk_at dksX9_addDifference_0 1 rfl rfl)
theorem dX9_addDifference_2 : decode cX9_addDifference 2 = .ok (.if_icmp .lt 9, 3) := dk_161 0 9 (dk_at dksX9_addDifference_0 2 rfl rfl)
theorem dX9_addDifference_5 : decode cX9_addDifference 5 = .ok (.iload_n 3, 1) := dk_29 (dk_at dksX9_addDifference_0 5 rfl rfl)
theorem dX9_addDifference_6 : decode cX9_addDifference 6 = .ok (.iload 4, 2) := dk_21 4 (dk_at dksX9_addDifference_0 6 rfl rfl)
theorem dX9_addDifference_8 : decode cX9_addDifference 8 = .ok (.if_icmp .ge 47, 3) := dk_162 0 47 (dk_at dksX9_addDifference_0 8 rfl rfl)
theorem dX9_addDifference_11 : decode cX9_addDifference 11 = .ok (.aload_n 0, 1) := dk_42 (dk_at dksX9_addDifference_0 11 rfl rfl)
theorem dX9_addDifference_12 : decode cX9_addDifference 12 = .ok (.getfield 10, 3) := dk_180 0 10 (dk_at dksX9_addDifference_0 12 rfl rfl)
theorem dX9_addDifference_15 : decode cX9_addDifference 15 = .ok (.new 78, 3) := dk_187 0 78 (dk_at dksX9_addDifference_0 15 rfl rfl)
theorem dX9_addDifference_18 : decode cX9_addDifference 18 = .ok (.dup, 1) := dk_89 (dk_at dksX9_addDifference_0 18 rfl rfl)
theorem dX9_addDifference_19 : decode cX9_addDifference 19 = .ok (.new 80, 3) := dk_187 0 80 (dk_at dksX9_addDifference_0 19 rfl rfl)
theorem dX9_addDifference_22 : decode cX9_addDifference 22 = .ok (.dup, 1) := dk_89 (dk_at dksX9_addDifference_0 22 rfl rfl)
theorem dX9_addDifference_23 : decode cX9_addDifference 23 = .ok (.aload_n 0, 1) := dk_42 (dk_at dksX9_addDifference_0 23 rfl rfl)
theorem dX9_addDifference_24 : decode cX9_addDifference 24 = .ok (.getfield 22, 3) := dk_180 0 22 (dk_at dksX9_addDifference_1 0 rfl rfl)
theorem dX9_addDifference_27 : decode cX9_addDifference 27 = .ok (.iload_n 1, 1) := dk_27 (dk_at dksX9_addDifference_1 3 rfl rfl)
theorem dX9_addDifference_28 : decode cX9_addDifference 28 = .ok (.iload_n 2, 1) := dk_28 (dk_at dksX9_addDifference_1 4 rfl rfl)
theorem dX9_addDifference_29 : decode cX9_addDifference 29 = .ok (.invokespecial 82, 3) := dk_183 0 82 (dk_at dksX9_addDifference_1 5 rfl rfl)
theorem dX9_addDifference_32 : decode cX9_addDifference 32 = .ok (.new 80, 3) := dk_187 0 80 (dk_at dksX9_addDifference_1 8 rfl rfl)
theorem dX9_addDifference_35 : decode cX9_addDifference 35 = .ok (.dup, 1) := dk_89 (dk_at dksX9_addDifference_1 11 rfl rfl)
theorem dX9_addDifference_36 : decode cX9_addDifference 36 = .ok (.aload_n 0, 1) := dk_42 (dk_at dksX9_addDifference_1 12 rfl rfl)
theorem dX9_addDifference_37 : decode cX9_addDifference 37 = .ok (.getfield 25, 3) := dk_180 0 25 (dk_at dksX9_addDifference_1 13 rfl rfl)
theorem dX9_addDifference_40 : decode cX9_addDifference 40 = .ok (.iload_n 3, 1) := dk_29 (dk_at dksX9_addDifference_1 16 rfl rfl)
theorem dX9_addDifference_41 : decode cX9_addDifference 41 = .ok (.iload 4, 2) := dk_21 4 (dk_at dksX9_addDifference_1 17 rfl rfl)
theorem dX9_addDifference_43 : decode cX9_addDifference 43 = .ok (.invokespecial 82, 3) := dk_183 0 82 (dk_at dksX9_addDifference_1 19 rfl rfl)
theorem dX9_addDifference_46 : decode cX9_addDifference 46 = .ok (.invokespecial 85, 3) := dk_183 0 85 (dk_at dksX9_addDifference_2 0 rfl rfl)
theorem dX9_addDifference_49 : decode cX9_addDifference 49 = .ok (.invokeinterface 88 2, 5) := by decide +kernel
theorem dX9_addDifference_54 : decode cX9_addDifference 54 = .ok (.pop, 1) := dk_87 (dk_at dksX9_addDifference_2 8 rfl rfl)
theorem dX9_addDifference_55 : decode cX9_addDifference 55 = .ok (.return_, 1) := dk_177 (dk_at dksX9_addDifference_2 9 rfl rfl)
abbrev cX9_partner : ByteArray := prog_6_method_3_code
def yX9_partner : MethodName := ⟨RX9, "partner", "(I)I"⟩
def dkwX9_partner_2 : List UInt8 := [185, 0, 92, 2, 0, 192, 0, 64, 180, 0, 68, 172, 132, 2, 1, 167, 255, 203, 2, 172]
abbrev dktX9_partner_2 : List UInt8 := dkwX9_partner_2 ++ []
def dkwX9_partner_1 : List UInt8 := [185, 0, 92, 2, 0, 192, 0, 64, 180, 0, 66, 27, 160, 0, 20, 42, 180, 0, 40, 28]
abbrev dktX9_partner_1 : List UInt8 := dkwX9_partner_1 ++ dktX9_partner_2
def dkwX9_partner_0 : List UInt8 := [3, 61, 28, 42, 180, 0, 40, 185, 0, 74, 1, 0, 162, 0, 46, 42, 180, 0, 40, 28]
abbrev dktX9_partner_0 : List UInt8 := dkwX9_partner_0 ++ dktX9_partner_1
theorem dksX9_partner_0 : cX9_partner.data.toList.drop 0 = dktX9_partner_0 := by decide +kernel
theorem dksX9_partner_1 : cX9_partner.data.toList.drop 20 = dktX9_partner_1 := dk_seg dksX9_partner_0 20 rfl rfl
theorem dksX9_partner_2 : cX9_partner.data.toList.drop 40 = dktX9_partner_2 := dk_seg dksX9_partner_1 20 rfl rfl
theorem dX9_partner_0 : decode cX9_partner 0 = .ok (.iconst 0, 1) := dk_3 (dk_at dksX9_partner_0 0 rfl rfl)
theorem dX9_partner_1 : decode cX9_partner 1 = .ok (.istore_n 2, 1) := dk_61 (dk_at dksX9_partner_0 1 rfl rfl)
theorem dX9_partner_2 : decode cX9_partner 2 = .ok (.iload_n 2, 1) := dk_28 (dk_at dksX9_partner_0 2 rfl rfl)
theorem dX9_partner_3 : decode cX9_partner 3 = .ok (.aload_n 0, 1) := dk_42 (dk_at dksX9_partner_0 3 rfl rfl)
theorem dX9_partner_4 : decode cX9_partner 4 = .ok (.getfield 40, 3) := dk_180 0 40 (dk_at dksX9_partner_0 4 rfl rfl)
theorem dX9_partner_7 : decode cX9_partner 7 = .ok (.invokeinterface 74 1, 5) := by decide +kernel
theorem dX9_partner_12 : decode cX9_partner 12 = .ok (.if_icmp .ge 46, 3) := dk_162 0 46 (dk_at dksX9_partner_0 12 rfl rfl)
theorem dX9_partner_15 : decode cX9_partner 15 = .ok (.aload_n 0, 1) := dk_42 (dk_at dksX9_partner_0 15 rfl rfl)
theorem dX9_partner_16 : decode cX9_partner 16 = .ok (.getfield 40, 3) := dk_180 0 40 (dk_at dksX9_partner_0 16 rfl rfl)
theorem dX9_partner_19 : decode cX9_partner 19 = .ok (.iload_n 2, 1) := dk_28 (dk_at dksX9_partner_0 19 rfl rfl)
theorem dX9_partner_20 : decode cX9_partner 20 = .ok (.invokeinterface 92 2, 5) := by decide +kernel
theorem dX9_partner_25 : decode cX9_partner 25 = .ok (.checkcast 64, 3) := dk_192 0 64 (dk_at dksX9_partner_1 5 rfl rfl)
theorem dX9_partner_28 : decode cX9_partner 28 = .ok (.getfield 66, 3) := dk_180 0 66 (dk_at dksX9_partner_1 8 rfl rfl)
theorem dX9_partner_31 : decode cX9_partner 31 = .ok (.iload_n 1, 1) := dk_27 (dk_at dksX9_partner_1 11 rfl rfl)
theorem dX9_partner_32 : decode cX9_partner 32 = .ok (.if_icmp .ne 20, 3) := dk_160 0 20 (dk_at dksX9_partner_1 12 rfl rfl)
theorem dX9_partner_35 : decode cX9_partner 35 = .ok (.aload_n 0, 1) := dk_42 (dk_at dksX9_partner_1 15 rfl rfl)
theorem dX9_partner_36 : decode cX9_partner 36 = .ok (.getfield 40, 3) := dk_180 0 40 (dk_at dksX9_partner_1 16 rfl rfl)
theorem dX9_partner_39 : decode cX9_partner 39 = .ok (.iload_n 2, 1) := dk_28 (dk_at dksX9_partner_1 19 rfl rfl)
theorem dX9_partner_40 : decode cX9_partner 40 = .ok (.invokeinterface 92 2, 5) := by decide +kernel
theorem dX9_partner_45 : decode cX9_partner 45 = .ok (.checkcast 64, 3) := dk_192 0 64 (dk_at dksX9_partner_2 5 rfl rfl)
theorem dX9_partner_48 : decode cX9_partner 48 = .ok (.getfield 68, 3) := dk_180 0 68 (dk_at dksX9_partner_2 8 rfl rfl)
theorem dX9_partner_51 : decode cX9_partner 51 = .ok (.ireturn, 1) := dk_172 (dk_at dksX9_partner_2 11 rfl rfl)
theorem dX9_partner_52 : decode cX9_partner 52 = .ok (.iinc 2 1, 3) := dk_132 2 1 (dk_at dksX9_partner_2 12 rfl rfl)
theorem dX9_partner_55 : decode cX9_partner 55 = .ok (.goto (-53), 3) := dk_167 255 203 (dk_at dksX9_partner_2 15 rfl rfl)
theorem dX9_partner_58 : decode cX9_partner 58 = .ok (.iconst (-1), 1) := dk_2 (dk_at dksX9_partner_2 18 rfl rfl)
theorem dX9_partner_59 : decode cX9_partner 59 = .ok (.ireturn, 1) := dk_172 (dk_at dksX9_partner_2 19 rfl rfl)
abbrev cX9_iterator : ByteArray := prog_6_method_4_code
def yX9_iterator : MethodName := ⟨RX9, "iterator", "()Ljava/util/Iterator;"⟩
def dkwX9_iterator_0 : List UInt8 := [187, 0, 96, 89, 42, 183, 0, 98, 176]
abbrev dktX9_iterator_0 : List UInt8 := dkwX9_iterator_0 ++ []
theorem dksX9_iterator_0 : cX9_iterator.data.toList.drop 0 = dktX9_iterator_0 := by decide +kernel
theorem dX9_iterator_0 : decode cX9_iterator 0 = .ok (.new 96, 3) := dk_187 0 96 (dk_at dksX9_iterator_0 0 rfl rfl)
theorem dX9_iterator_3 : decode cX9_iterator 3 = .ok (.dup, 1) := dk_89 (dk_at dksX9_iterator_0 3 rfl rfl)
theorem dX9_iterator_4 : decode cX9_iterator 4 = .ok (.aload_n 0, 1) := dk_42 (dk_at dksX9_iterator_0 4 rfl rfl)
theorem dX9_iterator_5 : decode cX9_iterator 5 = .ok (.invokespecial 98, 3) := dk_183 0 98 (dk_at dksX9_iterator_0 5 rfl rfl)
theorem dX9_iterator_8 : decode cX9_iterator 8 = .ok (.areturn, 1) := dk_176 (dk_at dksX9_iterator_0 8 rfl rfl)
abbrev cX9_findMoves : ByteArray := prog_6_method_5_code
def yX9_findMoves : MethodName := ⟨RX9, "findMoves", "(I)I"⟩
def dkwX9_findMoves_0 : List UInt8 := [187, 0, 101, 89, 42, 183, 0, 103, 27, 182, 0, 104, 42, 180, 0, 16, 185, 0, 74, 1, 0, 172]
abbrev dktX9_findMoves_0 : List UInt8 := dkwX9_findMoves_0 ++ []
theorem dksX9_findMoves_0 : cX9_findMoves.data.toList.drop 0 = dktX9_findMoves_0 := by decide +kernel
theorem dX9_findMoves_0 : decode cX9_findMoves 0 = .ok (.new 101, 3) := dk_187 0 101 (dk_at dksX9_findMoves_0 0 rfl rfl)
theorem dX9_findMoves_3 : decode cX9_findMoves 3 = .ok (.dup, 1) := dk_89 (dk_at dksX9_findMoves_0 3 rfl rfl)
theorem dX9_findMoves_4 : decode cX9_findMoves 4 = .ok (.aload_n 0, 1) := dk_42 (dk_at dksX9_findMoves_0 4 rfl rfl)
theorem dX9_findMoves_5 : decode cX9_findMoves 5 = .ok (.invokespecial 103, 3) := dk_183 0 103 (dk_at dksX9_findMoves_0 5 rfl rfl)
theorem dX9_findMoves_8 : decode cX9_findMoves 8 = .ok (.iload_n 1, 1) := dk_27 (dk_at dksX9_findMoves_0 8 rfl rfl)
theorem dX9_findMoves_9 : decode cX9_findMoves 9 = .ok (.invokevirtual 104, 3) := dk_182 0 104 (dk_at dksX9_findMoves_0 9 rfl rfl)
theorem dX9_findMoves_12 : decode cX9_findMoves 12 = .ok (.aload_n 0, 1) := dk_42 (dk_at dksX9_findMoves_0 12 rfl rfl)
theorem dX9_findMoves_13 : decode cX9_findMoves 13 = .ok (.getfield 16, 3) := dk_180 0 16 (dk_at dksX9_findMoves_0 13 rfl rfl)
theorem dX9_findMoves_16 : decode cX9_findMoves 16 = .ok (.invokeinterface 74 1, 5) := by decide +kernel
theorem dX9_findMoves_21 : decode cX9_findMoves 21 = .ok (.ireturn, 1) := dk_172 (dk_at dksX9_findMoves_0 21 rfl rfl)
theorem q134 : (Jvm.Cond.initialized "MergeWorkbench$Comparison") ∈ lw_all := lw_g (lw_at lw_m1 51 rfl) rfl
theorem q298 : (Jvm.Cond.selects "MergeWorkbench$Comparison" ({ cls := "java/lang/Object", name := "getClass", desc := "()Ljava/lang/Class;" } : Jvm.MethodName) ({ cls := "java/lang/Object", name := "getClass", desc := "()Ljava/lang/Class;" } : Jvm.MethodName)) ∈ lw_all := lw_g (lw_at lw_m1 215 rfl) rfl
theorem q1466 : (Jvm.Cond.selects "MergeWorkbench$Comparison" ({ cls := "java/lang/Object", name := "equals", desc := "(Ljava/lang/Object;)Z" } : Jvm.MethodName) ({ cls := "java/lang/Object", name := "equals", desc := "(Ljava/lang/Object;)Z" } : Jvm.MethodName)) ∈ lw_all := lw_g (lw_at lw_m6 183 rfl) rfl
theorem q1644 : (Jvm.Cond.fieldLinkNest "MergeWorkbench$Comparison" (43 : Nat) "MergeWorkbench$Aligner" "anchors" "I" "MergeWorkbench") ∈ lw_tbl := lw_at lw_m7 121 rfl
theorem q1700 : (Jvm.Cond.fieldLinkNest "MergeWorkbench$Comparison" (66 : Nat) "MergeWorkbench$Match" "a" "I" "MergeWorkbench") ∈ lw_tbl := lw_at lw_m7 177 rfl
theorem q1704 : (Jvm.Cond.fieldLinkNest "MergeWorkbench$Comparison" (68 : Nat) "MergeWorkbench$Match" "b" "I" "MergeWorkbench") ∈ lw_tbl := lw_at lw_m7 181 rfl
theorem q2185 : (Jvm.Cond.instantiable "MergeWorkbench$Comparison" (6 : Nat)) ∈ lw_all := lw_g (lw_at lw_m9 182 rfl) rfl
theorem q2187 : (Jvm.Cond.instanceMethod ({ cls := "MergeWorkbench$Comparison", name := "<init>", desc := "(Ljava/util/List;Ljava/util/List;I)V" } : Jvm.MethodName)) ∈ lw_all := lw_g (lw_at lw_m9 184 rfl) rfl
theorem q2188 : (Jvm.Cond.code ({ cls := "MergeWorkbench$Comparison", name := "<init>", desc := "(Ljava/util/List;Ljava/util/List;I)V" } : Jvm.MethodName) prog_6_method_1_code (9 : Nat) (Option.none : Option Jvm.ClassFile.FieldType)) ∈ lw_all := lw_g (lw_at lw_m9 185 rfl) rfl
theorem q2189 : (Jvm.Cond.methodLink "MergeWorkbench$Comparison" (1 : Nat) ({ cls := "java/lang/Object", name := "<init>", desc := "()V" } : Jvm.MethodName)) ∈ lw_all := lw_g (lw_at lw_m9 186 rfl) rfl
theorem q2190 : (Jvm.Cond.classLink "MergeWorkbench$Comparison" (7 : Nat) "java/util/ArrayList") ∈ lw_all := lw_g (lw_at lw_m9 187 rfl) rfl
theorem q2191 : (Jvm.Cond.methodLink "MergeWorkbench$Comparison" (9 : Nat) ({ cls := "java/util/ArrayList", name := "<init>", desc := "()V" } : Jvm.MethodName)) ∈ lw_all := lw_g (lw_at lw_m9 188 rfl) rfl
theorem q2192 : (Jvm.Cond.methodLink "MergeWorkbench$Comparison" (19 : Nat) ({ cls := "java/util/ArrayList", name := "<init>", desc := "(Ljava/util/Collection;)V" } : Jvm.MethodName)) ∈ lw_all := lw_g (lw_at lw_m9 189 rfl) rfl
theorem q2193 : (Jvm.Cond.classLink "MergeWorkbench$Comparison" (28 : Nat) "MergeWorkbench$Aligner") ∈ lw_all := lw_g (lw_at lw_m9 190 rfl) rfl
theorem q2194 : (Jvm.Cond.methodLink "MergeWorkbench$Comparison" (30 : Nat) ({ cls := "MergeWorkbench$Aligner", name := "<init>", desc := "(Ljava/util/List;Ljava/util/List;)V" } : Jvm.MethodName)) ∈ lw_all := lw_g (lw_at lw_m9 191 rfl) rfl
theorem q2195 : (Jvm.Cond.methodLink "MergeWorkbench$Comparison" (33 : Nat) ({ cls := "MergeWorkbench$Aligner", name := "plain", desc := "()Ljava/util/List;" } : Jvm.MethodName)) ∈ lw_all := lw_g (lw_at lw_m9 192 rfl) rfl
theorem q2196 : (Jvm.Cond.methodLink "MergeWorkbench$Comparison" (37 : Nat) ({ cls := "MergeWorkbench$Aligner", name := "anchored", desc := "()Ljava/util/List;" } : Jvm.MethodName)) ∈ lw_all := lw_g (lw_at lw_m9 193 rfl) rfl
theorem q2354 : (Jvm.Cond.interfaceEntry "MergeWorkbench$Comparison" (48 : Nat)) ∈ lw_tbl := lw_at lw_m10 111 rfl
theorem q2355 : (Jvm.Cond.methodLink "MergeWorkbench$Comparison" (48 : Nat) ({ cls := "java/util/List", name := "iterator", desc := "()Ljava/util/Iterator;" } : Jvm.MethodName)) ∈ lw_all := lw_g (lw_at lw_m10 112 rfl) rfl
theorem q2356 : (Jvm.Cond.interfaceEntry "MergeWorkbench$Comparison" (54 : Nat)) ∈ lw_tbl := lw_at lw_m10 113 rfl
theorem q2357 : (Jvm.Cond.methodLink "MergeWorkbench$Comparison" (54 : Nat) ({ cls := "java/util/Iterator", name := "hasNext", desc := "()Z" } : Jvm.MethodName)) ∈ lw_all := lw_g (lw_at lw_m10 114 rfl) rfl
theorem q2358 : (Jvm.Cond.interfaceEntry "MergeWorkbench$Comparison" (60 : Nat)) ∈ lw_tbl := lw_at lw_m10 115 rfl
theorem q2359 : (Jvm.Cond.methodLink "MergeWorkbench$Comparison" (60 : Nat) ({ cls := "java/util/Iterator", name := "next", desc := "()Ljava/lang/Object;" } : Jvm.MethodName)) ∈ lw_all := lw_g (lw_at lw_m10 116 rfl) rfl
theorem q2360 : (Jvm.Cond.classLink "MergeWorkbench$Comparison" (64 : Nat) "MergeWorkbench$Match") ∈ lw_all := lw_g (lw_at lw_m10 117 rfl) rfl
theorem q2361 : (Jvm.Cond.methodLink "MergeWorkbench$Comparison" (70 : Nat) ({ cls := "MergeWorkbench$Comparison", name := "addDifference", desc := "(IIII)V" } : Jvm.MethodName)) ∈ lw_all := lw_g (lw_at lw_m10 118 rfl) rfl
theorem q2362 : (Jvm.Cond.privateMethod ({ cls := "MergeWorkbench$Comparison", name := "addDifference", desc := "(IIII)V" } : Jvm.MethodName)) ∈ lw_tbl := lw_at lw_m10 119 rfl
theorem q2363 : (Jvm.Cond.instanceMethod ({ cls := "MergeWorkbench$Comparison", name := "addDifference", desc := "(IIII)V" } : Jvm.MethodName)) ∈ lw_all := lw_g (lw_at lw_m10 120 rfl) rfl
theorem q2364 : (Jvm.Cond.code ({ cls := "MergeWorkbench$Comparison", name := "addDifference", desc := "(IIII)V" } : Jvm.MethodName) prog_6_method_2_code (5 : Nat) (Option.none : Option Jvm.ClassFile.FieldType)) ∈ lw_all := lw_g (lw_at lw_m10 121 rfl) rfl
theorem q2365 : (Jvm.Cond.classLink "MergeWorkbench$Comparison" (78 : Nat) "MergeWorkbench$Difference") ∈ lw_all := lw_g (lw_at lw_m10 122 rfl) rfl
theorem q2367 : (Jvm.Cond.classLink "MergeWorkbench$Comparison" (80 : Nat) "MergeWorkbench$Part") ∈ lw_all := lw_g (lw_at lw_m10 124 rfl) rfl
theorem q2369 : (Jvm.Cond.methodLink "MergeWorkbench$Comparison" (82 : Nat) ({ cls := "MergeWorkbench$Part", name := "<init>", desc := "(Ljava/util/List;II)V" } : Jvm.MethodName)) ∈ lw_all := lw_g (lw_at lw_m10 126 rfl) rfl
theorem q2394 : (Jvm.Cond.methodLink "MergeWorkbench$Comparison" (85 : Nat) ({ cls := "MergeWorkbench$Difference", name := "<init>", desc := "(LMergeWorkbench$Part;LMergeWorkbench$Part;)V" } : Jvm.MethodName)) ∈ lw_all := lw_g (lw_at lw_m10 151 rfl) rfl
theorem q2409 : (Jvm.Cond.interfaceEntry "MergeWorkbench$Comparison" (88 : Nat)) ∈ lw_tbl := lw_at lw_m10 166 rfl
theorem q2410 : (Jvm.Cond.methodLink "MergeWorkbench$Comparison" (88 : Nat) ({ cls := "java/util/List", name := "add", desc := "(Ljava/lang/Object;)Z" } : Jvm.MethodName)) ∈ lw_all := lw_g (lw_at lw_m10 167 rfl) rfl
theorem q2411 : (Jvm.Cond.interfaceEntry "MergeWorkbench$Comparison" (74 : Nat)) ∈ lw_tbl := lw_at lw_m10 168 rfl
theorem q2412 : (Jvm.Cond.methodLink "MergeWorkbench$Comparison" (74 : Nat) ({ cls := "java/util/List", name := "size", desc := "()I" } : Jvm.MethodName)) ∈ lw_all := lw_g (lw_at lw_m10 169 rfl) rfl
theorem q2414 : (Jvm.Cond.fieldLink "MergeWorkbench$Comparison" (22 : Nat) "MergeWorkbench$Comparison" "a" "Ljava/util/List;") ∈ lw_all := lw_g (lw_at lw_m10 171 rfl) rfl
theorem q2420 : (Jvm.Cond.fieldLink "MergeWorkbench$Comparison" (25 : Nat) "MergeWorkbench$Comparison" "b" "Ljava/util/List;") ∈ lw_all := lw_g (lw_at lw_m10 177 rfl) rfl
theorem q2425 : (Jvm.Cond.fieldLink "MergeWorkbench$Comparison" (40 : Nat) "MergeWorkbench$Comparison" "matches" "Ljava/util/List;") ∈ lw_all := lw_g (lw_at lw_m10 182 rfl) rfl
theorem q2428 : (Jvm.Cond.fieldLink "MergeWorkbench$Comparison" (47 : Nat) "MergeWorkbench$Comparison" "anchors" "I") ∈ lw_all := lw_g (lw_at lw_m10 185 rfl) rfl
theorem q2430 : (Jvm.Cond.fieldLink "MergeWorkbench$Comparison" (10 : Nat) "MergeWorkbench$Comparison" "differences" "Ljava/util/List;") ∈ lw_all := lw_g (lw_at lw_m10 187 rfl) rfl
theorem q2434 : (Jvm.Cond.fieldLink "MergeWorkbench$Comparison" (16 : Nat) "MergeWorkbench$Comparison" "moves" "Ljava/util/List;") ∈ lw_all := lw_g (lw_at lw_m10 191 rfl) rfl
theorem q2437 : (Jvm.Cond.laysFinal "MergeWorkbench$Comparison" "MergeWorkbench$Comparison" "a" "Ljava/util/List;") ∈ lw_all := lw_g (lw_at lw_m10 194 rfl) rfl
theorem q2438 : (Jvm.Cond.soleField "MergeWorkbench$Comparison" "a") ∈ lw_all := lw_g (lw_at lw_m10 195 rfl) rfl
theorem q2439 : (Jvm.Cond.laysFinal "MergeWorkbench$Comparison" "MergeWorkbench$Comparison" "b" "Ljava/util/List;") ∈ lw_all := lw_g (lw_at lw_m10 196 rfl) rfl
theorem q2440 : (Jvm.Cond.soleField "MergeWorkbench$Comparison" "b") ∈ lw_all := lw_g (lw_at lw_m10 197 rfl) rfl
theorem q2441 : (Jvm.Cond.laysFinal "MergeWorkbench$Comparison" "MergeWorkbench$Comparison" "matches" "Ljava/util/List;") ∈ lw_all := lw_g (lw_at lw_m10 198 rfl) rfl
theorem q2442 : (Jvm.Cond.soleField "MergeWorkbench$Comparison" "matches") ∈ lw_all := lw_g (lw_at lw_m10 199 rfl) rfl
theorem q2443 : (Jvm.Cond.laysFinal "MergeWorkbench$Comparison" "MergeWorkbench$Comparison" "anchors" "I") ∈ lw_all := lw_g (lw_at lw_m10 200 rfl) rfl
theorem q2444 : (Jvm.Cond.soleField "MergeWorkbench$Comparison" "anchors") ∈ lw_all := lw_g (lw_at lw_m10 201 rfl) rfl
theorem q2445 : (Jvm.Cond.laysFinal "MergeWorkbench$Comparison" "MergeWorkbench$Comparison" "differences" "Ljava/util/List;") ∈ lw_all := lw_g (lw_at lw_m10 202 rfl) rfl
theorem q2446 : (Jvm.Cond.soleField "MergeWorkbench$Comparison" "differences") ∈ lw_all := lw_g (lw_at lw_m10 203 rfl) rfl
theorem q2447 : (Jvm.Cond.laysFinal "MergeWorkbench$Comparison" "MergeWorkbench$Comparison" "moves" "Ljava/util/List;") ∈ lw_all := lw_g (lw_at lw_m10 204 rfl) rfl
theorem q2448 : (Jvm.Cond.soleField "MergeWorkbench$Comparison" "moves") ∈ lw_all := lw_g (lw_at lw_m10 205 rfl) rfl
theorem q2449 : (Jvm.Cond.superclass "MergeWorkbench$Comparison" "java/lang/Object") ∈ lw_all := lw_g (lw_at lw_m10 206 rfl) rfl
theorem q2462 : (Jvm.Cond.instanceMethod ({ cls := "MergeWorkbench$Comparison", name := "partner", desc := "(I)I" } : Jvm.MethodName)) ∈ lw_all := lw_g (lw_at lw_m10 219 rfl) rfl
theorem q2463 : (Jvm.Cond.selects "MergeWorkbench$Comparison" ({ cls := "MergeWorkbench$Comparison", name := "partner", desc := "(I)I" } : Jvm.MethodName) ({ cls := "MergeWorkbench$Comparison", name := "partner", desc := "(I)I" } : Jvm.MethodName)) ∈ lw_all := lw_g (lw_at lw_m10 220 rfl) rfl
theorem q2464 : (Jvm.Cond.code ({ cls := "MergeWorkbench$Comparison", name := "partner", desc := "(I)I" } : Jvm.MethodName) prog_6_method_3_code (3 : Nat) (Option.some Jvm.ClassFile.FieldType.int)) ∈ lw_all := lw_g (lw_at lw_m10 221 rfl) rfl
theorem q2465 : (Jvm.Cond.interfaceEntry "MergeWorkbench$Comparison" (92 : Nat)) ∈ lw_tbl := lw_at lw_m10 222 rfl
theorem q2466 : (Jvm.Cond.methodLink "MergeWorkbench$Comparison" (92 : Nat) ({ cls := "java/util/List", name := "get", desc := "(I)Ljava/lang/Object;" } : Jvm.MethodName)) ∈ lw_all := lw_g (lw_at lw_m10 223 rfl) rfl
theorem q2502 : (Jvm.Cond.instanceMethod ({ cls := "MergeWorkbench$Comparison", name := "iterator", desc := "()Ljava/util/Iterator;" } : Jvm.MethodName)) ∈ lw_all := lw_g (lw_at lw_m11 19 rfl) rfl
theorem q2503 : (Jvm.Cond.selects "MergeWorkbench$Comparison" ({ cls := "MergeWorkbench$Comparison", name := "iterator", desc := "()Ljava/util/Iterator;" } : Jvm.MethodName) ({ cls := "MergeWorkbench$Comparison", name := "iterator", desc := "()Ljava/util/Iterator;" } : Jvm.MethodName)) ∈ lw_all := lw_g (lw_at lw_m11 20 rfl) rfl
theorem q2504 : (Jvm.Cond.code ({ cls := "MergeWorkbench$Comparison", name := "iterator", desc := "()Ljava/util/Iterator;" } : Jvm.MethodName) prog_6_method_4_code (1 : Nat) (Option.some (Jvm.ClassFile.FieldType.object "java/util/Iterator"))) ∈ lw_all := lw_g (lw_at lw_m11 21 rfl) rfl
theorem q2505 : (Jvm.Cond.classLink "MergeWorkbench$Comparison" (96 : Nat) "MergeWorkbench$Comparison$1") ∈ lw_all := lw_g (lw_at lw_m11 22 rfl) rfl
theorem q2506 : (Jvm.Cond.methodLink "MergeWorkbench$Comparison" (98 : Nat) ({ cls := "MergeWorkbench$Comparison$1", name := "<init>", desc := "(LMergeWorkbench$Comparison;)V" } : Jvm.MethodName)) ∈ lw_all := lw_g (lw_at lw_m11 23 rfl) rfl
theorem q2559 : (Jvm.Cond.instanceMethod ({ cls := "MergeWorkbench$Comparison", name := "findMoves", desc := "(I)I" } : Jvm.MethodName)) ∈ lw_all := lw_g (lw_at lw_m11 76 rfl) rfl
theorem q2560 : (Jvm.Cond.selects "MergeWorkbench$Comparison" ({ cls := "MergeWorkbench$Comparison", name := "findMoves", desc := "(I)I" } : Jvm.MethodName) ({ cls := "MergeWorkbench$Comparison", name := "findMoves", desc := "(I)I" } : Jvm.MethodName)) ∈ lw_all := lw_g (lw_at lw_m11 77 rfl) rfl
theorem q2561 : (Jvm.Cond.code ({ cls := "MergeWorkbench$Comparison", name := "findMoves", desc := "(I)I" } : Jvm.MethodName) prog_6_method_5_code (2 : Nat) (Option.some Jvm.ClassFile.FieldType.int)) ∈ lw_all := lw_g (lw_at lw_m11 78 rfl) rfl
theorem q2562 : (Jvm.Cond.classLink "MergeWorkbench$Comparison" (101 : Nat) "MergeWorkbench$Comparison$MoveFinder") ∈ lw_all := lw_g (lw_at lw_m11 79 rfl) rfl
theorem q2564 : (Jvm.Cond.methodLink "MergeWorkbench$Comparison" (103 : Nat) ({ cls := "MergeWorkbench$Comparison$MoveFinder", name := "<init>", desc := "(LMergeWorkbench$Comparison;)V" } : Jvm.MethodName)) ∈ lw_all := lw_g (lw_at lw_m11 81 rfl) rfl
theorem q2660 : (Jvm.Cond.methodLink "MergeWorkbench$Comparison" (104 : Nat) ({ cls := "MergeWorkbench$Comparison$MoveFinder", name := "find", desc := "(I)V" } : Jvm.MethodName)) ∈ lw_all := lw_g (lw_at lw_m11 177 rfl) rfl
theorem q3928 : (Jvm.Cond.castable "MergeWorkbench$Comparison" "java/lang/Object") ∈ lw_tbl := lw_at lw_m17 5 rfl
theorem in_X9 : ∀ w ∈ wsX90, w ∈ lw_all := lw_in wsX90 [2437, 2439, 2441, 2443, 2445, 2447] (by decide +kernel) (by decide +kernel)

/-! MergeWorkbench$Difference -/
set_option maxRecDepth 100000
def RX10 : String := "MergeWorkbench$Difference"
def TX10 : u_T := fun k => match k with
  | 0 => ("MergeWorkbench$Difference", "old", "LMergeWorkbench$Part;", true)
  | _ => ("MergeWorkbench$Difference", "now", "LMergeWorkbench$Part;", true)
def tyX10 : Nat → FieldType := fun k => match k with
  | 0 => .object "MergeWorkbench$Part"
  | _ => .object "MergeWorkbench$Part"
abbrev wsX100 : List Cond := u_ws RX10 TX10 2
theorem nmX10 : ∀ a, a < 2 → ∀ b, b < 2 → a ≠ b → (TX10 a).2.1 ≠ (TX10 b).2.1 := by decide +kernel
theorem tyX10_ok : ∀ k, k < 2 → parseFieldDescriptor (TX10 k).2.2.1 = some (tyX10 k) := by decide +kernel
abbrev cX10_init : ByteArray := prog_9_method_1_code
def yX10_init : MethodName := ⟨RX10, "<init>", "(LMergeWorkbench$Part;LMergeWorkbench$Part;)V"⟩
def dkwX10_init_0 : List UInt8 := [42, 183, 0, 1, 42, 43, 181, 0, 7, 42, 44, 181, 0, 13, 177]
abbrev dktX10_init_0 : List UInt8 := dkwX10_init_0 ++ []
theorem dksX10_init_0 : cX10_init.data.toList.drop 0 = dktX10_init_0 := by decide +kernel
theorem dX10_init_0 : decode cX10_init 0 = .ok (.aload_n 0, 1) := dk_42 (dk_at dksX10_init_0 0 rfl rfl)
theorem dX10_init_1 : decode cX10_init 1 = .ok (.invokespecial 1, 3) := dk_183 0 1 (dk_at dksX10_init_0 1 rfl rfl)
theorem dX10_init_4 : decode cX10_init 4 = .ok (.aload_n 0, 1) := dk_42 (dk_at dksX10_init_0 4 rfl rfl)
theorem dX10_init_5 : decode cX10_init 5 = .ok (.aload_n 1, 1) := dk_43 (dk_at dksX10_init_0 5 rfl rfl)
theorem dX10_init_6 : decode cX10_init 6 = .ok (.putfield 7, 3) := dk_181 0 7 (dk_at dksX10_init_0 6 rfl rfl)
theorem dX10_init_9 : decode cX10_init 9 = .ok (.aload_n 0, 1) := dk_42 (dk_at dksX10_init_0 9 rfl rfl)
theorem dX10_init_10 : decode cX10_init 10 = .ok (.aload_n 2, 1) := dk_44 (dk_at dksX10_init_0 10 rfl rfl)
theorem dX10_init_11 : decode cX10_init 11 = .ok (.putfield 13, 3) := dk_181 0 13 (dk_at dksX10_init_0 11 rfl rfl)
theorem dX10_init_14 : decode cX10_init 14 = .ok (.return_, 1) := dk_177 (dk_at dksX10_init_0 14 rfl rfl)
abbrev cX10_bound : ByteArray := prog_9_method_2_code
def yX10_bound : MethodName := ⟨RX10, "bound", "(I)I"⟩
def dkwX10_bound_3 : List UInt8 := [42, 180, 0, 13, 180, 0, 22, 172]
abbrev dktX10_bound_3 : List UInt8 := dkwX10_bound_3 ++ []
def dkwX10_bound_2 : List UInt8 := [42, 180, 0, 7, 180, 0, 16, 172, 42, 180, 0, 7, 180, 0, 22, 172, 42, 180, 0, 13, 180, 0, 16, 172]
abbrev dktX10_bound_2 : List UInt8 := dkwX10_bound_2 ++ dktX10_bound_3
def dkwX10_bound_1 : List UInt8 := [170, 0, 0, 0, 0, 0, 51, 0, 0, 0, 0, 0, 0, 0, 2, 0, 0, 0, 27, 0, 0, 0, 35, 0, 0, 0, 43]
abbrev dktX10_bound_1 : List UInt8 := dkwX10_bound_1 ++ dktX10_bound_2
def dkwX10_bound_0 : List UInt8 := [27]
abbrev dktX10_bound_0 : List UInt8 := dkwX10_bound_0 ++ dktX10_bound_1
theorem dksX10_bound_0 : cX10_bound.data.toList.drop 0 = dktX10_bound_0 := by decide +kernel
theorem dksX10_bound_1 : cX10_bound.data.toList.drop 1 = dktX10_bound_1 := dk_seg dksX10_bound_0 1 rfl rfl
theorem dksX10_bound_2 : cX10_bound.data.toList.drop 28 = dktX10_bound_2 := dk_seg dksX10_bound_1 27 rfl rfl
theorem dksX10_bound_3 : cX10_bound.data.toList.drop 52 = dktX10_bound_3 := dk_seg dksX10_bound_2 24 rfl rfl
theorem dX10_bound_0 : decode cX10_bound 0 = .ok (.iload_n 1, 1) := dk_27 (dk_at dksX10_bound_0 0 rfl rfl)
theorem dX10_bound_1 : decode cX10_bound 1 = .ok (.tableswitch 51 0 2 #[27, 35, 43], 27) := by decide +kernel
theorem dX10_bound_28 : decode cX10_bound 28 = .ok (.aload_n 0, 1) := dk_42 (dk_at dksX10_bound_2 0 rfl rfl)
theorem dX10_bound_29 : decode cX10_bound 29 = .ok (.getfield 7, 3) := dk_180 0 7 (dk_at dksX10_bound_2 1 rfl rfl)
theorem dX10_bound_32 : decode cX10_bound 32 = .ok (.getfield 16, 3) := dk_180 0 16 (dk_at dksX10_bound_2 4 rfl rfl)
theorem dX10_bound_35 : decode cX10_bound 35 = .ok (.ireturn, 1) := dk_172 (dk_at dksX10_bound_2 7 rfl rfl)
theorem dX10_bound_36 : decode cX10_bound 36 = .ok (.aload_n 0, 1) := dk_42 (dk_at dksX10_bound_2 8 rfl rfl)
theorem dX10_bound_37 : decode cX10_bound 37 = .ok (.getfield 7, 3) := dk_180 0 7 (dk_at dksX10_bound_2 9 rfl rfl)
theorem dX10_bound_40 : decode cX10_bound 40 = .ok (.getfield 22, 3) := dk_180 0 22 (dk_at dksX10_bound_2 12 rfl rfl)
theorem dX10_bound_43 : decode cX10_bound 43 = .ok (.ireturn, 1) := dk_172 (dk_at dksX10_bound_2 15 rfl rfl)
theorem dX10_bound_44 : decode cX10_bound 44 = .ok (.aload_n 0, 1) := dk_42 (dk_at dksX10_bound_2 16 rfl rfl)
theorem dX10_bound_45 : decode cX10_bound 45 = .ok (.getfield 13, 3) := dk_180 0 13 (dk_at dksX10_bound_2 17 rfl rfl)
theorem dX10_bound_48 : decode cX10_bound 48 = .ok (.getfield 16, 3) := dk_180 0 16 (dk_at dksX10_bound_2 20 rfl rfl)
theorem dX10_bound_51 : decode cX10_bound 51 = .ok (.ireturn, 1) := dk_172 (dk_at dksX10_bound_2 23 rfl rfl)
theorem dX10_bound_52 : decode cX10_bound 52 = .ok (.aload_n 0, 1) := dk_42 (dk_at dksX10_bound_3 0 rfl rfl)
theorem dX10_bound_53 : decode cX10_bound 53 = .ok (.getfield 13, 3) := dk_180 0 13 (dk_at dksX10_bound_3 1 rfl rfl)
theorem dX10_bound_56 : decode cX10_bound 56 = .ok (.getfield 22, 3) := dk_180 0 22 (dk_at dksX10_bound_3 4 rfl rfl)
theorem dX10_bound_59 : decode cX10_bound 59 = .ok (.ireturn, 1) := dk_172 (dk_at dksX10_bound_3 7 rfl rfl)
theorem q138 : (Jvm.Cond.initialized "MergeWorkbench$Difference") ∈ lw_all := lw_g (lw_at lw_m1 55 rfl) rfl
theorem q301 : (Jvm.Cond.selects "MergeWorkbench$Difference" ({ cls := "java/lang/Object", name := "getClass", desc := "()Ljava/lang/Class;" } : Jvm.MethodName) ({ cls := "java/lang/Object", name := "getClass", desc := "()Ljava/lang/Class;" } : Jvm.MethodName)) ∈ lw_all := lw_g (lw_at lw_m1 218 rfl) rfl
theorem q1469 : (Jvm.Cond.selects "MergeWorkbench$Difference" ({ cls := "java/lang/Object", name := "equals", desc := "(Ljava/lang/Object;)Z" } : Jvm.MethodName) ({ cls := "java/lang/Object", name := "equals", desc := "(Ljava/lang/Object;)Z" } : Jvm.MethodName)) ∈ lw_all := lw_g (lw_at lw_m6 186 rfl) rfl
theorem q2366 : (Jvm.Cond.instantiable "MergeWorkbench$Difference" (2 : Nat)) ∈ lw_all := lw_g (lw_at lw_m10 123 rfl) rfl
theorem q2377 : (Jvm.Cond.fieldLinkNest "MergeWorkbench$Difference" (16 : Nat) "MergeWorkbench$Part" "from" "I" "MergeWorkbench") ∈ lw_tbl := lw_at lw_m10 134 rfl
theorem q2385 : (Jvm.Cond.fieldLinkNest "MergeWorkbench$Difference" (22 : Nat) "MergeWorkbench$Part" "to" "I" "MergeWorkbench") ∈ lw_tbl := lw_at lw_m10 142 rfl
theorem q2395 : (Jvm.Cond.instanceMethod ({ cls := "MergeWorkbench$Difference", name := "<init>", desc := "(LMergeWorkbench$Part;LMergeWorkbench$Part;)V" } : Jvm.MethodName)) ∈ lw_all := lw_g (lw_at lw_m10 152 rfl) rfl
theorem q2396 : (Jvm.Cond.code ({ cls := "MergeWorkbench$Difference", name := "<init>", desc := "(LMergeWorkbench$Part;LMergeWorkbench$Part;)V" } : Jvm.MethodName) prog_9_method_1_code (3 : Nat) (Option.none : Option Jvm.ClassFile.FieldType)) ∈ lw_all := lw_g (lw_at lw_m10 153 rfl) rfl
theorem q2397 : (Jvm.Cond.methodLink "MergeWorkbench$Difference" (1 : Nat) ({ cls := "java/lang/Object", name := "<init>", desc := "()V" } : Jvm.MethodName)) ∈ lw_all := lw_g (lw_at lw_m10 154 rfl) rfl
theorem q2398 : (Jvm.Cond.fieldLink "MergeWorkbench$Difference" (7 : Nat) "MergeWorkbench$Difference" "old" "LMergeWorkbench$Part;") ∈ lw_all := lw_g (lw_at lw_m10 155 rfl) rfl
theorem q2401 : (Jvm.Cond.fieldLink "MergeWorkbench$Difference" (13 : Nat) "MergeWorkbench$Difference" "now" "LMergeWorkbench$Part;") ∈ lw_all := lw_g (lw_at lw_m10 158 rfl) rfl
theorem q2404 : (Jvm.Cond.laysFinal "MergeWorkbench$Difference" "MergeWorkbench$Difference" "old" "LMergeWorkbench$Part;") ∈ lw_all := lw_g (lw_at lw_m10 161 rfl) rfl
theorem q2405 : (Jvm.Cond.soleField "MergeWorkbench$Difference" "old") ∈ lw_all := lw_g (lw_at lw_m10 162 rfl) rfl
theorem q2406 : (Jvm.Cond.laysFinal "MergeWorkbench$Difference" "MergeWorkbench$Difference" "now" "LMergeWorkbench$Part;") ∈ lw_all := lw_g (lw_at lw_m10 163 rfl) rfl
theorem q2407 : (Jvm.Cond.soleField "MergeWorkbench$Difference" "now") ∈ lw_all := lw_g (lw_at lw_m10 164 rfl) rfl
theorem q2408 : (Jvm.Cond.superclass "MergeWorkbench$Difference" "java/lang/Object") ∈ lw_all := lw_g (lw_at lw_m10 165 rfl) rfl
theorem q2490 : (Jvm.Cond.instanceMethod ({ cls := "MergeWorkbench$Difference", name := "bound", desc := "(I)I" } : Jvm.MethodName)) ∈ lw_all := lw_g (lw_at lw_m11 7 rfl) rfl
theorem q2491 : (Jvm.Cond.selects "MergeWorkbench$Difference" ({ cls := "MergeWorkbench$Difference", name := "bound", desc := "(I)I" } : Jvm.MethodName) ({ cls := "MergeWorkbench$Difference", name := "bound", desc := "(I)I" } : Jvm.MethodName)) ∈ lw_all := lw_g (lw_at lw_m11 8 rfl) rfl
theorem q2492 : (Jvm.Cond.code ({ cls := "MergeWorkbench$Difference", name := "bound", desc := "(I)I" } : Jvm.MethodName) prog_9_method_2_code (2 : Nat) (Option.some Jvm.ClassFile.FieldType.int)) ∈ lw_all := lw_g (lw_at lw_m11 9 rfl) rfl
theorem q3932 : (Jvm.Cond.castable "MergeWorkbench$Difference" "java/lang/Object") ∈ lw_tbl := lw_at lw_m17 9 rfl
theorem in_X10 : ∀ w ∈ wsX100, w ∈ lw_all := lw_in wsX100 [2404, 2406] (by decide +kernel) (by decide +kernel)

/-! MergeWorkbench$Part -/
set_option maxRecDepth 100000
def RX11 : String := "MergeWorkbench$Part"
def TX11 : u_T := fun k => match k with
  | 0 => ("MergeWorkbench$Part", "of", "Ljava/util/List;", true)
  | 1 => ("MergeWorkbench$Part", "from", "I", true)
  | _ => ("MergeWorkbench$Part", "to", "I", true)
def tyX11 : Nat → FieldType := fun k => match k with
  | 0 => .object "java/util/List"
  | 1 => .int
  | _ => .int
abbrev wsX110 : List Cond := u_ws RX11 TX11 3
theorem nmX11 : ∀ a, a < 3 → ∀ b, b < 3 → a ≠ b → (TX11 a).2.1 ≠ (TX11 b).2.1 := by decide +kernel
theorem tyX11_ok : ∀ k, k < 3 → parseFieldDescriptor (TX11 k).2.2.1 = some (tyX11 k) := by decide +kernel
abbrev cX11_init : ByteArray := prog_17_method_1_code
def yX11_init : MethodName := ⟨RX11, "<init>", "(Ljava/util/List;II)V"⟩
def dkwX11_init_0 : List UInt8 := [42, 183, 0, 1, 42, 43, 181, 0, 7, 42, 28, 181, 0, 13, 42, 29, 181, 0, 17, 177]
abbrev dktX11_init_0 : List UInt8 := dkwX11_init_0 ++ []
theorem dksX11_init_0 : cX11_init.data.toList.drop 0 = dktX11_init_0 := by decide +kernel
theorem dX11_init_0 : decode cX11_init 0 = .ok (.aload_n 0, 1) := dk_42 (dk_at dksX11_init_0 0 rfl rfl)
theorem dX11_init_1 : decode cX11_init 1 = .ok (.invokespecial 1, 3) := dk_183 0 1 (dk_at dksX11_init_0 1 rfl rfl)
theorem dX11_init_4 : decode cX11_init 4 = .ok (.aload_n 0, 1) := dk_42 (dk_at dksX11_init_0 4 rfl rfl)
theorem dX11_init_5 : decode cX11_init 5 = .ok (.aload_n 1, 1) := dk_43 (dk_at dksX11_init_0 5 rfl rfl)
theorem dX11_init_6 : decode cX11_init 6 = .ok (.putfield 7, 3) := dk_181 0 7 (dk_at dksX11_init_0 6 rfl rfl)
theorem dX11_init_9 : decode cX11_init 9 = .ok (.aload_n 0, 1) := dk_42 (dk_at dksX11_init_0 9 rfl rfl)
theorem dX11_init_10 : decode cX11_init 10 = .ok (.iload_n 2, 1) := dk_28 (dk_at dksX11_init_0 10 rfl rfl)
theorem dX11_init_11 : decode cX11_init 11 = .ok (.putfield 13, 3) := dk_181 0 13 (dk_at dksX11_init_0 11 rfl rfl)
theorem dX11_init_14 : decode cX11_init 14 = .ok (.aload_n 0, 1) := dk_42 (dk_at dksX11_init_0 14 rfl rfl)
theorem dX11_init_15 : decode cX11_init 15 = .ok (.iload_n 3, 1) := dk_29 (dk_at dksX11_init_0 15 rfl rfl)
theorem dX11_init_16 : decode cX11_init 16 = .ok (.putfield 17, 3) := dk_181 0 17 (dk_at dksX11_init_0 16 rfl rfl)
theorem dX11_init_19 : decode cX11_init 19 = .ok (.return_, 1) := dk_177 (dk_at dksX11_init_0 19 rfl rfl)
abbrev cX11_isEmpty : ByteArray := prog_17_method_3_code
def yX11_isEmpty : MethodName := ⟨RX11, "isEmpty", "()Z"⟩
def dkwX11_isEmpty_0 : List UInt8 := [42, 180, 0, 13, 42, 180, 0, 17, 160, 0, 7, 4, 167, 0, 4, 3, 172]
abbrev dktX11_isEmpty_0 : List UInt8 := dkwX11_isEmpty_0 ++ []
theorem dksX11_isEmpty_0 : cX11_isEmpty.data.toList.drop 0 = dktX11_isEmpty_0 := by decide +kernel
theorem dX11_isEmpty_0 : decode cX11_isEmpty 0 = .ok (.aload_n 0, 1) := dk_42 (dk_at dksX11_isEmpty_0 0 rfl rfl)
theorem dX11_isEmpty_1 : decode cX11_isEmpty 1 = .ok (.getfield 13, 3) := dk_180 0 13 (dk_at dksX11_isEmpty_0 1 rfl rfl)
theorem dX11_isEmpty_4 : decode cX11_isEmpty 4 = .ok (.aload_n 0, 1) := dk_42 (dk_at dksX11_isEmpty_0 4 rfl rfl)
theorem dX11_isEmpty_5 : decode cX11_isEmpty 5 = .ok (.getfield 17, 3) := dk_180 0 17 (dk_at dksX11_isEmpty_0 5 rfl rfl)
theorem dX11_isEmpty_8 : decode cX11_isEmpty 8 = .ok (.if_icmp .ne 7, 3) := dk_160 0 7 (dk_at dksX11_isEmpty_0 8 rfl rfl)
theorem dX11_isEmpty_11 : decode cX11_isEmpty 11 = .ok (.iconst 1, 1) := dk_4 (dk_at dksX11_isEmpty_0 11 rfl rfl)
theorem dX11_isEmpty_12 : decode cX11_isEmpty 12 = .ok (.goto 4, 3) := dk_167 0 4 (dk_at dksX11_isEmpty_0 12 rfl rfl)
theorem dX11_isEmpty_15 : decode cX11_isEmpty 15 = .ok (.iconst 0, 1) := dk_3 (dk_at dksX11_isEmpty_0 15 rfl rfl)
theorem dX11_isEmpty_16 : decode cX11_isEmpty 16 = .ok (.ireturn, 1) := dk_172 (dk_at dksX11_isEmpty_0 16 rfl rfl)
abbrev cX11_isLike : ByteArray := prog_17_method_5_code
def yX11_isLike : MethodName := ⟨RX11, "isLike", "(LMergeWorkbench$Part;)Z"⟩
def dkwX11_isLike_1 : List UInt8 := [167, 0, 4, 3, 172]
abbrev dktX11_isLike_1 : List UInt8 := dkwX11_isLike_1 ++ []
def dkwX11_isLike_0 : List UInt8 := [42, 182, 0, 26, 43, 182, 0, 26, 160, 0, 19, 42, 43, 182, 0, 30, 42, 182, 0, 26, 160, 0, 7, 4]
abbrev dktX11_isLike_0 : List UInt8 := dkwX11_isLike_0 ++ dktX11_isLike_1
theorem dksX11_isLike_0 : cX11_isLike.data.toList.drop 0 = dktX11_isLike_0 := by decide +kernel
theorem dksX11_isLike_1 : cX11_isLike.data.toList.drop 24 = dktX11_isLike_1 := dk_seg dksX11_isLike_0 24 rfl rfl
theorem dX11_isLike_0 : decode cX11_isLike 0 = .ok (.aload_n 0, 1) := dk_42 (dk_at dksX11_isLike_0 0 rfl rfl)
theorem dX11_isLike_1 : decode cX11_isLike 1 = .ok (.invokevirtual 26, 3) := dk_182 0 26 (dk_at dksX11_isLike_0 1 rfl rfl)
theorem dX11_isLike_4 : decode cX11_isLike 4 = .ok (.aload_n 1, 1) := dk_43 (dk_at dksX11_isLike_0 4 rfl rfl)
theorem dX11_isLike_5 : decode cX11_isLike 5 = .ok (.invokevirtual 26, 3) := dk_182 0 26 (dk_at dksX11_isLike_0 5 rfl rfl)
theorem dX11_isLike_8 : decode cX11_isLike 8 = .ok (.if_icmp .ne 19, 3) := dk_160 0 19 (dk_at dksX11_isLike_0 8 rfl rfl)
theorem dX11_isLike_11 : decode cX11_isLike 11 = .ok (.aload_n 0, 1) := dk_42 (dk_at dksX11_isLike_0 11 rfl rfl)
theorem dX11_isLike_12 : decode cX11_isLike 12 = .ok (.aload_n 1, 1) := dk_43 (dk_at dksX11_isLike_0 12 rfl rfl)
theorem dX11_isLike_13 : decode cX11_isLike 13 = .ok (.invokevirtual 30, 3) := dk_182 0 30 (dk_at dksX11_isLike_0 13 rfl rfl)
theorem dX11_isLike_16 : decode cX11_isLike 16 = .ok (.aload_n 0, 1) := dk_42 (dk_at dksX11_isLike_0 16 rfl rfl)
theorem dX11_isLike_17 : decode cX11_isLike 17 = .ok (.invokevirtual 26, 3) := dk_182 0 26 (dk_at dksX11_isLike_0 17 rfl rfl)
theorem dX11_isLike_20 : decode cX11_isLike 20 = .ok (.if_icmp .ne 7, 3) := dk_160 0 7 (dk_at dksX11_isLike_0 20 rfl rfl)
theorem dX11_isLike_23 : decode cX11_isLike 23 = .ok (.iconst 1, 1) := dk_4 (dk_at dksX11_isLike_0 23 rfl rfl)
theorem dX11_isLike_24 : decode cX11_isLike 24 = .ok (.goto 4, 3) := dk_167 0 4 (dk_at dksX11_isLike_1 0 rfl rfl)
theorem dX11_isLike_27 : decode cX11_isLike 27 = .ok (.iconst 0, 1) := dk_3 (dk_at dksX11_isLike_1 3 rfl rfl)
theorem dX11_isLike_28 : decode cX11_isLike 28 = .ok (.ireturn, 1) := dk_172 (dk_at dksX11_isLike_1 4 rfl rfl)
abbrev cX11_length : ByteArray := prog_17_method_2_code
def yX11_length : MethodName := ⟨RX11, "length", "()I"⟩
def dkwX11_length_0 : List UInt8 := [42, 180, 0, 17, 42, 180, 0, 13, 100, 172]
abbrev dktX11_length_0 : List UInt8 := dkwX11_length_0 ++ []
theorem dksX11_length_0 : cX11_length.data.toList.drop 0 = dktX11_length_0 := by decide +kernel
theorem dX11_length_0 : decode cX11_length 0 = .ok (.aload_n 0, 1) := dk_42 (dk_at dksX11_length_0 0 rfl rfl)
theorem dX11_length_1 : decode cX11_length 1 = .ok (.getfield 17, 3) := dk_180 0 17 (dk_at dksX11_length_0 1 rfl rfl)
theorem dX11_length_4 : decode cX11_length 4 = .ok (.aload_n 0, 1) := dk_42 (dk_at dksX11_length_0 4 rfl rfl)
theorem dX11_length_5 : decode cX11_length 5 = .ok (.getfield 13, 3) := dk_180 0 13 (dk_at dksX11_length_0 5 rfl rfl)
theorem dX11_length_8 : decode cX11_length 8 = .ok (.isub, 1) := dk_100 (dk_at dksX11_length_0 8 rfl rfl)
theorem dX11_length_9 : decode cX11_length 9 = .ok (.ireturn, 1) := dk_172 (dk_at dksX11_length_0 9 rfl rfl)
abbrev cX11_commonBeginning : ByteArray := prog_17_method_6_code
def yX11_commonBeginning : MethodName := ⟨RX11, "commonBeginning", "(LMergeWorkbench$Part;)I"⟩
def dkwX11_commonBeginning_1 : List UInt8 := [28, 182, 0, 34, 182, 0, 37, 153, 0, 9, 132, 2, 1, 167, 255, 221, 28, 172]
abbrev dktX11_commonBeginning_1 : List UInt8 := dkwX11_commonBeginning_1 ++ []
def dkwX11_commonBeginning_0 : List UInt8 := [3, 61, 28, 42, 182, 0, 26, 162, 0, 33, 28, 43, 182, 0, 26, 162, 0, 25, 42, 28, 182, 0, 34, 43]
abbrev dktX11_commonBeginning_0 : List UInt8 := dkwX11_commonBeginning_0 ++ dktX11_commonBeginning_1
theorem dksX11_commonBeginning_0 : cX11_commonBeginning.data.toList.drop 0 = dktX11_commonBeginning_0 := by decide +kernel
theorem dksX11_commonBeginning_1 : cX11_commonBeginning.data.toList.drop 24 = dktX11_commonBeginning_1 := dk_seg dksX11_commonBeginning_0 24 rfl rfl
theorem dX11_commonBeginning_0 : decode cX11_commonBeginning 0 = .ok (.iconst 0, 1) := dk_3 (dk_at dksX11_commonBeginning_0 0 rfl rfl)
theorem dX11_commonBeginning_1 : decode cX11_commonBeginning 1 = .ok (.istore_n 2, 1) := dk_61 (dk_at dksX11_commonBeginning_0 1 rfl rfl)
theorem dX11_commonBeginning_2 : decode cX11_commonBeginning 2 = .ok (.iload_n 2, 1) := dk_28 (dk_at dksX11_commonBeginning_0 2 rfl rfl)
theorem dX11_commonBeginning_3 : decode cX11_commonBeginning 3 = .ok (.aload_n 0, 1) := dk_42 (dk_at dksX11_commonBeginning_0 3 rfl rfl)
theorem dX11_commonBeginning_4 : decode cX11_commonBeginning 4 = .ok (.invokevirtual 26, 3) := dk_182 0 26 (dk_at dksX11_commonBeginning_0 4 rfl rfl)
theorem dX11_commonBeginning_7 : decode cX11_commonBeginning 7 = .ok (.if_icmp .ge 33, 3) := dk_162 0 33 (dk_at dksX11_commonBeginning_0 7 rfl rfl)
theorem dX11_commonBeginning_10 : decode cX11_commonBeginning 10 = .ok (.iload_n 2, 1) := dk_28 (dk_at dksX11_commonBeginning_0 10 rfl rfl)
theorem dX11_commonBeginning_11 : decode cX11_commonBeginning 11 = .ok (.aload_n 1, 1) := dk_43 (dk_at dksX11_commonBeginning_0 11 rfl rfl)
theorem dX11_commonBeginning_12 : decode cX11_commonBeginning 12 = .ok (.invokevirtual 26, 3) := dk_182 0 26 (dk_at dksX11_commonBeginning_0 12 rfl rfl)
theorem dX11_commonBeginning_15 : decode cX11_commonBeginning 15 = .ok (.if_icmp .ge 25, 3) := dk_162 0 25 (dk_at dksX11_commonBeginning_0 15 rfl rfl)
theorem dX11_commonBeginning_18 : decode cX11_commonBeginning 18 = .ok (.aload_n 0, 1) := dk_42 (dk_at dksX11_commonBeginning_0 18 rfl rfl)
theorem dX11_commonBeginning_19 : decode cX11_commonBeginning 19 = .ok (.iload_n 2, 1) := dk_28 (dk_at dksX11_commonBeginning_0 19 rfl rfl)
theorem dX11_commonBeginning_20 : decode cX11_commonBeginning 20 = .ok (.invokevirtual 34, 3) := dk_182 0 34 (dk_at dksX11_commonBeginning_0 20 rfl rfl)
theorem dX11_commonBeginning_23 : decode cX11_commonBeginning 23 = .ok (.aload_n 1, 1) := dk_43 (dk_at dksX11_commonBeginning_0 23 rfl rfl)
theorem dX11_commonBeginning_24 : decode cX11_commonBeginning 24 = .ok (.iload_n 2, 1) := dk_28 (dk_at dksX11_commonBeginning_1 0 rfl rfl)
theorem dX11_commonBeginning_25 : decode cX11_commonBeginning 25 = .ok (.invokevirtual 34, 3) := dk_182 0 34 (dk_at dksX11_commonBeginning_1 1 rfl rfl)
theorem dX11_commonBeginning_28 : decode cX11_commonBeginning 28 = .ok (.invokevirtual 37, 3) := dk_182 0 37 (dk_at dksX11_commonBeginning_1 4 rfl rfl)
theorem dX11_commonBeginning_31 : decode cX11_commonBeginning 31 = .ok (.ifCond .eq 9, 3) := dk_153 0 9 (dk_at dksX11_commonBeginning_1 7 rfl rfl)
theorem dX11_commonBeginning_34 : decode cX11_commonBeginning 34 = .ok (.iinc 2 1, 3) := dk_132 2 1 (dk_at dksX11_commonBeginning_1 10 rfl rfl)
theorem dX11_commonBeginning_37 : decode cX11_commonBeginning 37 = .ok (.goto (-35), 3) := dk_167 255 221 (dk_at dksX11_commonBeginning_1 13 rfl rfl)
theorem dX11_commonBeginning_40 : decode cX11_commonBeginning 40 = .ok (.iload_n 2, 1) := dk_28 (dk_at dksX11_commonBeginning_1 16 rfl rfl)
theorem dX11_commonBeginning_41 : decode cX11_commonBeginning 41 = .ok (.ireturn, 1) := dk_172 (dk_at dksX11_commonBeginning_1 17 rfl rfl)
abbrev cX11_at : ByteArray := prog_17_method_4_code
def yX11_at : MethodName := ⟨RX11, "at", "(I)Ljava/lang/Object;"⟩
def dkwX11_at_0 : List UInt8 := [42, 180, 0, 7, 42, 180, 0, 13, 27, 96, 185, 0, 20, 2, 0, 176]
abbrev dktX11_at_0 : List UInt8 := dkwX11_at_0 ++ []
theorem dksX11_at_0 : cX11_at.data.toList.drop 0 = dktX11_at_0 := by decide +kernel
theorem dX11_at_0 : decode cX11_at 0 = .ok (.aload_n 0, 1) := dk_42 (dk_at dksX11_at_0 0 rfl rfl)
theorem dX11_at_1 : decode cX11_at 1 = .ok (.getfield 7, 3) := dk_180 0 7 (dk_at dksX11_at_0 1 rfl rfl)
theorem dX11_at_4 : decode cX11_at 4 = .ok (.aload_n 0, 1) := dk_42 (dk_at dksX11_at_0 4 rfl rfl)
theorem dX11_at_5 : decode cX11_at 5 = .ok (.getfield 13, 3) := dk_180 0 13 (dk_at dksX11_at_0 5 rfl rfl)
theorem dX11_at_8 : decode cX11_at 8 = .ok (.iload_n 1, 1) := dk_27 (dk_at dksX11_at_0 8 rfl rfl)
theorem dX11_at_9 : decode cX11_at 9 = .ok (.iadd, 1) := dk_96 (dk_at dksX11_at_0 9 rfl rfl)
theorem dX11_at_10 : decode cX11_at 10 = .ok (.invokeinterface 20 2, 5) := by decide +kernel
theorem dX11_at_15 : decode cX11_at 15 = .ok (.areturn, 1) := dk_176 (dk_at dksX11_at_0 15 rfl rfl)
abbrev cX11_without : ByteArray := prog_17_method_8_code
def yX11_without : MethodName := ⟨RX11, "without", "(II)LMergeWorkbench$Part;"⟩
def dkwX11_without_0 : List UInt8 := [187, 0, 8, 89, 42, 180, 0, 7, 42, 180, 0, 13, 27, 96, 42, 180, 0, 17, 28, 100, 183, 0, 41, 176]
abbrev dktX11_without_0 : List UInt8 := dkwX11_without_0 ++ []
theorem dksX11_without_0 : cX11_without.data.toList.drop 0 = dktX11_without_0 := by decide +kernel
theorem dX11_without_0 : decode cX11_without 0 = .ok (.new 8, 3) := dk_187 0 8 (dk_at dksX11_without_0 0 rfl rfl)
theorem dX11_without_3 : decode cX11_without 3 = .ok (.dup, 1) := dk_89 (dk_at dksX11_without_0 3 rfl rfl)
theorem dX11_without_4 : decode cX11_without 4 = .ok (.aload_n 0, 1) := dk_42 (dk_at dksX11_without_0 4 rfl rfl)
theorem dX11_without_5 : decode cX11_without 5 = .ok (.getfield 7, 3) := dk_180 0 7 (dk_at dksX11_without_0 5 rfl rfl)
theorem dX11_without_8 : decode cX11_without 8 = .ok (.aload_n 0, 1) := dk_42 (dk_at dksX11_without_0 8 rfl rfl)
theorem dX11_without_9 : decode cX11_without 9 = .ok (.getfield 13, 3) := dk_180 0 13 (dk_at dksX11_without_0 9 rfl rfl)
theorem dX11_without_12 : decode cX11_without 12 = .ok (.iload_n 1, 1) := dk_27 (dk_at dksX11_without_0 12 rfl rfl)
theorem dX11_without_13 : decode cX11_without 13 = .ok (.iadd, 1) := dk_96 (dk_at dksX11_without_0 13 rfl rfl)
theorem dX11_without_14 : decode cX11_without 14 = .ok (.aload_n 0, 1) := dk_42 (dk_at dksX11_without_0 14 rfl rfl)
theorem dX11_without_15 : decode cX11_without 15 = .ok (.getfield 17, 3) := dk_180 0 17 (dk_at dksX11_without_0 15 rfl rfl)
theorem dX11_without_18 : decode cX11_without 18 = .ok (.iload_n 2, 1) := dk_28 (dk_at dksX11_without_0 18 rfl rfl)
theorem dX11_without_19 : decode cX11_without 19 = .ok (.isub, 1) := dk_100 (dk_at dksX11_without_0 19 rfl rfl)
theorem dX11_without_20 : decode cX11_without 20 = .ok (.invokespecial 41, 3) := dk_183 0 41 (dk_at dksX11_without_0 20 rfl rfl)
theorem dX11_without_23 : decode cX11_without 23 = .ok (.areturn, 1) := dk_176 (dk_at dksX11_without_0 23 rfl rfl)
abbrev cX11_commonEnd : ByteArray := prog_17_method_7_code
def yX11_commonEnd : MethodName := ⟨RX11, "commonEnd", "(LMergeWorkbench$Part;)I"⟩
def dkwX11_commonEnd_2 : List UInt8 := [132, 2, 1, 167, 255, 207, 28, 172]
abbrev dktX11_commonEnd_2 : List UInt8 := dkwX11_commonEnd_2 ++ []
def dkwX11_commonEnd_1 : List UInt8 := [100, 28, 100, 182, 0, 34, 43, 43, 182, 0, 26, 4, 100, 28, 100, 182, 0, 34, 182, 0, 37, 153, 0, 9]
abbrev dktX11_commonEnd_1 : List UInt8 := dkwX11_commonEnd_1 ++ dktX11_commonEnd_2
def dkwX11_commonEnd_0 : List UInt8 := [3, 61, 28, 42, 182, 0, 26, 162, 0, 47, 28, 43, 182, 0, 26, 162, 0, 39, 42, 42, 182, 0, 26, 4]
abbrev dktX11_commonEnd_0 : List UInt8 := dkwX11_commonEnd_0 ++ dktX11_commonEnd_1
theorem dksX11_commonEnd_0 : cX11_commonEnd.data.toList.drop 0 = dktX11_commonEnd_0 := by decide +kernel
theorem dksX11_commonEnd_1 : cX11_commonEnd.data.toList.drop 24 = dktX11_commonEnd_1 := dk_seg dksX11_commonEnd_0 24 rfl rfl
theorem dksX11_commonEnd_2 : cX11_commonEnd.data.toList.drop 48 = dktX11_commonEnd_2 := dk_seg dksX11_commonEnd_1 24 rfl rfl
theorem dX11_commonEnd_0 : decode cX11_commonEnd 0 = .ok (.iconst 0, 1) := dk_3 (dk_at dksX11_commonEnd_0 0 rfl rfl)
theorem dX11_commonEnd_1 : decode cX11_commonEnd 1 = .ok (.istore_n 2, 1) := dk_61 (dk_at dksX11_commonEnd_0 1 rfl rfl)
theorem dX11_commonEnd_2 : decode cX11_commonEnd 2 = .ok (.iload_n 2, 1) := dk_28 (dk_at dksX11_commonEnd_0 2 rfl rfl)
theorem dX11_commonEnd_3 : decode cX11_commonEnd 3 = .ok (.aload_n 0, 1) := dk_42 (dk_at dksX11_commonEnd_0 3 rfl rfl)
theorem dX11_commonEnd_4 : decode cX11_commonEnd 4 = .ok (.invokevirtual 26, 3) := dk_182 0 26 (dk_at dksX11_commonEnd_0 4 rfl rfl)
theorem dX11_commonEnd_7 : decode cX11_commonEnd 7 = .ok (.if_icmp .ge 47, 3) := dk_162 0 47 (dk_at dksX11_commonEnd_0 7 rfl rfl)
theorem dX11_commonEnd_10 : decode cX11_commonEnd 10 = .ok (.iload_n 2, 1) := dk_28 (dk_at dksX11_commonEnd_0 10 rfl rfl)
theorem dX11_commonEnd_11 : decode cX11_commonEnd 11 = .ok (.aload_n 1, 1) := dk_43 (dk_at dksX11_commonEnd_0 11 rfl rfl)
theorem dX11_commonEnd_12 : decode cX11_commonEnd 12 = .ok (.invokevirtual 26, 3) := dk_182 0 26 (dk_at dksX11_commonEnd_0 12 rfl rfl)
theorem dX11_commonEnd_15 : decode cX11_commonEnd 15 = .ok (.if_icmp .ge 39, 3) := dk_162 0 39 (dk_at dksX11_commonEnd_0 15 rfl rfl)
theorem dX11_commonEnd_18 : decode cX11_commonEnd 18 = .ok (.aload_n 0, 1) := dk_42 (dk_at dksX11_commonEnd_0 18 rfl rfl)
theorem dX11_commonEnd_19 : decode cX11_commonEnd 19 = .ok (.aload_n 0, 1) := dk_42 (dk_at dksX11_commonEnd_0 19 rfl rfl)
theorem dX11_commonEnd_20 : decode cX11_commonEnd 20 = .ok (.invokevirtual 26, 3) := dk_182 0 26 (dk_at dksX11_commonEnd_0 20 rfl rfl)
theorem dX11_commonEnd_23 : decode cX11_commonEnd 23 = .ok (.iconst 1, 1) := dk_4 (dk_at dksX11_commonEnd_0 23 rfl rfl)
theorem dX11_commonEnd_24 : decode cX11_commonEnd 24 = .ok (.isub, 1) := dk_100 (dk_at dksX11_commonEnd_1 0 rfl rfl)
theorem dX11_commonEnd_25 : decode cX11_commonEnd 25 = .ok (.iload_n 2, 1) := dk_28 (dk_at dksX11_commonEnd_1 1 rfl rfl)
theorem dX11_commonEnd_26 : decode cX11_commonEnd 26 = .ok (.isub, 1) := dk_100 (dk_at dksX11_commonEnd_1 2 rfl rfl)
theorem dX11_commonEnd_27 : decode cX11_commonEnd 27 = .ok (.invokevirtual 34, 3) := dk_182 0 34 (dk_at dksX11_commonEnd_1 3 rfl rfl)
theorem dX11_commonEnd_30 : decode cX11_commonEnd 30 = .ok (.aload_n 1, 1) := dk_43 (dk_at dksX11_commonEnd_1 6 rfl rfl)
theorem dX11_commonEnd_31 : decode cX11_commonEnd 31 = .ok (.aload_n 1, 1) := dk_43 (dk_at dksX11_commonEnd_1 7 rfl rfl)
theorem dX11_commonEnd_32 : decode cX11_commonEnd 32 = .ok (.invokevirtual 26, 3) := dk_182 0 26 (dk_at dksX11_commonEnd_1 8 rfl rfl)
theorem dX11_commonEnd_35 : decode cX11_commonEnd 35 = .ok (.iconst 1, 1) := dk_4 (dk_at dksX11_commonEnd_1 11 rfl rfl)
theorem dX11_commonEnd_36 : decode cX11_commonEnd 36 = .ok (.isub, 1) := dk_100 (dk_at dksX11_commonEnd_1 12 rfl rfl)
theorem dX11_commonEnd_37 : decode cX11_commonEnd 37 = .ok (.iload_n 2, 1) := dk_28 (dk_at dksX11_commonEnd_1 13 rfl rfl)
theorem dX11_commonEnd_38 : decode cX11_commonEnd 38 = .ok (.isub, 1) := dk_100 (dk_at dksX11_commonEnd_1 14 rfl rfl)
theorem dX11_commonEnd_39 : decode cX11_commonEnd 39 = .ok (.invokevirtual 34, 3) := dk_182 0 34 (dk_at dksX11_commonEnd_1 15 rfl rfl)
theorem dX11_commonEnd_42 : decode cX11_commonEnd 42 = .ok (.invokevirtual 37, 3) := dk_182 0 37 (dk_at dksX11_commonEnd_1 18 rfl rfl)
theorem dX11_commonEnd_45 : decode cX11_commonEnd 45 = .ok (.ifCond .eq 9, 3) := dk_153 0 9 (dk_at dksX11_commonEnd_1 21 rfl rfl)
theorem dX11_commonEnd_48 : decode cX11_commonEnd 48 = .ok (.iinc 2 1, 3) := dk_132 2 1 (dk_at dksX11_commonEnd_2 0 rfl rfl)
theorem dX11_commonEnd_51 : decode cX11_commonEnd 51 = .ok (.goto (-49), 3) := dk_167 255 207 (dk_at dksX11_commonEnd_2 3 rfl rfl)
theorem dX11_commonEnd_54 : decode cX11_commonEnd 54 = .ok (.iload_n 2, 1) := dk_28 (dk_at dksX11_commonEnd_2 6 rfl rfl)
theorem dX11_commonEnd_55 : decode cX11_commonEnd 55 = .ok (.ireturn, 1) := dk_172 (dk_at dksX11_commonEnd_2 7 rfl rfl)
abbrev cX11_first : ByteArray := prog_17_method_9_code
def yX11_first : MethodName := ⟨RX11, "first", "(I)LMergeWorkbench$Part;"⟩
def dkwX11_first_0 : List UInt8 := [187, 0, 8, 89, 42, 180, 0, 7, 42, 180, 0, 13, 42, 180, 0, 13, 27, 96, 183, 0, 41, 176]
abbrev dktX11_first_0 : List UInt8 := dkwX11_first_0 ++ []
theorem dksX11_first_0 : cX11_first.data.toList.drop 0 = dktX11_first_0 := by decide +kernel
theorem dX11_first_0 : decode cX11_first 0 = .ok (.new 8, 3) := dk_187 0 8 (dk_at dksX11_first_0 0 rfl rfl)
theorem dX11_first_3 : decode cX11_first 3 = .ok (.dup, 1) := dk_89 (dk_at dksX11_first_0 3 rfl rfl)
theorem dX11_first_4 : decode cX11_first 4 = .ok (.aload_n 0, 1) := dk_42 (dk_at dksX11_first_0 4 rfl rfl)
theorem dX11_first_5 : decode cX11_first 5 = .ok (.getfield 7, 3) := dk_180 0 7 (dk_at dksX11_first_0 5 rfl rfl)
theorem dX11_first_8 : decode cX11_first 8 = .ok (.aload_n 0, 1) := dk_42 (dk_at dksX11_first_0 8 rfl rfl)
theorem dX11_first_9 : decode cX11_first 9 = .ok (.getfield 13, 3) := dk_180 0 13 (dk_at dksX11_first_0 9 rfl rfl)
theorem dX11_first_12 : decode cX11_first 12 = .ok (.aload_n 0, 1) := dk_42 (dk_at dksX11_first_0 12 rfl rfl)
theorem dX11_first_13 : decode cX11_first 13 = .ok (.getfield 13, 3) := dk_180 0 13 (dk_at dksX11_first_0 13 rfl rfl)
theorem dX11_first_16 : decode cX11_first 16 = .ok (.iload_n 1, 1) := dk_27 (dk_at dksX11_first_0 16 rfl rfl)
theorem dX11_first_17 : decode cX11_first 17 = .ok (.iadd, 1) := dk_96 (dk_at dksX11_first_0 17 rfl rfl)
theorem dX11_first_18 : decode cX11_first 18 = .ok (.invokespecial 41, 3) := dk_183 0 41 (dk_at dksX11_first_0 18 rfl rfl)
theorem dX11_first_21 : decode cX11_first 21 = .ok (.areturn, 1) := dk_176 (dk_at dksX11_first_0 21 rfl rfl)
abbrev cX11_last : ByteArray := prog_17_method_10_code
def yX11_last : MethodName := ⟨RX11, "last", "(I)LMergeWorkbench$Part;"⟩
def dkwX11_last_0 : List UInt8 := [187, 0, 8, 89, 42, 180, 0, 7, 42, 180, 0, 17, 27, 100, 42, 180, 0, 17, 183, 0, 41, 176]
abbrev dktX11_last_0 : List UInt8 := dkwX11_last_0 ++ []
theorem dksX11_last_0 : cX11_last.data.toList.drop 0 = dktX11_last_0 := by decide +kernel
theorem dX11_last_0 : decode cX11_last 0 = .ok (.new 8, 3) := dk_187 0 8 (dk_at dksX11_last_0 0 rfl rfl)
theorem dX11_last_3 : decode cX11_last 3 = .ok (.dup, 1) := dk_89 (dk_at dksX11_last_0 3 rfl rfl)
theorem dX11_last_4 : decode cX11_last 4 = .ok (.aload_n 0, 1) := dk_42 (dk_at dksX11_last_0 4 rfl rfl)
theorem dX11_last_5 : decode cX11_last 5 = .ok (.getfield 7, 3) := dk_180 0 7 (dk_at dksX11_last_0 5 rfl rfl)
theorem dX11_last_8 : decode cX11_last 8 = .ok (.aload_n 0, 1) := dk_42 (dk_at dksX11_last_0 8 rfl rfl)
theorem dX11_last_9 : decode cX11_last 9 = .ok (.getfield 17, 3) := dk_180 0 17 (dk_at dksX11_last_0 9 rfl rfl)
theorem dX11_last_12 : decode cX11_last 12 = .ok (.iload_n 1, 1) := dk_27 (dk_at dksX11_last_0 12 rfl rfl)
theorem dX11_last_13 : decode cX11_last 13 = .ok (.isub, 1) := dk_100 (dk_at dksX11_last_0 13 rfl rfl)
theorem dX11_last_14 : decode cX11_last 14 = .ok (.aload_n 0, 1) := dk_42 (dk_at dksX11_last_0 14 rfl rfl)
theorem dX11_last_15 : decode cX11_last 15 = .ok (.getfield 17, 3) := dk_180 0 17 (dk_at dksX11_last_0 15 rfl rfl)
theorem dX11_last_18 : decode cX11_last 18 = .ok (.invokespecial 41, 3) := dk_183 0 41 (dk_at dksX11_last_0 18 rfl rfl)
theorem dX11_last_21 : decode cX11_last 21 = .ok (.areturn, 1) := dk_176 (dk_at dksX11_last_0 21 rfl rfl)
abbrev cX11_addTo : ByteArray := prog_17_method_11_code
def yX11_addTo : MethodName := ⟨RX11, "addTo", "(Ljava/util/List;)V"⟩
def dkwX11_addTo_1 : List UInt8 := [185, 0, 44, 2, 0, 87, 132, 2, 1, 167, 255, 228, 177]
abbrev dktX11_addTo_1 : List UInt8 := dkwX11_addTo_1 ++ []
def dkwX11_addTo_0 : List UInt8 := [42, 180, 0, 13, 61, 28, 42, 180, 0, 17, 162, 0, 26, 43, 42, 180, 0, 7, 28, 185, 0, 20, 2, 0]
abbrev dktX11_addTo_0 : List UInt8 := dkwX11_addTo_0 ++ dktX11_addTo_1
theorem dksX11_addTo_0 : cX11_addTo.data.toList.drop 0 = dktX11_addTo_0 := by decide +kernel
theorem dksX11_addTo_1 : cX11_addTo.data.toList.drop 24 = dktX11_addTo_1 := dk_seg dksX11_addTo_0 24 rfl rfl
theorem dX11_addTo_0 : decode cX11_addTo 0 = .ok (.aload_n 0, 1) := dk_42 (dk_at dksX11_addTo_0 0 rfl rfl)
theorem dX11_addTo_1 : decode cX11_addTo 1 = .ok (.getfield 13, 3) := dk_180 0 13 (dk_at dksX11_addTo_0 1 rfl rfl)
theorem dX11_addTo_4 : decode cX11_addTo 4 = .ok (.istore_n 2, 1) := dk_61 (dk_at dksX11_addTo_0 4 rfl rfl)
theorem dX11_addTo_5 : decode cX11_addTo 5 = .ok (.iload_n 2, 1) := dk_28 (dk_at dksX11_addTo_0 5 rfl rfl)
theorem dX11_addTo_6 : decode cX11_addTo 6 = .ok (.aload_n 0, 1) := dk_42 (dk_at dksX11_addTo_0 6 rfl rfl)
theorem dX11_addTo_7 : decode cX11_addTo 7 = .ok (.getfield 17, 3) := dk_180 0 17 (dk_at dksX11_addTo_0 7 rfl rfl)
theorem dX11_addTo_10 : decode cX11_addTo 10 = .ok (.if_icmp .ge 26, 3) := dk_162 0 26 (dk_at dksX11_addTo_0 10 rfl rfl)
theorem dX11_addTo_13 : decode cX11_addTo 13 = .ok (.aload_n 1, 1) := dk_43 (dk_at dksX11_addTo_0 13 rfl rfl)
theorem dX11_addTo_14 : decode cX11_addTo 14 = .ok (.aload_n 0, 1) := dk_42 (dk_at dksX11_addTo_0 14 rfl rfl)
theorem dX11_addTo_15 : decode cX11_addTo 15 = .ok (.getfield 7, 3) := dk_180 0 7 (dk_at dksX11_addTo_0 15 rfl rfl)
theorem dX11_addTo_18 : decode cX11_addTo 18 = .ok (.iload_n 2, 1) := dk_28 (dk_at dksX11_addTo_0 18 rfl rfl)
theorem dX11_addTo_19 : decode cX11_addTo 19 = .ok (.invokeinterface 20 2, 5) := by decide +kernel
theorem dX11_addTo_24 : decode cX11_addTo 24 = .ok (.invokeinterface 44 2, 5) := by decide +kernel
theorem dX11_addTo_29 : decode cX11_addTo 29 = .ok (.pop, 1) := dk_87 (dk_at dksX11_addTo_1 5 rfl rfl)
theorem dX11_addTo_30 : decode cX11_addTo 30 = .ok (.iinc 2 1, 3) := dk_132 2 1 (dk_at dksX11_addTo_1 6 rfl rfl)
theorem dX11_addTo_33 : decode cX11_addTo 33 = .ok (.goto (-28), 3) := dk_167 255 228 (dk_at dksX11_addTo_1 9 rfl rfl)
theorem dX11_addTo_36 : decode cX11_addTo 36 = .ok (.return_, 1) := dk_177 (dk_at dksX11_addTo_1 12 rfl rfl)
theorem q139 : (Jvm.Cond.initialized "MergeWorkbench$Part") ∈ lw_all := lw_g (lw_at lw_m1 56 rfl) rfl
theorem q309 : (Jvm.Cond.selects "MergeWorkbench$Part" ({ cls := "java/lang/Object", name := "getClass", desc := "()Ljava/lang/Class;" } : Jvm.MethodName) ({ cls := "java/lang/Object", name := "getClass", desc := "()Ljava/lang/Class;" } : Jvm.MethodName)) ∈ lw_all := lw_g (lw_at lw_m1 226 rfl) rfl
theorem q1477 : (Jvm.Cond.selects "MergeWorkbench$Part" ({ cls := "java/lang/Object", name := "equals", desc := "(Ljava/lang/Object;)Z" } : Jvm.MethodName) ({ cls := "java/lang/Object", name := "equals", desc := "(Ljava/lang/Object;)Z" } : Jvm.MethodName)) ∈ lw_all := lw_g (lw_at lw_m6 194 rfl) rfl
theorem q2368 : (Jvm.Cond.instantiable "MergeWorkbench$Part" (3 : Nat)) ∈ lw_all := lw_g (lw_at lw_m10 125 rfl) rfl
theorem q2370 : (Jvm.Cond.instanceMethod ({ cls := "MergeWorkbench$Part", name := "<init>", desc := "(Ljava/util/List;II)V" } : Jvm.MethodName)) ∈ lw_all := lw_g (lw_at lw_m10 127 rfl) rfl
theorem q2371 : (Jvm.Cond.code ({ cls := "MergeWorkbench$Part", name := "<init>", desc := "(Ljava/util/List;II)V" } : Jvm.MethodName) prog_17_method_1_code (4 : Nat) (Option.none : Option Jvm.ClassFile.FieldType)) ∈ lw_all := lw_g (lw_at lw_m10 128 rfl) rfl
theorem q2372 : (Jvm.Cond.methodLink "MergeWorkbench$Part" (1 : Nat) ({ cls := "java/lang/Object", name := "<init>", desc := "()V" } : Jvm.MethodName)) ∈ lw_all := lw_g (lw_at lw_m10 129 rfl) rfl
theorem q2373 : (Jvm.Cond.fieldLink "MergeWorkbench$Part" (7 : Nat) "MergeWorkbench$Part" "of" "Ljava/util/List;") ∈ lw_all := lw_g (lw_at lw_m10 130 rfl) rfl
theorem q2374 : (Jvm.Cond.fieldLink "MergeWorkbench$Part" (13 : Nat) "MergeWorkbench$Part" "from" "I") ∈ lw_all := lw_g (lw_at lw_m10 131 rfl) rfl
theorem q2382 : (Jvm.Cond.fieldLink "MergeWorkbench$Part" (17 : Nat) "MergeWorkbench$Part" "to" "I") ∈ lw_all := lw_g (lw_at lw_m10 139 rfl) rfl
theorem q2387 : (Jvm.Cond.laysFinal "MergeWorkbench$Part" "MergeWorkbench$Part" "of" "Ljava/util/List;") ∈ lw_all := lw_g (lw_at lw_m10 144 rfl) rfl
theorem q2388 : (Jvm.Cond.soleField "MergeWorkbench$Part" "of") ∈ lw_all := lw_g (lw_at lw_m10 145 rfl) rfl
theorem q2389 : (Jvm.Cond.laysFinal "MergeWorkbench$Part" "MergeWorkbench$Part" "from" "I") ∈ lw_all := lw_g (lw_at lw_m10 146 rfl) rfl
theorem q2390 : (Jvm.Cond.soleField "MergeWorkbench$Part" "from") ∈ lw_all := lw_g (lw_at lw_m10 147 rfl) rfl
theorem q2391 : (Jvm.Cond.laysFinal "MergeWorkbench$Part" "MergeWorkbench$Part" "to" "I") ∈ lw_all := lw_g (lw_at lw_m10 148 rfl) rfl
theorem q2392 : (Jvm.Cond.soleField "MergeWorkbench$Part" "to") ∈ lw_all := lw_g (lw_at lw_m10 149 rfl) rfl
theorem q2393 : (Jvm.Cond.superclass "MergeWorkbench$Part" "java/lang/Object") ∈ lw_all := lw_g (lw_at lw_m10 150 rfl) rfl
theorem q2808 : (Jvm.Cond.instanceMethod ({ cls := "MergeWorkbench$Part", name := "isEmpty", desc := "()Z" } : Jvm.MethodName)) ∈ lw_all := lw_g (lw_at lw_m12 85 rfl) rfl
theorem q2809 : (Jvm.Cond.selects "MergeWorkbench$Part" ({ cls := "MergeWorkbench$Part", name := "isEmpty", desc := "()Z" } : Jvm.MethodName) ({ cls := "MergeWorkbench$Part", name := "isEmpty", desc := "()Z" } : Jvm.MethodName)) ∈ lw_all := lw_g (lw_at lw_m12 86 rfl) rfl
theorem q2810 : (Jvm.Cond.code ({ cls := "MergeWorkbench$Part", name := "isEmpty", desc := "()Z" } : Jvm.MethodName) prog_17_method_3_code (1 : Nat) (Option.some Jvm.ClassFile.FieldType.boolean)) ∈ lw_all := lw_g (lw_at lw_m12 87 rfl) rfl
theorem q2812 : (Jvm.Cond.instanceMethod ({ cls := "MergeWorkbench$Part", name := "isLike", desc := "(LMergeWorkbench$Part;)Z" } : Jvm.MethodName)) ∈ lw_all := lw_g (lw_at lw_m12 89 rfl) rfl
theorem q2813 : (Jvm.Cond.selects "MergeWorkbench$Part" ({ cls := "MergeWorkbench$Part", name := "isLike", desc := "(LMergeWorkbench$Part;)Z" } : Jvm.MethodName) ({ cls := "MergeWorkbench$Part", name := "isLike", desc := "(LMergeWorkbench$Part;)Z" } : Jvm.MethodName)) ∈ lw_all := lw_g (lw_at lw_m12 90 rfl) rfl
theorem q2814 : (Jvm.Cond.code ({ cls := "MergeWorkbench$Part", name := "isLike", desc := "(LMergeWorkbench$Part;)Z" } : Jvm.MethodName) prog_17_method_5_code (2 : Nat) (Option.some Jvm.ClassFile.FieldType.boolean)) ∈ lw_all := lw_g (lw_at lw_m12 91 rfl) rfl
theorem q2815 : (Jvm.Cond.methodLink "MergeWorkbench$Part" (26 : Nat) ({ cls := "MergeWorkbench$Part", name := "length", desc := "()I" } : Jvm.MethodName)) ∈ lw_all := lw_g (lw_at lw_m12 92 rfl) rfl
theorem q2816 : (Jvm.Cond.instanceMethod ({ cls := "MergeWorkbench$Part", name := "length", desc := "()I" } : Jvm.MethodName)) ∈ lw_all := lw_g (lw_at lw_m12 93 rfl) rfl
theorem q2817 : (Jvm.Cond.selects "MergeWorkbench$Part" ({ cls := "MergeWorkbench$Part", name := "length", desc := "()I" } : Jvm.MethodName) ({ cls := "MergeWorkbench$Part", name := "length", desc := "()I" } : Jvm.MethodName)) ∈ lw_all := lw_g (lw_at lw_m12 94 rfl) rfl
theorem q2818 : (Jvm.Cond.code ({ cls := "MergeWorkbench$Part", name := "length", desc := "()I" } : Jvm.MethodName) prog_17_method_2_code (1 : Nat) (Option.some Jvm.ClassFile.FieldType.int)) ∈ lw_all := lw_g (lw_at lw_m12 95 rfl) rfl
theorem q2819 : (Jvm.Cond.methodLink "MergeWorkbench$Part" (30 : Nat) ({ cls := "MergeWorkbench$Part", name := "commonBeginning", desc := "(LMergeWorkbench$Part;)I" } : Jvm.MethodName)) ∈ lw_all := lw_g (lw_at lw_m12 96 rfl) rfl
theorem q2820 : (Jvm.Cond.instanceMethod ({ cls := "MergeWorkbench$Part", name := "commonBeginning", desc := "(LMergeWorkbench$Part;)I" } : Jvm.MethodName)) ∈ lw_all := lw_g (lw_at lw_m12 97 rfl) rfl
theorem q2821 : (Jvm.Cond.selects "MergeWorkbench$Part" ({ cls := "MergeWorkbench$Part", name := "commonBeginning", desc := "(LMergeWorkbench$Part;)I" } : Jvm.MethodName) ({ cls := "MergeWorkbench$Part", name := "commonBeginning", desc := "(LMergeWorkbench$Part;)I" } : Jvm.MethodName)) ∈ lw_all := lw_g (lw_at lw_m12 98 rfl) rfl
theorem q2822 : (Jvm.Cond.code ({ cls := "MergeWorkbench$Part", name := "commonBeginning", desc := "(LMergeWorkbench$Part;)I" } : Jvm.MethodName) prog_17_method_6_code (3 : Nat) (Option.some Jvm.ClassFile.FieldType.int)) ∈ lw_all := lw_g (lw_at lw_m12 99 rfl) rfl
theorem q2823 : (Jvm.Cond.methodLink "MergeWorkbench$Part" (34 : Nat) ({ cls := "MergeWorkbench$Part", name := "at", desc := "(I)Ljava/lang/Object;" } : Jvm.MethodName)) ∈ lw_all := lw_g (lw_at lw_m12 100 rfl) rfl
theorem q2824 : (Jvm.Cond.instanceMethod ({ cls := "MergeWorkbench$Part", name := "at", desc := "(I)Ljava/lang/Object;" } : Jvm.MethodName)) ∈ lw_all := lw_g (lw_at lw_m12 101 rfl) rfl
theorem q2825 : (Jvm.Cond.selects "MergeWorkbench$Part" ({ cls := "MergeWorkbench$Part", name := "at", desc := "(I)Ljava/lang/Object;" } : Jvm.MethodName) ({ cls := "MergeWorkbench$Part", name := "at", desc := "(I)Ljava/lang/Object;" } : Jvm.MethodName)) ∈ lw_all := lw_g (lw_at lw_m12 102 rfl) rfl
theorem q2826 : (Jvm.Cond.code ({ cls := "MergeWorkbench$Part", name := "at", desc := "(I)Ljava/lang/Object;" } : Jvm.MethodName) prog_17_method_4_code (2 : Nat) (Option.some (Jvm.ClassFile.FieldType.object "java/lang/Object"))) ∈ lw_all := lw_g (lw_at lw_m12 103 rfl) rfl
theorem q2827 : (Jvm.Cond.interfaceEntry "MergeWorkbench$Part" (20 : Nat)) ∈ lw_tbl := lw_at lw_m12 104 rfl
theorem q2828 : (Jvm.Cond.methodLink "MergeWorkbench$Part" (20 : Nat) ({ cls := "java/util/List", name := "get", desc := "(I)Ljava/lang/Object;" } : Jvm.MethodName)) ∈ lw_all := lw_g (lw_at lw_m12 105 rfl) rfl
theorem q2829 : (Jvm.Cond.methodLink "MergeWorkbench$Part" (37 : Nat) ({ cls := "java/lang/Object", name := "equals", desc := "(Ljava/lang/Object;)Z" } : Jvm.MethodName)) ∈ lw_all := lw_g (lw_at lw_m12 106 rfl) rfl
theorem q2939 : (Jvm.Cond.instanceMethod ({ cls := "MergeWorkbench$Part", name := "without", desc := "(II)LMergeWorkbench$Part;" } : Jvm.MethodName)) ∈ lw_all := lw_g (lw_at lw_m12 216 rfl) rfl
theorem q2940 : (Jvm.Cond.selects "MergeWorkbench$Part" ({ cls := "MergeWorkbench$Part", name := "without", desc := "(II)LMergeWorkbench$Part;" } : Jvm.MethodName) ({ cls := "MergeWorkbench$Part", name := "without", desc := "(II)LMergeWorkbench$Part;" } : Jvm.MethodName)) ∈ lw_all := lw_g (lw_at lw_m12 217 rfl) rfl
theorem q2941 : (Jvm.Cond.code ({ cls := "MergeWorkbench$Part", name := "without", desc := "(II)LMergeWorkbench$Part;" } : Jvm.MethodName) prog_17_method_8_code (3 : Nat) (Option.some (Jvm.ClassFile.FieldType.object "MergeWorkbench$Part"))) ∈ lw_all := lw_g (lw_at lw_m12 218 rfl) rfl
theorem q2942 : (Jvm.Cond.classLink "MergeWorkbench$Part" (8 : Nat) "MergeWorkbench$Part") ∈ lw_all := lw_g (lw_at lw_m12 219 rfl) rfl
theorem q2943 : (Jvm.Cond.methodLink "MergeWorkbench$Part" (41 : Nat) ({ cls := "MergeWorkbench$Part", name := "<init>", desc := "(Ljava/util/List;II)V" } : Jvm.MethodName)) ∈ lw_all := lw_g (lw_at lw_m12 220 rfl) rfl
theorem q2945 : (Jvm.Cond.instanceMethod ({ cls := "MergeWorkbench$Part", name := "commonEnd", desc := "(LMergeWorkbench$Part;)I" } : Jvm.MethodName)) ∈ lw_all := lw_g (lw_at lw_m12 222 rfl) rfl
theorem q2946 : (Jvm.Cond.selects "MergeWorkbench$Part" ({ cls := "MergeWorkbench$Part", name := "commonEnd", desc := "(LMergeWorkbench$Part;)I" } : Jvm.MethodName) ({ cls := "MergeWorkbench$Part", name := "commonEnd", desc := "(LMergeWorkbench$Part;)I" } : Jvm.MethodName)) ∈ lw_all := lw_g (lw_at lw_m12 223 rfl) rfl
theorem q2947 : (Jvm.Cond.code ({ cls := "MergeWorkbench$Part", name := "commonEnd", desc := "(LMergeWorkbench$Part;)I" } : Jvm.MethodName) prog_17_method_7_code (3 : Nat) (Option.some Jvm.ClassFile.FieldType.int)) ∈ lw_all := lw_g (lw_at lw_m12 224 rfl) rfl
theorem q2949 : (Jvm.Cond.instanceMethod ({ cls := "MergeWorkbench$Part", name := "first", desc := "(I)LMergeWorkbench$Part;" } : Jvm.MethodName)) ∈ lw_all := lw_g (lw_at lw_m12 226 rfl) rfl
theorem q2950 : (Jvm.Cond.selects "MergeWorkbench$Part" ({ cls := "MergeWorkbench$Part", name := "first", desc := "(I)LMergeWorkbench$Part;" } : Jvm.MethodName) ({ cls := "MergeWorkbench$Part", name := "first", desc := "(I)LMergeWorkbench$Part;" } : Jvm.MethodName)) ∈ lw_all := lw_g (lw_at lw_m12 227 rfl) rfl
theorem q2951 : (Jvm.Cond.code ({ cls := "MergeWorkbench$Part", name := "first", desc := "(I)LMergeWorkbench$Part;" } : Jvm.MethodName) prog_17_method_9_code (2 : Nat) (Option.some (Jvm.ClassFile.FieldType.object "MergeWorkbench$Part"))) ∈ lw_all := lw_g (lw_at lw_m12 228 rfl) rfl
theorem q2953 : (Jvm.Cond.instanceMethod ({ cls := "MergeWorkbench$Part", name := "last", desc := "(I)LMergeWorkbench$Part;" } : Jvm.MethodName)) ∈ lw_all := lw_g (lw_at lw_m12 230 rfl) rfl
theorem q2954 : (Jvm.Cond.selects "MergeWorkbench$Part" ({ cls := "MergeWorkbench$Part", name := "last", desc := "(I)LMergeWorkbench$Part;" } : Jvm.MethodName) ({ cls := "MergeWorkbench$Part", name := "last", desc := "(I)LMergeWorkbench$Part;" } : Jvm.MethodName)) ∈ lw_all := lw_g (lw_at lw_m12 231 rfl) rfl
theorem q2955 : (Jvm.Cond.code ({ cls := "MergeWorkbench$Part", name := "last", desc := "(I)LMergeWorkbench$Part;" } : Jvm.MethodName) prog_17_method_10_code (2 : Nat) (Option.some (Jvm.ClassFile.FieldType.object "MergeWorkbench$Part"))) ∈ lw_all := lw_g (lw_at lw_m12 232 rfl) rfl
theorem q3029 : (Jvm.Cond.instanceMethod ({ cls := "MergeWorkbench$Part", name := "addTo", desc := "(Ljava/util/List;)V" } : Jvm.MethodName)) ∈ lw_all := lw_g (lw_at lw_m13 66 rfl) rfl
theorem q3030 : (Jvm.Cond.selects "MergeWorkbench$Part" ({ cls := "MergeWorkbench$Part", name := "addTo", desc := "(Ljava/util/List;)V" } : Jvm.MethodName) ({ cls := "MergeWorkbench$Part", name := "addTo", desc := "(Ljava/util/List;)V" } : Jvm.MethodName)) ∈ lw_all := lw_g (lw_at lw_m13 67 rfl) rfl
theorem q3031 : (Jvm.Cond.code ({ cls := "MergeWorkbench$Part", name := "addTo", desc := "(Ljava/util/List;)V" } : Jvm.MethodName) prog_17_method_11_code (3 : Nat) (Option.none : Option Jvm.ClassFile.FieldType)) ∈ lw_all := lw_g (lw_at lw_m13 68 rfl) rfl
theorem q3032 : (Jvm.Cond.interfaceEntry "MergeWorkbench$Part" (44 : Nat)) ∈ lw_tbl := lw_at lw_m13 69 rfl
theorem q3033 : (Jvm.Cond.methodLink "MergeWorkbench$Part" (44 : Nat) ({ cls := "java/util/List", name := "add", desc := "(Ljava/lang/Object;)Z" } : Jvm.MethodName)) ∈ lw_all := lw_g (lw_at lw_m13 70 rfl) rfl
theorem q3933 : (Jvm.Cond.castable "MergeWorkbench$Part" "java/lang/Object") ∈ lw_tbl := lw_at lw_m17 10 rfl
theorem in_X11 : ∀ w ∈ wsX110, w ∈ lw_all := lw_in wsX110 [2387, 2389, 2391] (by decide +kernel) (by decide +kernel)

/-! MergeWorkbench$Comparison$1 -/
set_option maxRecDepth 100000
def RX12 : String := "MergeWorkbench$Comparison$1"
def TX12 : u_T := fun k => match k with
  | 0 => ("MergeWorkbench$Comparison$1", "atA", "I", false)
  | 1 => ("MergeWorkbench$Comparison$1", "atB", "I", false)
  | 2 => ("MergeWorkbench$Comparison$1", "match", "I", false)
  | _ => ("MergeWorkbench$Comparison$1", "this$0", "LMergeWorkbench$Comparison;", true)
def tyX12 : Nat → FieldType := fun k => match k with
  | 0 => .int
  | 1 => .int
  | 2 => .int
  | _ => .object "MergeWorkbench$Comparison"
abbrev wsX120 : List Cond := u_ws RX12 TX12 4
theorem nmX12 : ∀ a, a < 4 → ∀ b, b < 4 → a ≠ b → (TX12 a).2.1 ≠ (TX12 b).2.1 := by decide +kernel
theorem tyX12_ok : ∀ k, k < 4 → parseFieldDescriptor (TX12 k).2.2.1 = some (tyX12 k) := by decide +kernel
abbrev cX12_hasNext : ByteArray := prog_7_method_4_code
def yX12_hasNext : MethodName := ⟨RX12, "hasNext", "()Z"⟩
def dkwX12_hasNext_1 : List UInt8 := [180, 0, 1, 180, 0, 43, 185, 0, 23, 1, 0, 162, 0, 7, 4, 167, 0, 4, 3, 172]
abbrev dktX12_hasNext_1 : List UInt8 := dkwX12_hasNext_1 ++ []
def dkwX12_hasNext_0 : List UInt8 := [42, 180, 0, 45, 42, 180, 0, 1, 180, 0, 38, 185, 0, 23, 1, 0, 161, 0, 22, 42, 180, 0, 48, 42]
abbrev dktX12_hasNext_0 : List UInt8 := dkwX12_hasNext_0 ++ dktX12_hasNext_1
theorem dksX12_hasNext_0 : cX12_hasNext.data.toList.drop 0 = dktX12_hasNext_0 := by decide +kernel
theorem dksX12_hasNext_1 : cX12_hasNext.data.toList.drop 24 = dktX12_hasNext_1 := dk_seg dksX12_hasNext_0 24 rfl rfl
theorem dX12_hasNext_0 : decode cX12_hasNext 0 = .ok (.aload_n 0, 1) := dk_42 (dk_at dksX12_hasNext_0 0 rfl rfl)
theorem dX12_hasNext_1 : decode cX12_hasNext 1 = .ok (.getfield 45, 3) := dk_180 0 45 (dk_at dksX12_hasNext_0 1 rfl rfl)
theorem dX12_hasNext_4 : decode cX12_hasNext 4 = .ok (.aload_n 0, 1) := dk_42 (dk_at dksX12_hasNext_0 4 rfl rfl)
theorem dX12_hasNext_5 : decode cX12_hasNext 5 = .ok (.getfield 1, 3) := dk_180 0 1 (dk_at dksX12_hasNext_0 5 rfl rfl)
theorem dX12_hasNext_8 : decode cX12_hasNext 8 = .ok (.getfield 38, 3) := dk_180 0 38 (dk_at dksX12_hasNext_0 8 rfl rfl)
theorem dX12_hasNext_11 : decode cX12_hasNext 11 = .ok (.invokeinterface 23 1, 5) := by decide +kernel
theorem dX12_hasNext_16 : decode cX12_hasNext 16 = .ok (.if_icmp .lt 22, 3) := dk_161 0 22 (dk_at dksX12_hasNext_0 16 rfl rfl)
theorem dX12_hasNext_19 : decode cX12_hasNext 19 = .ok (.aload_n 0, 1) := dk_42 (dk_at dksX12_hasNext_0 19 rfl rfl)
theorem dX12_hasNext_20 : decode cX12_hasNext 20 = .ok (.getfield 48, 3) := dk_180 0 48 (dk_at dksX12_hasNext_0 20 rfl rfl)
theorem dX12_hasNext_23 : decode cX12_hasNext 23 = .ok (.aload_n 0, 1) := dk_42 (dk_at dksX12_hasNext_0 23 rfl rfl)
theorem dX12_hasNext_24 : decode cX12_hasNext 24 = .ok (.getfield 1, 3) := dk_180 0 1 (dk_at dksX12_hasNext_1 0 rfl rfl)
theorem dX12_hasNext_27 : decode cX12_hasNext 27 = .ok (.getfield 43, 3) := dk_180 0 43 (dk_at dksX12_hasNext_1 3 rfl rfl)
theorem dX12_hasNext_30 : decode cX12_hasNext 30 = .ok (.invokeinterface 23 1, 5) := by decide +kernel
theorem dX12_hasNext_35 : decode cX12_hasNext 35 = .ok (.if_icmp .ge 7, 3) := dk_162 0 7 (dk_at dksX12_hasNext_1 11 rfl rfl)
theorem dX12_hasNext_38 : decode cX12_hasNext 38 = .ok (.iconst 1, 1) := dk_4 (dk_at dksX12_hasNext_1 14 rfl rfl)
theorem dX12_hasNext_39 : decode cX12_hasNext 39 = .ok (.goto 4, 3) := dk_167 0 4 (dk_at dksX12_hasNext_1 15 rfl rfl)
theorem dX12_hasNext_42 : decode cX12_hasNext 42 = .ok (.iconst 0, 1) := dk_3 (dk_at dksX12_hasNext_1 18 rfl rfl)
theorem dX12_hasNext_43 : decode cX12_hasNext 43 = .ok (.ireturn, 1) := dk_172 (dk_at dksX12_hasNext_1 19 rfl rfl)
abbrev cX12_next : ByteArray := prog_7_method_6_code
def yX12_next : MethodName := ⟨RX12, "next", "()Ljava/lang/Object;"⟩
theorem dX12_next_0 : decode cX12_next 0 = .ok (.aload_n 0, 1) := by decide +kernel
theorem dX12_next_1 : decode cX12_next 1 = .ok (.invokevirtual 69, 3) := by decide +kernel
theorem dX12_next_4 : decode cX12_next 4 = .ok (.areturn, 1) := by decide +kernel
abbrev cX12_next_2 : ByteArray := prog_7_method_5_code
def yX12_next_2 : MethodName := ⟨RX12, "next", "()Ljava/lang/Integer;"⟩
def dkwX12_next_2_7 : List UInt8 := [180, 0, 1, 180, 0, 38, 42, 180, 0, 45, 4, 100, 185, 0, 29, 2, 0, 192, 0, 54, 176]
abbrev dktX12_next_2_7 : List UInt8 := dkwX12_next_2_7 ++ []
def dkwX12_next_2_6 : List UInt8 := [181, 0, 13, 42, 89, 180, 0, 45, 4, 96, 181, 0, 45, 42, 89, 180, 0, 48, 4, 96, 181, 0, 48, 42]
abbrev dktX12_next_2_6 : List UInt8 := dkwX12_next_2_6 ++ dktX12_next_2_7
def dkwX12_next_2_5 : List UInt8 := [185, 0, 23, 1, 0, 160, 0, 11, 187, 0, 66, 89, 183, 0, 68, 191, 42, 89, 180, 0, 13, 4, 96]
abbrev dktX12_next_2_5 : List UInt8 := dkwX12_next_2_5 ++ dktX12_next_2_6
def dkwX12_next_2_4 : List UInt8 := [192, 0, 54, 182, 0, 56, 96, 184, 0, 59, 176, 42, 180, 0, 13, 42, 180, 0, 1, 180, 0, 17]
abbrev dktX12_next_2_4 : List UInt8 := dkwX12_next_2_4 ++ dktX12_next_2_5
def dkwX12_next_2_3 : List UInt8 := [181, 0, 48, 17, 0, 200, 42, 180, 0, 1, 180, 0, 43, 42, 180, 0, 48, 4, 100, 185, 0, 29, 2, 0]
abbrev dktX12_next_2_3 : List UInt8 := dkwX12_next_2_3 ++ dktX12_next_2_4
def dkwX12_next_2_2 : List UInt8 := [184, 0, 59, 176, 42, 180, 0, 48, 42, 182, 0, 63, 162, 0, 45, 42, 89, 180, 0, 48, 4, 96]
abbrev dktX12_next_2_2 : List UInt8 := dkwX12_next_2_2 ++ dktX12_next_2_3
def dkwX12_next_2_1 : List UInt8 := [180, 0, 1, 180, 0, 38, 42, 180, 0, 45, 4, 100, 185, 0, 29, 2, 0, 192, 0, 54, 182, 0, 56, 96]
abbrev dktX12_next_2_1 : List UInt8 := dkwX12_next_2_1 ++ dktX12_next_2_2
def dkwX12_next_2_0 : List UInt8 := [42, 180, 0, 45, 42, 182, 0, 51, 162, 0, 44, 42, 89, 180, 0, 45, 4, 96, 181, 0, 45, 16, 100, 42]
abbrev dktX12_next_2_0 : List UInt8 := dkwX12_next_2_0 ++ dktX12_next_2_1
theorem dksX12_next_2_0 : cX12_next_2.data.toList.drop 0 = dktX12_next_2_0 := by decide +kernel
theorem dksX12_next_2_1 : cX12_next_2.data.toList.drop 24 = dktX12_next_2_1 := dk_seg dksX12_next_2_0 24 rfl rfl
theorem dksX12_next_2_2 : cX12_next_2.data.toList.drop 48 = dktX12_next_2_2 := dk_seg dksX12_next_2_1 24 rfl rfl
theorem dksX12_next_2_3 : cX12_next_2.data.toList.drop 70 = dktX12_next_2_3 := dk_seg dksX12_next_2_2 22 rfl rfl
theorem dksX12_next_2_4 : cX12_next_2.data.toList.drop 94 = dktX12_next_2_4 := dk_seg dksX12_next_2_3 24 rfl rfl
theorem dksX12_next_2_5 : cX12_next_2.data.toList.drop 116 = dktX12_next_2_5 := dk_seg dksX12_next_2_4 22 rfl rfl
theorem dksX12_next_2_6 : cX12_next_2.data.toList.drop 139 = dktX12_next_2_6 := dk_seg dksX12_next_2_5 23 rfl rfl
theorem dksX12_next_2_7 : cX12_next_2.data.toList.drop 163 = dktX12_next_2_7 := dk_seg dksX12_next_2_6 24 rfl rfl
theorem dX12_next_2_0 : decode cX12_next_2 0 = .ok (.aload_n 0, 1) := dk_42 (dk_at dksX12_next_2_0 0 rfl rfl)
theorem dX12_next_2_1 : decode cX12_next_2 1 = .ok (.getfield 45, 3) := dk_180 0 45 (dk_at dksX12_next_2_0 1 rfl rfl)
theorem dX12_next_2_4 : decode cX12_next_2 4 = .ok (.aload_n 0, 1) := dk_42 (dk_at dksX12_next_2_0 4 rfl rfl)
theorem dX12_next_2_5 : decode cX12_next_2 5 = .ok (.invokevirtual 51, 3) := dk_182 0 51 (dk_at dksX12_next_2_0 5 rfl rfl)
theorem dX12_next_2_8 : decode cX12_next_2 8 = .ok (.if_icmp .ge 44, 3) := dk_162 0 44 (dk_at dksX12_next_2_0 8 rfl rfl)
theorem dX12_next_2_11 : decode cX12_next_2 11 = .ok (.aload_n 0, 1) := dk_42 (dk_at dksX12_next_2_0 11 rfl rfl)
theorem dX12_next_2_12 : decode cX12_next_2 12 = .ok (.dup, 1) := dk_89 (dk_at dksX12_next_2_0 12 rfl rfl)
theorem dX12_next_2_13 : decode cX12_next_2 13 = .ok (.getfield 45, 3) := dk_180 0 45 (dk_at dksX12_next_2_0 13 rfl rfl)
theorem dX12_next_2_16 : decode cX12_next_2 16 = .ok (.iconst 1, 1) := dk_4 (dk_at dksX12_next_2_0 16 rfl rfl)
theorem dX12_next_2_17 : decode cX12_next_2 17 = .ok (.iadd, 1) := dk_96 (dk_at dksX12_next_2_0 17 rfl rfl)
theorem dX12_next_2_18 : decode cX12_next_2 18 = .ok (.putfield 45, 3) := dk_181 0 45 (dk_at dksX12_next_2_0 18 rfl rfl)
theorem dX12_next_2_21 : decode cX12_next_2 21 = .ok (.bipush 100, 2) := dk_16 100 (dk_at dksX12_next_2_0 21 rfl rfl)
theorem dX12_next_2_23 : decode cX12_next_2 23 = .ok (.aload_n 0, 1) := dk_42 (dk_at dksX12_next_2_0 23 rfl rfl)
theorem dX12_next_2_24 : decode cX12_next_2 24 = .ok (.getfield 1, 3) := dk_180 0 1 (dk_at dksX12_next_2_1 0 rfl rfl)
theorem dX12_next_2_27 : decode cX12_next_2 27 = .ok (.getfield 38, 3) := dk_180 0 38 (dk_at dksX12_next_2_1 3 rfl rfl)
theorem dX12_next_2_30 : decode cX12_next_2 30 = .ok (.aload_n 0, 1) := dk_42 (dk_at dksX12_next_2_1 6 rfl rfl)
theorem dX12_next_2_31 : decode cX12_next_2 31 = .ok (.getfield 45, 3) := dk_180 0 45 (dk_at dksX12_next_2_1 7 rfl rfl)
theorem dX12_next_2_34 : decode cX12_next_2 34 = .ok (.iconst 1, 1) := dk_4 (dk_at dksX12_next_2_1 10 rfl rfl)
theorem dX12_next_2_35 : decode cX12_next_2 35 = .ok (.isub, 1) := dk_100 (dk_at dksX12_next_2_1 11 rfl rfl)
theorem dX12_next_2_36 : decode cX12_next_2 36 = .ok (.invokeinterface 29 2, 5) := by decide +kernel
theorem dX12_next_2_41 : decode cX12_next_2 41 = .ok (.checkcast 54, 3) := dk_192 0 54 (dk_at dksX12_next_2_1 17 rfl rfl)
theorem dX12_next_2_44 : decode cX12_next_2 44 = .ok (.invokevirtual 56, 3) := dk_182 0 56 (dk_at dksX12_next_2_1 20 rfl rfl)
theorem dX12_next_2_47 : decode cX12_next_2 47 = .ok (.iadd, 1) := dk_96 (dk_at dksX12_next_2_1 23 rfl rfl)
theorem dX12_next_2_48 : decode cX12_next_2 48 = .ok (.invokestatic 59, 3) := dk_184 0 59 (dk_at dksX12_next_2_2 0 rfl rfl)
theorem dX12_next_2_51 : decode cX12_next_2 51 = .ok (.areturn, 1) := dk_176 (dk_at dksX12_next_2_2 3 rfl rfl)
theorem dX12_next_2_52 : decode cX12_next_2 52 = .ok (.aload_n 0, 1) := dk_42 (dk_at dksX12_next_2_2 4 rfl rfl)
theorem dX12_next_2_53 : decode cX12_next_2 53 = .ok (.getfield 48, 3) := dk_180 0 48 (dk_at dksX12_next_2_2 5 rfl rfl)
theorem dX12_next_2_56 : decode cX12_next_2 56 = .ok (.aload_n 0, 1) := dk_42 (dk_at dksX12_next_2_2 8 rfl rfl)
theorem dX12_next_2_57 : decode cX12_next_2 57 = .ok (.invokevirtual 63, 3) := dk_182 0 63 (dk_at dksX12_next_2_2 9 rfl rfl)
theorem dX12_next_2_60 : decode cX12_next_2 60 = .ok (.if_icmp .ge 45, 3) := dk_162 0 45 (dk_at dksX12_next_2_2 12 rfl rfl)
theorem dX12_next_2_63 : decode cX12_next_2 63 = .ok (.aload_n 0, 1) := dk_42 (dk_at dksX12_next_2_2 15 rfl rfl)
theorem dX12_next_2_64 : decode cX12_next_2 64 = .ok (.dup, 1) := dk_89 (dk_at dksX12_next_2_2 16 rfl rfl)
theorem dX12_next_2_65 : decode cX12_next_2 65 = .ok (.getfield 48, 3) := dk_180 0 48 (dk_at dksX12_next_2_2 17 rfl rfl)
theorem dX12_next_2_68 : decode cX12_next_2 68 = .ok (.iconst 1, 1) := dk_4 (dk_at dksX12_next_2_2 20 rfl rfl)
theorem dX12_next_2_69 : decode cX12_next_2 69 = .ok (.iadd, 1) := dk_96 (dk_at dksX12_next_2_2 21 rfl rfl)
theorem dX12_next_2_70 : decode cX12_next_2 70 = .ok (.putfield 48, 3) := dk_181 0 48 (dk_at dksX12_next_2_3 0 rfl rfl)
theorem dX12_next_2_73 : decode cX12_next_2 73 = .ok (.sipush 200, 3) := dk_17 0 200 (dk_at dksX12_next_2_3 3 rfl rfl)
theorem dX12_next_2_76 : decode cX12_next_2 76 = .ok (.aload_n 0, 1) := dk_42 (dk_at dksX12_next_2_3 6 rfl rfl)
theorem dX12_next_2_77 : decode cX12_next_2 77 = .ok (.getfield 1, 3) := dk_180 0 1 (dk_at dksX12_next_2_3 7 rfl rfl)
theorem dX12_next_2_80 : decode cX12_next_2 80 = .ok (.getfield 43, 3) := dk_180 0 43 (dk_at dksX12_next_2_3 10 rfl rfl)
theorem dX12_next_2_83 : decode cX12_next_2 83 = .ok (.aload_n 0, 1) := dk_42 (dk_at dksX12_next_2_3 13 rfl rfl)
theorem dX12_next_2_84 : decode cX12_next_2 84 = .ok (.getfield 48, 3) := dk_180 0 48 (dk_at dksX12_next_2_3 14 rfl rfl)
theorem dX12_next_2_87 : decode cX12_next_2 87 = .ok (.iconst 1, 1) := dk_4 (dk_at dksX12_next_2_3 17 rfl rfl)
theorem dX12_next_2_88 : decode cX12_next_2 88 = .ok (.isub, 1) := dk_100 (dk_at dksX12_next_2_3 18 rfl rfl)
theorem dX12_next_2_89 : decode cX12_next_2 89 = .ok (.invokeinterface 29 2, 5) := by decide +kernel
theorem dX12_next_2_94 : decode cX12_next_2 94 = .ok (.checkcast 54, 3) := dk_192 0 54 (dk_at dksX12_next_2_4 0 rfl rfl)
theorem dX12_next_2_97 : decode cX12_next_2 97 = .ok (.invokevirtual 56, 3) := dk_182 0 56 (dk_at dksX12_next_2_4 3 rfl rfl)
theorem dX12_next_2_100 : decode cX12_next_2 100 = .ok (.iadd, 1) := dk_96 (dk_at dksX12_next_2_4 6 rfl rfl)
theorem dX12_next_2_101 : decode cX12_next_2 101 = .ok (.invokestatic 59, 3) := dk_184 0 59 (dk_at dksX12_next_2_4 7 rfl rfl)
theorem dX12_next_2_104 : decode cX12_next_2 104 = .ok (.areturn, 1) := dk_176 (dk_at dksX12_next_2_4 10 rfl rfl)
theorem dX12_next_2_105 : decode cX12_next_2 105 = .ok (.aload_n 0, 1) := dk_42 (dk_at dksX12_next_2_4 11 rfl rfl)
theorem dX12_next_2_106 : decode cX12_next_2 106 = .ok (.getfield 13, 3) := dk_180 0 13 (dk_at dksX12_next_2_4 12 rfl rfl)
theorem dX12_next_2_109 : decode cX12_next_2 109 = .ok (.aload_n 0, 1) := dk_42 (dk_at dksX12_next_2_4 15 rfl rfl)
theorem dX12_next_2_110 : decode cX12_next_2 110 = .ok (.getfield 1, 3) := dk_180 0 1 (dk_at dksX12_next_2_4 16 rfl rfl)
theorem dX12_next_2_113 : decode cX12_next_2 113 = .ok (.getfield 17, 3) := dk_180 0 17 (dk_at dksX12_next_2_4 19 rfl rfl)
theorem dX12_next_2_116 : decode cX12_next_2 116 = .ok (.invokeinterface 23 1, 5) := by decide +kernel
theorem dX12_next_2_121 : decode cX12_next_2 121 = .ok (.if_icmp .ne 11, 3) := dk_160 0 11 (dk_at dksX12_next_2_5 5 rfl rfl)
theorem dX12_next_2_124 : decode cX12_next_2 124 = .ok (.new 66, 3) := dk_187 0 66 (dk_at dksX12_next_2_5 8 rfl rfl)
theorem dX12_next_2_127 : decode cX12_next_2 127 = .ok (.dup, 1) := dk_89 (dk_at dksX12_next_2_5 11 rfl rfl)
theorem dX12_next_2_128 : decode cX12_next_2 128 = .ok (.invokespecial 68, 3) := dk_183 0 68 (dk_at dksX12_next_2_5 12 rfl rfl)
theorem dX12_next_2_131 : decode cX12_next_2 131 = .ok (.athrow, 1) := dk_191 (dk_at dksX12_next_2_5 15 rfl rfl)
theorem dX12_next_2_132 : decode cX12_next_2 132 = .ok (.aload_n 0, 1) := dk_42 (dk_at dksX12_next_2_5 16 rfl rfl)
theorem dX12_next_2_133 : decode cX12_next_2 133 = .ok (.dup, 1) := dk_89 (dk_at dksX12_next_2_5 17 rfl rfl)
theorem dX12_next_2_134 : decode cX12_next_2 134 = .ok (.getfield 13, 3) := dk_180 0 13 (dk_at dksX12_next_2_5 18 rfl rfl)
theorem dX12_next_2_137 : decode cX12_next_2 137 = .ok (.iconst 1, 1) := dk_4 (dk_at dksX12_next_2_5 21 rfl rfl)
theorem dX12_next_2_138 : decode cX12_next_2 138 = .ok (.iadd, 1) := dk_96 (dk_at dksX12_next_2_5 22 rfl rfl)
theorem dX12_next_2_139 : decode cX12_next_2 139 = .ok (.putfield 13, 3) := dk_181 0 13 (dk_at dksX12_next_2_6 0 rfl rfl)
theorem dX12_next_2_142 : decode cX12_next_2 142 = .ok (.aload_n 0, 1) := dk_42 (dk_at dksX12_next_2_6 3 rfl rfl)
theorem dX12_next_2_143 : decode cX12_next_2 143 = .ok (.dup, 1) := dk_89 (dk_at dksX12_next_2_6 4 rfl rfl)
theorem dX12_next_2_144 : decode cX12_next_2 144 = .ok (.getfield 45, 3) := dk_180 0 45 (dk_at dksX12_next_2_6 5 rfl rfl)
theorem dX12_next_2_147 : decode cX12_next_2 147 = .ok (.iconst 1, 1) := dk_4 (dk_at dksX12_next_2_6 8 rfl rfl)
theorem dX12_next_2_148 : decode cX12_next_2 148 = .ok (.iadd, 1) := dk_96 (dk_at dksX12_next_2_6 9 rfl rfl)
theorem dX12_next_2_149 : decode cX12_next_2 149 = .ok (.putfield 45, 3) := dk_181 0 45 (dk_at dksX12_next_2_6 10 rfl rfl)
theorem dX12_next_2_152 : decode cX12_next_2 152 = .ok (.aload_n 0, 1) := dk_42 (dk_at dksX12_next_2_6 13 rfl rfl)
theorem dX12_next_2_153 : decode cX12_next_2 153 = .ok (.dup, 1) := dk_89 (dk_at dksX12_next_2_6 14 rfl rfl)
theorem dX12_next_2_154 : decode cX12_next_2 154 = .ok (.getfield 48, 3) := dk_180 0 48 (dk_at dksX12_next_2_6 15 rfl rfl)
theorem dX12_next_2_157 : decode cX12_next_2 157 = .ok (.iconst 1, 1) := dk_4 (dk_at dksX12_next_2_6 18 rfl rfl)
theorem dX12_next_2_158 : decode cX12_next_2 158 = .ok (.iadd, 1) := dk_96 (dk_at dksX12_next_2_6 19 rfl rfl)
theorem dX12_next_2_159 : decode cX12_next_2 159 = .ok (.putfield 48, 3) := dk_181 0 48 (dk_at dksX12_next_2_6 20 rfl rfl)
theorem dX12_next_2_162 : decode cX12_next_2 162 = .ok (.aload_n 0, 1) := dk_42 (dk_at dksX12_next_2_6 23 rfl rfl)
theorem dX12_next_2_163 : decode cX12_next_2 163 = .ok (.getfield 1, 3) := dk_180 0 1 (dk_at dksX12_next_2_7 0 rfl rfl)
theorem dX12_next_2_166 : decode cX12_next_2 166 = .ok (.getfield 38, 3) := dk_180 0 38 (dk_at dksX12_next_2_7 3 rfl rfl)
theorem dX12_next_2_169 : decode cX12_next_2 169 = .ok (.aload_n 0, 1) := dk_42 (dk_at dksX12_next_2_7 6 rfl rfl)
theorem dX12_next_2_170 : decode cX12_next_2 170 = .ok (.getfield 45, 3) := dk_180 0 45 (dk_at dksX12_next_2_7 7 rfl rfl)
theorem dX12_next_2_173 : decode cX12_next_2 173 = .ok (.iconst 1, 1) := dk_4 (dk_at dksX12_next_2_7 10 rfl rfl)
theorem dX12_next_2_174 : decode cX12_next_2 174 = .ok (.isub, 1) := dk_100 (dk_at dksX12_next_2_7 11 rfl rfl)
theorem dX12_next_2_175 : decode cX12_next_2 175 = .ok (.invokeinterface 29 2, 5) := by decide +kernel
theorem dX12_next_2_180 : decode cX12_next_2 180 = .ok (.checkcast 54, 3) := dk_192 0 54 (dk_at dksX12_next_2_7 17 rfl rfl)
theorem dX12_next_2_183 : decode cX12_next_2 183 = .ok (.areturn, 1) := dk_176 (dk_at dksX12_next_2_7 20 rfl rfl)
abbrev cX12_endA : ByteArray := prog_7_method_2_code
def yX12_endA : MethodName := ⟨RX12, "endA", "()I"⟩
def dkwX12_endA_2 : List UInt8 := [180, 0, 1, 180, 0, 38, 185, 0, 23, 1, 0, 172]
abbrev dktX12_endA_2 : List UInt8 := dkwX12_endA_2 ++ []
def dkwX12_endA_1 : List UInt8 := [180, 0, 17, 42, 180, 0, 13, 185, 0, 29, 2, 0, 192, 0, 33, 180, 0, 35, 167, 0, 15, 42]
abbrev dktX12_endA_1 : List UInt8 := dkwX12_endA_1 ++ dktX12_endA_2
def dkwX12_endA_0 : List UInt8 := [42, 180, 0, 13, 42, 180, 0, 1, 180, 0, 17, 185, 0, 23, 1, 0, 162, 0, 28, 42, 180, 0, 1]
abbrev dktX12_endA_0 : List UInt8 := dkwX12_endA_0 ++ dktX12_endA_1
theorem dksX12_endA_0 : cX12_endA.data.toList.drop 0 = dktX12_endA_0 := by decide +kernel
theorem dksX12_endA_1 : cX12_endA.data.toList.drop 23 = dktX12_endA_1 := dk_seg dksX12_endA_0 23 rfl rfl
theorem dksX12_endA_2 : cX12_endA.data.toList.drop 45 = dktX12_endA_2 := dk_seg dksX12_endA_1 22 rfl rfl
theorem dX12_endA_0 : decode cX12_endA 0 = .ok (.aload_n 0, 1) := dk_42 (dk_at dksX12_endA_0 0 rfl rfl)
theorem dX12_endA_1 : decode cX12_endA 1 = .ok (.getfield 13, 3) := dk_180 0 13 (dk_at dksX12_endA_0 1 rfl rfl)
theorem dX12_endA_4 : decode cX12_endA 4 = .ok (.aload_n 0, 1) := dk_42 (dk_at dksX12_endA_0 4 rfl rfl)
theorem dX12_endA_5 : decode cX12_endA 5 = .ok (.getfield 1, 3) := dk_180 0 1 (dk_at dksX12_endA_0 5 rfl rfl)
theorem dX12_endA_8 : decode cX12_endA 8 = .ok (.getfield 17, 3) := dk_180 0 17 (dk_at dksX12_endA_0 8 rfl rfl)
theorem dX12_endA_11 : decode cX12_endA 11 = .ok (.invokeinterface 23 1, 5) := by decide +kernel
theorem dX12_endA_16 : decode cX12_endA 16 = .ok (.if_icmp .ge 28, 3) := dk_162 0 28 (dk_at dksX12_endA_0 16 rfl rfl)
theorem dX12_endA_19 : decode cX12_endA 19 = .ok (.aload_n 0, 1) := dk_42 (dk_at dksX12_endA_0 19 rfl rfl)
theorem dX12_endA_20 : decode cX12_endA 20 = .ok (.getfield 1, 3) := dk_180 0 1 (dk_at dksX12_endA_0 20 rfl rfl)
theorem dX12_endA_23 : decode cX12_endA 23 = .ok (.getfield 17, 3) := dk_180 0 17 (dk_at dksX12_endA_1 0 rfl rfl)
theorem dX12_endA_26 : decode cX12_endA 26 = .ok (.aload_n 0, 1) := dk_42 (dk_at dksX12_endA_1 3 rfl rfl)
theorem dX12_endA_27 : decode cX12_endA 27 = .ok (.getfield 13, 3) := dk_180 0 13 (dk_at dksX12_endA_1 4 rfl rfl)
theorem dX12_endA_30 : decode cX12_endA 30 = .ok (.invokeinterface 29 2, 5) := by decide +kernel
theorem dX12_endA_35 : decode cX12_endA 35 = .ok (.checkcast 33, 3) := dk_192 0 33 (dk_at dksX12_endA_1 12 rfl rfl)
theorem dX12_endA_38 : decode cX12_endA 38 = .ok (.getfield 35, 3) := dk_180 0 35 (dk_at dksX12_endA_1 15 rfl rfl)
theorem dX12_endA_41 : decode cX12_endA 41 = .ok (.goto 15, 3) := dk_167 0 15 (dk_at dksX12_endA_1 18 rfl rfl)
theorem dX12_endA_44 : decode cX12_endA 44 = .ok (.aload_n 0, 1) := dk_42 (dk_at dksX12_endA_1 21 rfl rfl)
theorem dX12_endA_45 : decode cX12_endA 45 = .ok (.getfield 1, 3) := dk_180 0 1 (dk_at dksX12_endA_2 0 rfl rfl)
theorem dX12_endA_48 : decode cX12_endA 48 = .ok (.getfield 38, 3) := dk_180 0 38 (dk_at dksX12_endA_2 3 rfl rfl)
theorem dX12_endA_51 : decode cX12_endA 51 = .ok (.invokeinterface 23 1, 5) := by decide +kernel
theorem dX12_endA_56 : decode cX12_endA 56 = .ok (.ireturn, 1) := dk_172 (dk_at dksX12_endA_2 11 rfl rfl)
abbrev cX12_endB : ByteArray := prog_7_method_3_code
def yX12_endB : MethodName := ⟨RX12, "endB", "()I"⟩
def dkwX12_endB_2 : List UInt8 := [180, 0, 1, 180, 0, 43, 185, 0, 23, 1, 0, 172]
abbrev dktX12_endB_2 : List UInt8 := dkwX12_endB_2 ++ []
def dkwX12_endB_1 : List UInt8 := [180, 0, 17, 42, 180, 0, 13, 185, 0, 29, 2, 0, 192, 0, 33, 180, 0, 40, 167, 0, 15, 42]
abbrev dktX12_endB_1 : List UInt8 := dkwX12_endB_1 ++ dktX12_endB_2
def dkwX12_endB_0 : List UInt8 := [42, 180, 0, 13, 42, 180, 0, 1, 180, 0, 17, 185, 0, 23, 1, 0, 162, 0, 28, 42, 180, 0, 1]
abbrev dktX12_endB_0 : List UInt8 := dkwX12_endB_0 ++ dktX12_endB_1
theorem dksX12_endB_0 : cX12_endB.data.toList.drop 0 = dktX12_endB_0 := by decide +kernel
theorem dksX12_endB_1 : cX12_endB.data.toList.drop 23 = dktX12_endB_1 := dk_seg dksX12_endB_0 23 rfl rfl
theorem dksX12_endB_2 : cX12_endB.data.toList.drop 45 = dktX12_endB_2 := dk_seg dksX12_endB_1 22 rfl rfl
theorem dX12_endB_0 : decode cX12_endB 0 = .ok (.aload_n 0, 1) := dk_42 (dk_at dksX12_endB_0 0 rfl rfl)
theorem dX12_endB_1 : decode cX12_endB 1 = .ok (.getfield 13, 3) := dk_180 0 13 (dk_at dksX12_endB_0 1 rfl rfl)
theorem dX12_endB_4 : decode cX12_endB 4 = .ok (.aload_n 0, 1) := dk_42 (dk_at dksX12_endB_0 4 rfl rfl)
theorem dX12_endB_5 : decode cX12_endB 5 = .ok (.getfield 1, 3) := dk_180 0 1 (dk_at dksX12_endB_0 5 rfl rfl)
theorem dX12_endB_8 : decode cX12_endB 8 = .ok (.getfield 17, 3) := dk_180 0 17 (dk_at dksX12_endB_0 8 rfl rfl)
theorem dX12_endB_11 : decode cX12_endB 11 = .ok (.invokeinterface 23 1, 5) := by decide +kernel
theorem dX12_endB_16 : decode cX12_endB 16 = .ok (.if_icmp .ge 28, 3) := dk_162 0 28 (dk_at dksX12_endB_0 16 rfl rfl)
theorem dX12_endB_19 : decode cX12_endB 19 = .ok (.aload_n 0, 1) := dk_42 (dk_at dksX12_endB_0 19 rfl rfl)
theorem dX12_endB_20 : decode cX12_endB 20 = .ok (.getfield 1, 3) := dk_180 0 1 (dk_at dksX12_endB_0 20 rfl rfl)
theorem dX12_endB_23 : decode cX12_endB 23 = .ok (.getfield 17, 3) := dk_180 0 17 (dk_at dksX12_endB_1 0 rfl rfl)
theorem dX12_endB_26 : decode cX12_endB 26 = .ok (.aload_n 0, 1) := dk_42 (dk_at dksX12_endB_1 3 rfl rfl)
theorem dX12_endB_27 : decode cX12_endB 27 = .ok (.getfield 13, 3) := dk_180 0 13 (dk_at dksX12_endB_1 4 rfl rfl)
theorem dX12_endB_30 : decode cX12_endB 30 = .ok (.invokeinterface 29 2, 5) := by decide +kernel
theorem dX12_endB_35 : decode cX12_endB 35 = .ok (.checkcast 33, 3) := dk_192 0 33 (dk_at dksX12_endB_1 12 rfl rfl)
theorem dX12_endB_38 : decode cX12_endB 38 = .ok (.getfield 40, 3) := dk_180 0 40 (dk_at dksX12_endB_1 15 rfl rfl)
theorem dX12_endB_41 : decode cX12_endB 41 = .ok (.goto 15, 3) := dk_167 0 15 (dk_at dksX12_endB_1 18 rfl rfl)
theorem dX12_endB_44 : decode cX12_endB 44 = .ok (.aload_n 0, 1) := dk_42 (dk_at dksX12_endB_1 21 rfl rfl)
theorem dX12_endB_45 : decode cX12_endB 45 = .ok (.getfield 1, 3) := dk_180 0 1 (dk_at dksX12_endB_2 0 rfl rfl)
theorem dX12_endB_48 : decode cX12_endB 48 = .ok (.getfield 43, 3) := dk_180 0 43 (dk_at dksX12_endB_2 3 rfl rfl)
theorem dX12_endB_51 : decode cX12_endB 51 = .ok (.invokeinterface 23 1, 5) := by decide +kernel
theorem dX12_endB_56 : decode cX12_endB 56 = .ok (.ireturn, 1) := dk_172 (dk_at dksX12_endB_2 11 rfl rfl)
abbrev cX12_init : ByteArray := prog_7_method_1_code
def yX12_init : MethodName := ⟨RX12, "<init>", "(LMergeWorkbench$Comparison;)V"⟩
def dkwX12_init_0 : List UInt8 := [42, 43, 181, 0, 1, 42, 183, 0, 7, 177]
abbrev dktX12_init_0 : List UInt8 := dkwX12_init_0 ++ []
theorem dksX12_init_0 : cX12_init.data.toList.drop 0 = dktX12_init_0 := by decide +kernel
theorem dX12_init_0 : decode cX12_init 0 = .ok (.aload_n 0, 1) := dk_42 (dk_at dksX12_init_0 0 rfl rfl)
theorem dX12_init_1 : decode cX12_init 1 = .ok (.aload_n 1, 1) := dk_43 (dk_at dksX12_init_0 1 rfl rfl)
theorem dX12_init_2 : decode cX12_init 2 = .ok (.putfield 1, 3) := dk_181 0 1 (dk_at dksX12_init_0 2 rfl rfl)
theorem dX12_init_5 : decode cX12_init 5 = .ok (.aload_n 0, 1) := dk_42 (dk_at dksX12_init_0 5 rfl rfl)
theorem dX12_init_6 : decode cX12_init 6 = .ok (.invokespecial 7, 3) := dk_183 0 7 (dk_at dksX12_init_0 6 rfl rfl)
theorem dX12_init_9 : decode cX12_init 9 = .ok (.return_, 1) := dk_177 (dk_at dksX12_init_0 9 rfl rfl)
theorem q140 : (Jvm.Cond.initialized "MergeWorkbench$Comparison$1") ∈ lw_all := lw_g (lw_at lw_m1 57 rfl) rfl
theorem q299 : (Jvm.Cond.selects "MergeWorkbench$Comparison$1" ({ cls := "java/lang/Object", name := "getClass", desc := "()Ljava/lang/Class;" } : Jvm.MethodName) ({ cls := "java/lang/Object", name := "getClass", desc := "()Ljava/lang/Class;" } : Jvm.MethodName)) ∈ lw_all := lw_g (lw_at lw_m1 216 rfl) rfl
theorem q879 : (Jvm.Cond.castable "MergeWorkbench$Comparison$1" "java/util/Iterator") ∈ lw_tbl := lw_at lw_m4 76 rfl
theorem q880 : (Jvm.Cond.selects "MergeWorkbench$Comparison$1" ({ cls := "java/util/Iterator", name := "hasNext", desc := "()Z" } : Jvm.MethodName) ({ cls := "MergeWorkbench$Comparison$1", name := "hasNext", desc := "()Z" } : Jvm.MethodName)) ∈ lw_all := lw_g (lw_at lw_m4 77 rfl) rfl
theorem q881 : (Jvm.Cond.unhidden "MergeWorkbench$Comparison$1" "hasNext" "()Z") ∈ lw_tbl := lw_at lw_m4 78 rfl
theorem q882 : (Jvm.Cond.instanceMethod ({ cls := "MergeWorkbench$Comparison$1", name := "hasNext", desc := "()Z" } : Jvm.MethodName)) ∈ lw_all := lw_g (lw_at lw_m4 79 rfl) rfl
theorem q883 : (Jvm.Cond.publicMethod ({ cls := "MergeWorkbench$Comparison$1", name := "hasNext", desc := "()Z" } : Jvm.MethodName)) ∈ lw_tbl := lw_at lw_m4 80 rfl
theorem q884 : (Jvm.Cond.code ({ cls := "MergeWorkbench$Comparison$1", name := "hasNext", desc := "()Z" } : Jvm.MethodName) prog_7_method_4_code (1 : Nat) (Option.some Jvm.ClassFile.FieldType.boolean)) ∈ lw_all := lw_g (lw_at lw_m4 81 rfl) rfl
theorem q885 : (Jvm.Cond.interfaceEntry "MergeWorkbench$Comparison$1" (23 : Nat)) ∈ lw_tbl := lw_at lw_m4 82 rfl
theorem q886 : (Jvm.Cond.methodLink "MergeWorkbench$Comparison$1" (23 : Nat) ({ cls := "java/util/List", name := "size", desc := "()I" } : Jvm.MethodName)) ∈ lw_all := lw_g (lw_at lw_m4 83 rfl) rfl
theorem q938 : (Jvm.Cond.selects "MergeWorkbench$Comparison$1" ({ cls := "java/util/Iterator", name := "next", desc := "()Ljava/lang/Object;" } : Jvm.MethodName) ({ cls := "MergeWorkbench$Comparison$1", name := "next", desc := "()Ljava/lang/Object;" } : Jvm.MethodName)) ∈ lw_all := lw_g (lw_at lw_m4 135 rfl) rfl
theorem q939 : (Jvm.Cond.unhidden "MergeWorkbench$Comparison$1" "next" "()Ljava/lang/Object;") ∈ lw_tbl := lw_at lw_m4 136 rfl
theorem q940 : (Jvm.Cond.instanceMethod ({ cls := "MergeWorkbench$Comparison$1", name := "next", desc := "()Ljava/lang/Object;" } : Jvm.MethodName)) ∈ lw_all := lw_g (lw_at lw_m4 137 rfl) rfl
theorem q941 : (Jvm.Cond.publicMethod ({ cls := "MergeWorkbench$Comparison$1", name := "next", desc := "()Ljava/lang/Object;" } : Jvm.MethodName)) ∈ lw_tbl := lw_at lw_m4 138 rfl
theorem q942 : (Jvm.Cond.code ({ cls := "MergeWorkbench$Comparison$1", name := "next", desc := "()Ljava/lang/Object;" } : Jvm.MethodName) prog_7_method_6_code (1 : Nat) (Option.some (Jvm.ClassFile.FieldType.object "java/lang/Object"))) ∈ lw_all := lw_g (lw_at lw_m4 139 rfl) rfl
theorem q943 : (Jvm.Cond.methodLink "MergeWorkbench$Comparison$1" (69 : Nat) ({ cls := "MergeWorkbench$Comparison$1", name := "next", desc := "()Ljava/lang/Integer;" } : Jvm.MethodName)) ∈ lw_all := lw_g (lw_at lw_m4 140 rfl) rfl
theorem q944 : (Jvm.Cond.instanceMethod ({ cls := "MergeWorkbench$Comparison$1", name := "next", desc := "()Ljava/lang/Integer;" } : Jvm.MethodName)) ∈ lw_all := lw_g (lw_at lw_m4 141 rfl) rfl
theorem q945 : (Jvm.Cond.selects "MergeWorkbench$Comparison$1" ({ cls := "MergeWorkbench$Comparison$1", name := "next", desc := "()Ljava/lang/Integer;" } : Jvm.MethodName) ({ cls := "MergeWorkbench$Comparison$1", name := "next", desc := "()Ljava/lang/Integer;" } : Jvm.MethodName)) ∈ lw_all := lw_g (lw_at lw_m4 142 rfl) rfl
theorem q946 : (Jvm.Cond.code ({ cls := "MergeWorkbench$Comparison$1", name := "next", desc := "()Ljava/lang/Integer;" } : Jvm.MethodName) prog_7_method_5_code (1 : Nat) (Option.some (Jvm.ClassFile.FieldType.object "java/lang/Integer"))) ∈ lw_all := lw_g (lw_at lw_m4 143 rfl) rfl
theorem q947 : (Jvm.Cond.methodLink "MergeWorkbench$Comparison$1" (51 : Nat) ({ cls := "MergeWorkbench$Comparison$1", name := "endA", desc := "()I" } : Jvm.MethodName)) ∈ lw_all := lw_g (lw_at lw_m4 144 rfl) rfl
theorem q948 : (Jvm.Cond.privateMethod ({ cls := "MergeWorkbench$Comparison$1", name := "endA", desc := "()I" } : Jvm.MethodName)) ∈ lw_tbl := lw_at lw_m4 145 rfl
theorem q949 : (Jvm.Cond.instanceMethod ({ cls := "MergeWorkbench$Comparison$1", name := "endA", desc := "()I" } : Jvm.MethodName)) ∈ lw_all := lw_g (lw_at lw_m4 146 rfl) rfl
theorem q950 : (Jvm.Cond.instantiable "MergeWorkbench$Comparison$1" (4 : Nat)) ∈ lw_all := lw_g (lw_at lw_m4 147 rfl) rfl
theorem q951 : (Jvm.Cond.code ({ cls := "MergeWorkbench$Comparison$1", name := "endA", desc := "()I" } : Jvm.MethodName) prog_7_method_2_code (1 : Nat) (Option.some Jvm.ClassFile.FieldType.int)) ∈ lw_all := lw_g (lw_at lw_m4 148 rfl) rfl
theorem q952 : (Jvm.Cond.interfaceEntry "MergeWorkbench$Comparison$1" (29 : Nat)) ∈ lw_tbl := lw_at lw_m4 149 rfl
theorem q953 : (Jvm.Cond.methodLink "MergeWorkbench$Comparison$1" (29 : Nat) ({ cls := "java/util/List", name := "get", desc := "(I)Ljava/lang/Object;" } : Jvm.MethodName)) ∈ lw_all := lw_g (lw_at lw_m4 150 rfl) rfl
theorem q985 : (Jvm.Cond.classLink "MergeWorkbench$Comparison$1" (33 : Nat) "MergeWorkbench$Match") ∈ lw_all := lw_g (lw_at lw_m4 182 rfl) rfl
theorem q986 : (Jvm.Cond.classLink "MergeWorkbench$Comparison$1" (54 : Nat) "java/lang/Integer") ∈ lw_all := lw_g (lw_at lw_m4 183 rfl) rfl
theorem q987 : (Jvm.Cond.methodLink "MergeWorkbench$Comparison$1" (56 : Nat) ({ cls := "java/lang/Integer", name := "intValue", desc := "()I" } : Jvm.MethodName)) ∈ lw_all := lw_g (lw_at lw_m4 184 rfl) rfl
theorem q991 : (Jvm.Cond.methodLink "MergeWorkbench$Comparison$1" (59 : Nat) ({ cls := "java/lang/Integer", name := "valueOf", desc := "(I)Ljava/lang/Integer;" } : Jvm.MethodName)) ∈ lw_all := lw_g (lw_at lw_m4 188 rfl) rfl
theorem q1011 : (Jvm.Cond.methodLink "MergeWorkbench$Comparison$1" (63 : Nat) ({ cls := "MergeWorkbench$Comparison$1", name := "endB", desc := "()I" } : Jvm.MethodName)) ∈ lw_all := lw_g (lw_at lw_m4 208 rfl) rfl
theorem q1012 : (Jvm.Cond.privateMethod ({ cls := "MergeWorkbench$Comparison$1", name := "endB", desc := "()I" } : Jvm.MethodName)) ∈ lw_tbl := lw_at lw_m4 209 rfl
theorem q1013 : (Jvm.Cond.instanceMethod ({ cls := "MergeWorkbench$Comparison$1", name := "endB", desc := "()I" } : Jvm.MethodName)) ∈ lw_all := lw_g (lw_at lw_m4 210 rfl) rfl
theorem q1014 : (Jvm.Cond.code ({ cls := "MergeWorkbench$Comparison$1", name := "endB", desc := "()I" } : Jvm.MethodName) prog_7_method_3_code (1 : Nat) (Option.some Jvm.ClassFile.FieldType.int)) ∈ lw_all := lw_g (lw_at lw_m4 211 rfl) rfl
theorem q1015 : (Jvm.Cond.classLink "MergeWorkbench$Comparison$1" (66 : Nat) "java/util/NoSuchElementException") ∈ lw_all := lw_g (lw_at lw_m4 212 rfl) rfl
theorem q1024 : (Jvm.Cond.methodLink "MergeWorkbench$Comparison$1" (68 : Nat) ({ cls := "java/util/NoSuchElementException", name := "<init>", desc := "()V" } : Jvm.MethodName)) ∈ lw_all := lw_g (lw_at lw_m4 221 rfl) rfl
theorem q1467 : (Jvm.Cond.selects "MergeWorkbench$Comparison$1" ({ cls := "java/lang/Object", name := "equals", desc := "(Ljava/lang/Object;)Z" } : Jvm.MethodName) ({ cls := "java/lang/Object", name := "equals", desc := "(Ljava/lang/Object;)Z" } : Jvm.MethodName)) ∈ lw_all := lw_g (lw_at lw_m6 184 rfl) rfl
theorem q1701 : (Jvm.Cond.fieldLinkNest "MergeWorkbench$Comparison$1" (35 : Nat) "MergeWorkbench$Match" "a" "I" "MergeWorkbench") ∈ lw_tbl := lw_at lw_m7 178 rfl
theorem q1705 : (Jvm.Cond.fieldLinkNest "MergeWorkbench$Comparison$1" (40 : Nat) "MergeWorkbench$Match" "b" "I" "MergeWorkbench") ∈ lw_tbl := lw_at lw_m7 182 rfl
theorem q2417 : (Jvm.Cond.fieldLinkNest "MergeWorkbench$Comparison$1" (38 : Nat) "MergeWorkbench$Comparison" "a" "Ljava/util/List;" "MergeWorkbench") ∈ lw_tbl := lw_at lw_m10 174 rfl
theorem q2423 : (Jvm.Cond.fieldLinkNest "MergeWorkbench$Comparison$1" (43 : Nat) "MergeWorkbench$Comparison" "b" "Ljava/util/List;" "MergeWorkbench") ∈ lw_tbl := lw_at lw_m10 180 rfl
theorem q2426 : (Jvm.Cond.fieldLinkNest "MergeWorkbench$Comparison$1" (17 : Nat) "MergeWorkbench$Comparison" "matches" "Ljava/util/List;" "MergeWorkbench") ∈ lw_tbl := lw_at lw_m10 183 rfl
theorem q2507 : (Jvm.Cond.instanceMethod ({ cls := "MergeWorkbench$Comparison$1", name := "<init>", desc := "(LMergeWorkbench$Comparison;)V" } : Jvm.MethodName)) ∈ lw_all := lw_g (lw_at lw_m11 24 rfl) rfl
theorem q2508 : (Jvm.Cond.code ({ cls := "MergeWorkbench$Comparison$1", name := "<init>", desc := "(LMergeWorkbench$Comparison;)V" } : Jvm.MethodName) prog_7_method_1_code (2 : Nat) (Option.none : Option Jvm.ClassFile.FieldType)) ∈ lw_all := lw_g (lw_at lw_m11 25 rfl) rfl
theorem q2509 : (Jvm.Cond.methodLink "MergeWorkbench$Comparison$1" (7 : Nat) ({ cls := "java/lang/Object", name := "<init>", desc := "()V" } : Jvm.MethodName)) ∈ lw_all := lw_g (lw_at lw_m11 26 rfl) rfl
theorem q2510 : (Jvm.Cond.fieldLink "MergeWorkbench$Comparison$1" (45 : Nat) "MergeWorkbench$Comparison$1" "atA" "I") ∈ lw_all := lw_g (lw_at lw_m11 27 rfl) rfl
theorem q2511 : (Jvm.Cond.fieldLink "MergeWorkbench$Comparison$1" (48 : Nat) "MergeWorkbench$Comparison$1" "atB" "I") ∈ lw_all := lw_g (lw_at lw_m11 28 rfl) rfl
theorem q2512 : (Jvm.Cond.fieldLink "MergeWorkbench$Comparison$1" (13 : Nat) "MergeWorkbench$Comparison$1" "match" "I") ∈ lw_all := lw_g (lw_at lw_m11 29 rfl) rfl
theorem q2513 : (Jvm.Cond.fieldLink "MergeWorkbench$Comparison$1" (1 : Nat) "MergeWorkbench$Comparison$1" "this$0" "LMergeWorkbench$Comparison;") ∈ lw_all := lw_g (lw_at lw_m11 30 rfl) rfl
theorem q2514 : (Jvm.Cond.lays "MergeWorkbench$Comparison$1" "MergeWorkbench$Comparison$1" "atA" "I") ∈ lw_all := lw_g (lw_at lw_m11 31 rfl) rfl
theorem q2515 : (Jvm.Cond.soleField "MergeWorkbench$Comparison$1" "atA") ∈ lw_all := lw_g (lw_at lw_m11 32 rfl) rfl
theorem q2516 : (Jvm.Cond.lays "MergeWorkbench$Comparison$1" "MergeWorkbench$Comparison$1" "atB" "I") ∈ lw_all := lw_g (lw_at lw_m11 33 rfl) rfl
theorem q2517 : (Jvm.Cond.soleField "MergeWorkbench$Comparison$1" "atB") ∈ lw_all := lw_g (lw_at lw_m11 34 rfl) rfl
theorem q2518 : (Jvm.Cond.lays "MergeWorkbench$Comparison$1" "MergeWorkbench$Comparison$1" "match" "I") ∈ lw_all := lw_g (lw_at lw_m11 35 rfl) rfl
theorem q2519 : (Jvm.Cond.soleField "MergeWorkbench$Comparison$1" "match") ∈ lw_all := lw_g (lw_at lw_m11 36 rfl) rfl
theorem q2520 : (Jvm.Cond.laysFinal "MergeWorkbench$Comparison$1" "MergeWorkbench$Comparison$1" "this$0" "LMergeWorkbench$Comparison;") ∈ lw_all := lw_g (lw_at lw_m11 37 rfl) rfl
theorem q2521 : (Jvm.Cond.soleField "MergeWorkbench$Comparison$1" "this$0") ∈ lw_all := lw_g (lw_at lw_m11 38 rfl) rfl
theorem q2522 : (Jvm.Cond.superclass "MergeWorkbench$Comparison$1" "java/lang/Object") ∈ lw_all := lw_g (lw_at lw_m11 39 rfl) rfl
theorem q3934 : (Jvm.Cond.castable "MergeWorkbench$Comparison$1" "java/lang/Object") ∈ lw_tbl := lw_at lw_m17 11 rfl
theorem in_X12 : ∀ w ∈ wsX120, w ∈ lw_all := lw_in wsX120 [2514, 2516, 2518, 2520] (by decide +kernel) (by decide +kernel)

/-! MergeWorkbench$Comparison$MoveFinder -/
set_option maxRecDepth 100000
def RX13 : String := "MergeWorkbench$Comparison$MoveFinder"
def TX13 : u_T := fun k => match k with
  | 0 => ("MergeWorkbench$Comparison$MoveFinder", "isFreeA", "[Z", true)
  | 1 => ("MergeWorkbench$Comparison$MoveFinder", "isFreeB", "[Z", true)
  | _ => ("MergeWorkbench$Comparison$MoveFinder", "this$0", "LMergeWorkbench$Comparison;", true)
def tyX13 : Nat → FieldType := fun k => match k with
  | 0 => .array .boolean
  | 1 => .array .boolean
  | _ => .object "MergeWorkbench$Comparison"
abbrev wsX130 : List Cond := u_ws RX13 TX13 3
theorem nmX13 : ∀ a, a < 3 → ∀ b, b < 3 → a ≠ b → (TX13 a).2.1 ≠ (TX13 b).2.1 := by decide +kernel
theorem tyX13_ok : ∀ k, k < 3 → parseFieldDescriptor (TX13 k).2.2.1 = some (tyX13 k) := by decide +kernel
abbrev cX13_init : ByteArray := prog_8_method_1_code
def yX13_init : MethodName := ⟨RX13, "<init>", "(LMergeWorkbench$Comparison;)V"⟩
def dkwX13_init_4 : List UInt8 := [180, 0, 32, 182, 0, 58, 167, 255, 213, 43, 180, 0, 65, 185, 0, 68, 1, 0, 177]
abbrev dktX13_init_4 : List UInt8 := dkwX13_init_4 ++ []
def dkwX13_init_3 : List UInt8 := [192, 0, 52, 78, 42, 45, 180, 0, 54, 42, 180, 0, 25, 182, 0, 58, 42, 45, 180, 0, 62, 42]
abbrev dktX13_init_3 : List UInt8 := dkwX13_init_3 ++ dktX13_init_4
def dkwX13_init_2 : List UInt8 := [180, 0, 35, 185, 0, 38, 1, 0, 77, 44, 185, 0, 42, 1, 0, 153, 0, 40, 44, 185, 0, 48, 1, 0]
abbrev dktX13_init_2 : List UInt8 := dkwX13_init_2 ++ dktX13_init_3
def dkwX13_init_1 : List UInt8 := [181, 0, 25, 42, 42, 180, 0, 1, 180, 0, 29, 185, 0, 19, 1, 0, 188, 4, 181, 0, 32, 43]
abbrev dktX13_init_1 : List UInt8 := dkwX13_init_1 ++ dktX13_init_2
def dkwX13_init_0 : List UInt8 := [42, 43, 181, 0, 1, 42, 183, 0, 7, 42, 42, 180, 0, 1, 180, 0, 13, 185, 0, 19, 1, 0, 188, 4]
abbrev dktX13_init_0 : List UInt8 := dkwX13_init_0 ++ dktX13_init_1
theorem dksX13_init_0 : cX13_init.data.toList.drop 0 = dktX13_init_0 := by decide +kernel
theorem dksX13_init_1 : cX13_init.data.toList.drop 24 = dktX13_init_1 := dk_seg dksX13_init_0 24 rfl rfl
theorem dksX13_init_2 : cX13_init.data.toList.drop 46 = dktX13_init_2 := dk_seg dksX13_init_1 22 rfl rfl
theorem dksX13_init_3 : cX13_init.data.toList.drop 70 = dktX13_init_3 := dk_seg dksX13_init_2 24 rfl rfl
theorem dksX13_init_4 : cX13_init.data.toList.drop 92 = dktX13_init_4 := dk_seg dksX13_init_3 22 rfl rfl
theorem dX13_init_0 : decode cX13_init 0 = .ok (.aload_n 0, 1) := dk_42 (dk_at dksX13_init_0 0 rfl rfl)
theorem dX13_init_1 : decode cX13_init 1 = .ok (.aload_n 1, 1) := dk_43 (dk_at dksX13_init_0 1 rfl rfl)
theorem dX13_init_2 : decode cX13_init 2 = .ok (.putfield 1, 3) := dk_181 0 1 (dk_at dksX13_init_0 2 rfl rfl)
theorem dX13_init_5 : decode cX13_init 5 = .ok (.aload_n 0, 1) := dk_42 (dk_at dksX13_init_0 5 rfl rfl)
theorem dX13_init_6 : decode cX13_init 6 = .ok (.invokespecial 7, 3) := dk_183 0 7 (dk_at dksX13_init_0 6 rfl rfl)
theorem dX13_init_9 : decode cX13_init 9 = .ok (.aload_n 0, 1) := dk_42 (dk_at dksX13_init_0 9 rfl rfl)
theorem dX13_init_10 : decode cX13_init 10 = .ok (.aload_n 0, 1) := dk_42 (dk_at dksX13_init_0 10 rfl rfl)
theorem dX13_init_11 : decode cX13_init 11 = .ok (.getfield 1, 3) := dk_180 0 1 (dk_at dksX13_init_0 11 rfl rfl)
theorem dX13_init_14 : decode cX13_init 14 = .ok (.getfield 13, 3) := dk_180 0 13 (dk_at dksX13_init_0 14 rfl rfl)
theorem dX13_init_17 : decode cX13_init 17 = .ok (.invokeinterface 19 1, 5) := by decide +kernel
theorem dX13_init_22 : decode cX13_init 22 = .ok (.newarray .boolean, 2) := dk_188_4 (dk_at dksX13_init_0 22 rfl rfl)
theorem dX13_init_24 : decode cX13_init 24 = .ok (.putfield 25, 3) := dk_181 0 25 (dk_at dksX13_init_1 0 rfl rfl)
theorem dX13_init_27 : decode cX13_init 27 = .ok (.aload_n 0, 1) := dk_42 (dk_at dksX13_init_1 3 rfl rfl)
theorem dX13_init_28 : decode cX13_init 28 = .ok (.aload_n 0, 1) := dk_42 (dk_at dksX13_init_1 4 rfl rfl)
theorem dX13_init_29 : decode cX13_init 29 = .ok (.getfield 1, 3) := dk_180 0 1 (dk_at dksX13_init_1 5 rfl rfl)
theorem dX13_init_32 : decode cX13_init 32 = .ok (.getfield 29, 3) := dk_180 0 29 (dk_at dksX13_init_1 8 rfl rfl)
theorem dX13_init_35 : decode cX13_init 35 = .ok (.invokeinterface 19 1, 5) := by decide +kernel
theorem dX13_init_40 : decode cX13_init 40 = .ok (.newarray .boolean, 2) := dk_188_4 (dk_at dksX13_init_1 16 rfl rfl)
theorem dX13_init_42 : decode cX13_init 42 = .ok (.putfield 32, 3) := dk_181 0 32 (dk_at dksX13_init_1 18 rfl rfl)
theorem dX13_init_45 : decode cX13_init 45 = .ok (.aload_n 1, 1) := dk_43 (dk_at dksX13_init_1 21 rfl rfl)
theorem dX13_init_46 : decode cX13_init 46 = .ok (.getfield 35, 3) := dk_180 0 35 (dk_at dksX13_init_2 0 rfl rfl)
theorem dX13_init_49 : decode cX13_init 49 = .ok (.invokeinterface 38 1, 5) := by decide +kernel
theorem dX13_init_54 : decode cX13_init 54 = .ok (.astore_n 2, 1) := dk_77 (dk_at dksX13_init_2 8 rfl rfl)
theorem dX13_init_55 : decode cX13_init 55 = .ok (.aload_n 2, 1) := dk_44 (dk_at dksX13_init_2 9 rfl rfl)
theorem dX13_init_56 : decode cX13_init 56 = .ok (.invokeinterface 42 1, 5) := by decide +kernel
theorem dX13_init_61 : decode cX13_init 61 = .ok (.ifCond .eq 40, 3) := dk_153 0 40 (dk_at dksX13_init_2 15 rfl rfl)
theorem dX13_init_64 : decode cX13_init 64 = .ok (.aload_n 2, 1) := dk_44 (dk_at dksX13_init_2 18 rfl rfl)
theorem dX13_init_65 : decode cX13_init 65 = .ok (.invokeinterface 48 1, 5) := by decide +kernel
theorem dX13_init_70 : decode cX13_init 70 = .ok (.checkcast 52, 3) := dk_192 0 52 (dk_at dksX13_init_3 0 rfl rfl)
theorem dX13_init_73 : decode cX13_init 73 = .ok (.astore_n 3, 1) := dk_78 (dk_at dksX13_init_3 3 rfl rfl)
theorem dX13_init_74 : decode cX13_init 74 = .ok (.aload_n 0, 1) := dk_42 (dk_at dksX13_init_3 4 rfl rfl)
theorem dX13_init_75 : decode cX13_init 75 = .ok (.aload_n 3, 1) := dk_45 (dk_at dksX13_init_3 5 rfl rfl)
theorem dX13_init_76 : decode cX13_init 76 = .ok (.getfield 54, 3) := dk_180 0 54 (dk_at dksX13_init_3 6 rfl rfl)
theorem dX13_init_79 : decode cX13_init 79 = .ok (.aload_n 0, 1) := dk_42 (dk_at dksX13_init_3 9 rfl rfl)
theorem dX13_init_80 : decode cX13_init 80 = .ok (.getfield 25, 3) := dk_180 0 25 (dk_at dksX13_init_3 10 rfl rfl)
theorem dX13_init_83 : decode cX13_init 83 = .ok (.invokevirtual 58, 3) := dk_182 0 58 (dk_at dksX13_init_3 13 rfl rfl)
theorem dX13_init_86 : decode cX13_init 86 = .ok (.aload_n 0, 1) := dk_42 (dk_at dksX13_init_3 16 rfl rfl)
theorem dX13_init_87 : decode cX13_init 87 = .ok (.aload_n 3, 1) := dk_45 (dk_at dksX13_init_3 17 rfl rfl)
theorem dX13_init_88 : decode cX13_init 88 = .ok (.getfield 62, 3) := dk_180 0 62 (dk_at dksX13_init_3 18 rfl rfl)
theorem dX13_init_91 : decode cX13_init 91 = .ok (.aload_n 0, 1) := dk_42 (dk_at dksX13_init_3 21 rfl rfl)
theorem dX13_init_92 : decode cX13_init 92 = .ok (.getfield 32, 3) := dk_180 0 32 (dk_at dksX13_init_4 0 rfl rfl)
theorem dX13_init_95 : decode cX13_init 95 = .ok (.invokevirtual 58, 3) := dk_182 0 58 (dk_at dksX13_init_4 3 rfl rfl)
theorem dX13_init_98 : decode cX13_init 98 = .ok (.goto (-43), 3) := dk_167 255 213 (dk_at dksX13_init_4 6 rfl rfl)
theorem dX13_init_101 : decode cX13_init 101 = .ok (.aload_n 1, 1) := dk_43 (dk_at dksX13_init_4 9 rfl rfl)
theorem dX13_init_102 : decode cX13_init 102 = .ok (.getfield 65, 3) := dk_180 0 65 (dk_at dksX13_init_4 10 rfl rfl)
theorem dX13_init_105 : decode cX13_init 105 = .ok (.invokeinterface 68 1, 5) := by decide +kernel
theorem dX13_init_110 : decode cX13_init 110 = .ok (.return_, 1) := dk_177 (dk_at dksX13_init_4 18 rfl rfl)
abbrev cX13_free : ByteArray := prog_8_method_2_code
def yX13_free : MethodName := ⟨RX13, "free", "(LMergeWorkbench$Part;[Z)V"⟩
def dkwX13_free_0 : List UInt8 := [43, 180, 0, 71, 62, 29, 43, 180, 0, 77, 162, 0, 13, 44, 29, 4, 84, 132, 3, 1, 167, 255, 241, 177]
abbrev dktX13_free_0 : List UInt8 := dkwX13_free_0 ++ []
theorem dksX13_free_0 : cX13_free.data.toList.drop 0 = dktX13_free_0 := by decide +kernel
theorem dX13_free_0 : decode cX13_free 0 = .ok (.aload_n 1, 1) := dk_43 (dk_at dksX13_free_0 0 rfl rfl)
theorem dX13_free_1 : decode cX13_free 1 = .ok (.getfield 71, 3) := dk_180 0 71 (dk_at dksX13_free_0 1 rfl rfl)
theorem dX13_free_4 : decode cX13_free 4 = .ok (.istore_n 3, 1) := dk_62 (dk_at dksX13_free_0 4 rfl rfl)
theorem dX13_free_5 : decode cX13_free 5 = .ok (.iload_n 3, 1) := dk_29 (dk_at dksX13_free_0 5 rfl rfl)
theorem dX13_free_6 : decode cX13_free 6 = .ok (.aload_n 1, 1) := dk_43 (dk_at dksX13_free_0 6 rfl rfl)
theorem dX13_free_7 : decode cX13_free 7 = .ok (.getfield 77, 3) := dk_180 0 77 (dk_at dksX13_free_0 7 rfl rfl)
theorem dX13_free_10 : decode cX13_free 10 = .ok (.if_icmp .ge 13, 3) := dk_162 0 13 (dk_at dksX13_free_0 10 rfl rfl)
theorem dX13_free_13 : decode cX13_free 13 = .ok (.aload_n 2, 1) := dk_44 (dk_at dksX13_free_0 13 rfl rfl)
theorem dX13_free_14 : decode cX13_free 14 = .ok (.iload_n 3, 1) := dk_29 (dk_at dksX13_free_0 14 rfl rfl)
theorem dX13_free_15 : decode cX13_free 15 = .ok (.iconst 1, 1) := dk_4 (dk_at dksX13_free_0 15 rfl rfl)
theorem dX13_free_16 : decode cX13_free 16 = .ok (.bastore, 1) := dk_84 (dk_at dksX13_free_0 16 rfl rfl)
theorem dX13_free_17 : decode cX13_free 17 = .ok (.iinc 3 1, 3) := dk_132 3 1 (dk_at dksX13_free_0 17 rfl rfl)
theorem dX13_free_20 : decode cX13_free 20 = .ok (.goto (-15), 3) := dk_167 255 241 (dk_at dksX13_free_0 20 rfl rfl)
theorem dX13_free_23 : decode cX13_free 23 = .ok (.return_, 1) := dk_177 (dk_at dksX13_free_0 23 rfl rfl)
abbrev cX13_find : ByteArray := prog_8_method_6_code
def yX13_find : MethodName := ⟨RX13, "find", "(I)V"⟩
def dkwX13_find_3 : List UInt8 := [21, 4, 96, 3, 84, 132, 4, 1, 167, 255, 218, 42, 27, 182, 0, 114, 77, 167, 255, 177, 177]
abbrev dktX13_find_3 : List UInt8 := dkwX13_find_3 ++ []
def dkwX13_find_2 : List UInt8 := [162, 0, 35, 42, 180, 0, 25, 45, 180, 0, 128, 21, 4, 96, 3, 84, 42, 180, 0, 32, 45, 180, 0, 130]
abbrev dktX13_find_2 : List UInt8 := dkwX13_find_2 ++ dktX13_find_3
def dkwX13_find_1 : List UInt8 := [180, 0, 1, 180, 0, 65, 45, 185, 0, 124, 2, 0, 87, 3, 54, 4, 21, 4, 45, 180, 0, 125]
abbrev dktX13_find_1 : List UInt8 := dkwX13_find_1 ++ dktX13_find_2
def dkwX13_find_0 : List UInt8 := [42, 27, 182, 0, 114, 77, 44, 182, 0, 118, 154, 0, 78, 44, 182, 0, 121, 192, 0, 106, 78, 42]
abbrev dktX13_find_0 : List UInt8 := dkwX13_find_0 ++ dktX13_find_1
theorem dksX13_find_0 : cX13_find.data.toList.drop 0 = dktX13_find_0 := by decide +kernel
theorem dksX13_find_1 : cX13_find.data.toList.drop 22 = dktX13_find_1 := dk_seg dksX13_find_0 22 rfl rfl
theorem dksX13_find_2 : cX13_find.data.toList.drop 44 = dktX13_find_2 := dk_seg dksX13_find_1 22 rfl rfl
theorem dksX13_find_3 : cX13_find.data.toList.drop 68 = dktX13_find_3 := dk_seg dksX13_find_2 24 rfl rfl
theorem dX13_find_0 : decode cX13_find 0 = .ok (.aload_n 0, 1) := dk_42 (dk_at dksX13_find_0 0 rfl rfl)
theorem dX13_find_1 : decode cX13_find 1 = .ok (.iload_n 1, 1) := dk_27 (dk_at dksX13_find_0 1 rfl rfl)
theorem dX13_find_2 : decode cX13_find 2 = .ok (.invokevirtual 114, 3) := dk_182 0 114 (dk_at dksX13_find_0 2 rfl rfl)
theorem dX13_find_5 : decode cX13_find 5 = .ok (.astore_n 2, 1) := dk_77 (dk_at dksX13_find_0 5 rfl rfl)
theorem dX13_find_6 : decode cX13_find 6 = .ok (.aload_n 2, 1) := dk_44 (dk_at dksX13_find_0 6 rfl rfl)
theorem dX13_find_7 : decode cX13_find 7 = .ok (.invokevirtual 118, 3) := dk_182 0 118 (dk_at dksX13_find_0 7 rfl rfl)
theorem dX13_find_10 : decode cX13_find 10 = .ok (.ifCond .ne 78, 3) := dk_154 0 78 (dk_at dksX13_find_0 10 rfl rfl)
theorem dX13_find_13 : decode cX13_find 13 = .ok (.aload_n 2, 1) := dk_44 (dk_at dksX13_find_0 13 rfl rfl)
theorem dX13_find_14 : decode cX13_find 14 = .ok (.invokevirtual 121, 3) := dk_182 0 121 (dk_at dksX13_find_0 14 rfl rfl)
theorem dX13_find_17 : decode cX13_find 17 = .ok (.checkcast 106, 3) := dk_192 0 106 (dk_at dksX13_find_0 17 rfl rfl)
theorem dX13_find_20 : decode cX13_find 20 = .ok (.astore_n 3, 1) := dk_78 (dk_at dksX13_find_0 20 rfl rfl)
theorem dX13_find_21 : decode cX13_find 21 = .ok (.aload_n 0, 1) := dk_42 (dk_at dksX13_find_0 21 rfl rfl)
theorem dX13_find_22 : decode cX13_find 22 = .ok (.getfield 1, 3) := dk_180 0 1 (dk_at dksX13_find_1 0 rfl rfl)
theorem dX13_find_25 : decode cX13_find 25 = .ok (.getfield 65, 3) := dk_180 0 65 (dk_at dksX13_find_1 3 rfl rfl)
theorem dX13_find_28 : decode cX13_find 28 = .ok (.aload_n 3, 1) := dk_45 (dk_at dksX13_find_1 6 rfl rfl)
theorem dX13_find_29 : decode cX13_find 29 = .ok (.invokeinterface 124 2, 5) := by decide +kernel
theorem dX13_find_34 : decode cX13_find 34 = .ok (.pop, 1) := dk_87 (dk_at dksX13_find_1 12 rfl rfl)
theorem dX13_find_35 : decode cX13_find 35 = .ok (.iconst 0, 1) := dk_3 (dk_at dksX13_find_1 13 rfl rfl)
theorem dX13_find_36 : decode cX13_find 36 = .ok (.istore 4, 2) := dk_54 4 (dk_at dksX13_find_1 14 rfl rfl)
theorem dX13_find_38 : decode cX13_find 38 = .ok (.iload 4, 2) := dk_21 4 (dk_at dksX13_find_1 16 rfl rfl)
theorem dX13_find_40 : decode cX13_find 40 = .ok (.aload_n 3, 1) := dk_45 (dk_at dksX13_find_1 18 rfl rfl)
theorem dX13_find_41 : decode cX13_find 41 = .ok (.getfield 125, 3) := dk_180 0 125 (dk_at dksX13_find_1 19 rfl rfl)
theorem dX13_find_44 : decode cX13_find 44 = .ok (.if_icmp .ge 35, 3) := dk_162 0 35 (dk_at dksX13_find_2 0 rfl rfl)
theorem dX13_find_47 : decode cX13_find 47 = .ok (.aload_n 0, 1) := dk_42 (dk_at dksX13_find_2 3 rfl rfl)
theorem dX13_find_48 : decode cX13_find 48 = .ok (.getfield 25, 3) := dk_180 0 25 (dk_at dksX13_find_2 4 rfl rfl)
theorem dX13_find_51 : decode cX13_find 51 = .ok (.aload_n 3, 1) := dk_45 (dk_at dksX13_find_2 7 rfl rfl)
theorem dX13_find_52 : decode cX13_find 52 = .ok (.getfield 128, 3) := dk_180 0 128 (dk_at dksX13_find_2 8 rfl rfl)
theorem dX13_find_55 : decode cX13_find 55 = .ok (.iload 4, 2) := dk_21 4 (dk_at dksX13_find_2 11 rfl rfl)
theorem dX13_find_57 : decode cX13_find 57 = .ok (.iadd, 1) := dk_96 (dk_at dksX13_find_2 13 rfl rfl)
theorem dX13_find_58 : decode cX13_find 58 = .ok (.iconst 0, 1) := dk_3 (dk_at dksX13_find_2 14 rfl rfl)
theorem dX13_find_59 : decode cX13_find 59 = .ok (.bastore, 1) := dk_84 (dk_at dksX13_find_2 15 rfl rfl)
theorem dX13_find_60 : decode cX13_find 60 = .ok (.aload_n 0, 1) := dk_42 (dk_at dksX13_find_2 16 rfl rfl)
theorem dX13_find_61 : decode cX13_find 61 = .ok (.getfield 32, 3) := dk_180 0 32 (dk_at dksX13_find_2 17 rfl rfl)
theorem dX13_find_64 : decode cX13_find 64 = .ok (.aload_n 3, 1) := dk_45 (dk_at dksX13_find_2 20 rfl rfl)
theorem dX13_find_65 : decode cX13_find 65 = .ok (.getfield 130, 3) := dk_180 0 130 (dk_at dksX13_find_2 21 rfl rfl)
theorem dX13_find_68 : decode cX13_find 68 = .ok (.iload 4, 2) := dk_21 4 (dk_at dksX13_find_3 0 rfl rfl)
theorem dX13_find_70 : decode cX13_find 70 = .ok (.iadd, 1) := dk_96 (dk_at dksX13_find_3 2 rfl rfl)
theorem dX13_find_71 : decode cX13_find 71 = .ok (.iconst 0, 1) := dk_3 (dk_at dksX13_find_3 3 rfl rfl)
theorem dX13_find_72 : decode cX13_find 72 = .ok (.bastore, 1) := dk_84 (dk_at dksX13_find_3 4 rfl rfl)
theorem dX13_find_73 : decode cX13_find 73 = .ok (.iinc 4 1, 3) := dk_132 4 1 (dk_at dksX13_find_3 5 rfl rfl)
theorem dX13_find_76 : decode cX13_find 76 = .ok (.goto (-38), 3) := dk_167 255 218 (dk_at dksX13_find_3 8 rfl rfl)
theorem dX13_find_79 : decode cX13_find 79 = .ok (.aload_n 0, 1) := dk_42 (dk_at dksX13_find_3 11 rfl rfl)
theorem dX13_find_80 : decode cX13_find 80 = .ok (.iload_n 1, 1) := dk_27 (dk_at dksX13_find_3 12 rfl rfl)
theorem dX13_find_81 : decode cX13_find 81 = .ok (.invokevirtual 114, 3) := dk_182 0 114 (dk_at dksX13_find_3 13 rfl rfl)
theorem dX13_find_84 : decode cX13_find 84 = .ok (.astore_n 2, 1) := dk_77 (dk_at dksX13_find_3 16 rfl rfl)
theorem dX13_find_85 : decode cX13_find 85 = .ok (.goto (-79), 3) := dk_167 255 177 (dk_at dksX13_find_3 17 rfl rfl)
theorem dX13_find_88 : decode cX13_find 88 = .ok (.return_, 1) := dk_177 (dk_at dksX13_find_3 20 rfl rfl)
abbrev cX13_possible : ByteArray := prog_8_method_5_code
def yX13_possible : MethodName := ⟨RX13, "possible", "(I)Ljava/util/PriorityQueue;"⟩
def dkwX13_possible_4 : List UInt8 := [182, 0, 111, 87, 132, 4, 1, 167, 255, 194, 132, 3, 1, 167, 255, 169, 44, 176]
abbrev dktX13_possible_4 : List UInt8 := dkwX13_possible_4 ++ []
def dkwX13_possible_3 : List UInt8 := [29, 21, 4, 182, 0, 102, 154, 0, 20, 44, 187, 0, 106, 89, 29, 21, 4, 21, 5, 183, 0, 108]
abbrev dktX13_possible_3 : List UInt8 := dkwX13_possible_3 ++ dktX13_possible_4
def dkwX13_possible_2 : List UInt8 := [185, 0, 19, 1, 0, 162, 0, 51, 42, 29, 21, 4, 182, 0, 90, 54, 5, 21, 5, 27, 161, 0, 30, 42]
abbrev dktX13_possible_2 : List UInt8 := dkwX13_possible_2 ++ dktX13_possible_3
def dkwX13_possible_1 : List UInt8 := [180, 0, 13, 185, 0, 19, 1, 0, 162, 0, 77, 3, 54, 4, 21, 4, 42, 180, 0, 1, 180, 0, 29]
abbrev dktX13_possible_1 : List UInt8 := dkwX13_possible_1 ++ dktX13_possible_2
def dkwX13_possible_0 : List UInt8 := [187, 0, 94, 89, 187, 0, 96, 89, 183, 0, 98, 183, 0, 99, 77, 3, 62, 29, 42, 180, 0, 1]
abbrev dktX13_possible_0 : List UInt8 := dkwX13_possible_0 ++ dktX13_possible_1
theorem dksX13_possible_0 : cX13_possible.data.toList.drop 0 = dktX13_possible_0 := by decide +kernel
theorem dksX13_possible_1 : cX13_possible.data.toList.drop 22 = dktX13_possible_1 := dk_seg dksX13_possible_0 22 rfl rfl
theorem dksX13_possible_2 : cX13_possible.data.toList.drop 45 = dktX13_possible_2 := dk_seg dksX13_possible_1 23 rfl rfl
theorem dksX13_possible_3 : cX13_possible.data.toList.drop 69 = dktX13_possible_3 := dk_seg dksX13_possible_2 24 rfl rfl
theorem dksX13_possible_4 : cX13_possible.data.toList.drop 91 = dktX13_possible_4 := dk_seg dksX13_possible_3 22 rfl rfl
theorem dX13_possible_0 : decode cX13_possible 0 = .ok (.new 94, 3) := dk_187 0 94 (dk_at dksX13_possible_0 0 rfl rfl)
theorem dX13_possible_3 : decode cX13_possible 3 = .ok (.dup, 1) := dk_89 (dk_at dksX13_possible_0 3 rfl rfl)
theorem dX13_possible_4 : decode cX13_possible 4 = .ok (.new 96, 3) := dk_187 0 96 (dk_at dksX13_possible_0 4 rfl rfl)
theorem dX13_possible_7 : decode cX13_possible 7 = .ok (.dup, 1) := dk_89 (dk_at dksX13_possible_0 7 rfl rfl)
theorem dX13_possible_8 : decode cX13_possible 8 = .ok (.invokespecial 98, 3) := dk_183 0 98 (dk_at dksX13_possible_0 8 rfl rfl)
theorem dX13_possible_11 : decode cX13_possible 11 = .ok (.invokespecial 99, 3) := dk_183 0 99 (dk_at dksX13_possible_0 11 rfl rfl)
theorem dX13_possible_14 : decode cX13_possible 14 = .ok (.astore_n 2, 1) := dk_77 (dk_at dksX13_possible_0 14 rfl rfl)
theorem dX13_possible_15 : decode cX13_possible 15 = .ok (.iconst 0, 1) := dk_3 (dk_at dksX13_possible_0 15 rfl rfl)
theorem dX13_possible_16 : decode cX13_possible 16 = .ok (.istore_n 3, 1) := dk_62 (dk_at dksX13_possible_0 16 rfl rfl)
theorem dX13_possible_17 : decode cX13_possible 17 = .ok (.iload_n 3, 1) := dk_29 (dk_at dksX13_possible_0 17 rfl rfl)
theorem dX13_possible_18 : decode cX13_possible 18 = .ok (.aload_n 0, 1) := dk_42 (dk_at dksX13_possible_0 18 rfl rfl)
theorem dX13_possible_19 : decode cX13_possible 19 = .ok (.getfield 1, 3) := dk_180 0 1 (dk_at dksX13_possible_0 19 rfl rfl)
theorem dX13_possible_22 : decode cX13_possible 22 = .ok (.getfield 13, 3) := dk_180 0 13 (dk_at dksX13_possible_1 0 rfl rfl)
theorem dX13_possible_25 : decode cX13_possible 25 = .ok (.invokeinterface 19 1, 5) := by decide +kernel
theorem dX13_possible_30 : decode cX13_possible 30 = .ok (.if_icmp .ge 77, 3) := dk_162 0 77 (dk_at dksX13_possible_1 8 rfl rfl)
theorem dX13_possible_33 : decode cX13_possible 33 = .ok (.iconst 0, 1) := dk_3 (dk_at dksX13_possible_1 11 rfl rfl)
theorem dX13_possible_34 : decode cX13_possible 34 = .ok (.istore 4, 2) := dk_54 4 (dk_at dksX13_possible_1 12 rfl rfl)
theorem dX13_possible_36 : decode cX13_possible 36 = .ok (.iload 4, 2) := dk_21 4 (dk_at dksX13_possible_1 14 rfl rfl)
theorem dX13_possible_38 : decode cX13_possible 38 = .ok (.aload_n 0, 1) := dk_42 (dk_at dksX13_possible_1 16 rfl rfl)
theorem dX13_possible_39 : decode cX13_possible 39 = .ok (.getfield 1, 3) := dk_180 0 1 (dk_at dksX13_possible_1 17 rfl rfl)
theorem dX13_possible_42 : decode cX13_possible 42 = .ok (.getfield 29, 3) := dk_180 0 29 (dk_at dksX13_possible_1 20 rfl rfl)
theorem dX13_possible_45 : decode cX13_possible 45 = .ok (.invokeinterface 19 1, 5) := by decide +kernel
theorem dX13_possible_50 : decode cX13_possible 50 = .ok (.if_icmp .ge 51, 3) := dk_162 0 51 (dk_at dksX13_possible_2 5 rfl rfl)
theorem dX13_possible_53 : decode cX13_possible 53 = .ok (.aload_n 0, 1) := dk_42 (dk_at dksX13_possible_2 8 rfl rfl)
theorem dX13_possible_54 : decode cX13_possible 54 = .ok (.iload_n 3, 1) := dk_29 (dk_at dksX13_possible_2 9 rfl rfl)
theorem dX13_possible_55 : decode cX13_possible 55 = .ok (.iload 4, 2) := dk_21 4 (dk_at dksX13_possible_2 10 rfl rfl)
theorem dX13_possible_57 : decode cX13_possible 57 = .ok (.invokevirtual 90, 3) := dk_182 0 90 (dk_at dksX13_possible_2 12 rfl rfl)
theorem dX13_possible_60 : decode cX13_possible 60 = .ok (.istore 5, 2) := dk_54 5 (dk_at dksX13_possible_2 15 rfl rfl)
theorem dX13_possible_62 : decode cX13_possible 62 = .ok (.iload 5, 2) := dk_21 5 (dk_at dksX13_possible_2 17 rfl rfl)
theorem dX13_possible_64 : decode cX13_possible 64 = .ok (.iload_n 1, 1) := dk_27 (dk_at dksX13_possible_2 19 rfl rfl)
theorem dX13_possible_65 : decode cX13_possible 65 = .ok (.if_icmp .lt 30, 3) := dk_161 0 30 (dk_at dksX13_possible_2 20 rfl rfl)
theorem dX13_possible_68 : decode cX13_possible 68 = .ok (.aload_n 0, 1) := dk_42 (dk_at dksX13_possible_2 23 rfl rfl)
theorem dX13_possible_69 : decode cX13_possible 69 = .ok (.iload_n 3, 1) := dk_29 (dk_at dksX13_possible_3 0 rfl rfl)
theorem dX13_possible_70 : decode cX13_possible 70 = .ok (.iload 4, 2) := dk_21 4 (dk_at dksX13_possible_3 1 rfl rfl)
theorem dX13_possible_72 : decode cX13_possible 72 = .ok (.invokevirtual 102, 3) := dk_182 0 102 (dk_at dksX13_possible_3 3 rfl rfl)
theorem dX13_possible_75 : decode cX13_possible 75 = .ok (.ifCond .ne 20, 3) := dk_154 0 20 (dk_at dksX13_possible_3 6 rfl rfl)
theorem dX13_possible_78 : decode cX13_possible 78 = .ok (.aload_n 2, 1) := dk_44 (dk_at dksX13_possible_3 9 rfl rfl)
theorem dX13_possible_79 : decode cX13_possible 79 = .ok (.new 106, 3) := dk_187 0 106 (dk_at dksX13_possible_3 10 rfl rfl)
theorem dX13_possible_82 : decode cX13_possible 82 = .ok (.dup, 1) := dk_89 (dk_at dksX13_possible_3 13 rfl rfl)
theorem dX13_possible_83 : decode cX13_possible 83 = .ok (.iload_n 3, 1) := dk_29 (dk_at dksX13_possible_3 14 rfl rfl)
theorem dX13_possible_84 : decode cX13_possible 84 = .ok (.iload 4, 2) := dk_21 4 (dk_at dksX13_possible_3 15 rfl rfl)
theorem dX13_possible_86 : decode cX13_possible 86 = .ok (.iload 5, 2) := dk_21 5 (dk_at dksX13_possible_3 17 rfl rfl)
theorem dX13_possible_88 : decode cX13_possible 88 = .ok (.invokespecial 108, 3) := dk_183 0 108 (dk_at dksX13_possible_3 19 rfl rfl)
theorem dX13_possible_91 : decode cX13_possible 91 = .ok (.invokevirtual 111, 3) := dk_182 0 111 (dk_at dksX13_possible_4 0 rfl rfl)
theorem dX13_possible_94 : decode cX13_possible 94 = .ok (.pop, 1) := dk_87 (dk_at dksX13_possible_4 3 rfl rfl)
theorem dX13_possible_95 : decode cX13_possible 95 = .ok (.iinc 4 1, 3) := dk_132 4 1 (dk_at dksX13_possible_4 4 rfl rfl)
theorem dX13_possible_98 : decode cX13_possible 98 = .ok (.goto (-62), 3) := dk_167 255 194 (dk_at dksX13_possible_4 7 rfl rfl)
theorem dX13_possible_101 : decode cX13_possible 101 = .ok (.iinc 3 1, 3) := dk_132 3 1 (dk_at dksX13_possible_4 10 rfl rfl)
theorem dX13_possible_104 : decode cX13_possible 104 = .ok (.goto (-87), 3) := dk_167 255 169 (dk_at dksX13_possible_4 13 rfl rfl)
theorem dX13_possible_107 : decode cX13_possible 107 = .ok (.aload_n 2, 1) := dk_44 (dk_at dksX13_possible_4 16 rfl rfl)
theorem dX13_possible_108 : decode cX13_possible 108 = .ok (.areturn, 1) := dk_176 (dk_at dksX13_possible_4 17 rfl rfl)
abbrev cX13_lengthAt : ByteArray := prog_8_method_3_code
def yX13_lengthAt : MethodName := ⟨RX13, "lengthAt", "(II)I"⟩
def dkwX13_lengthAt_4 : List UInt8 := [182, 0, 86, 153, 0, 9, 132, 3, 1, 167, 255, 156, 29, 172]
abbrev dktX13_lengthAt_4 : List UInt8 := dkwX13_lengthAt_4 ++ []
def dkwX13_lengthAt_3 : List UInt8 := [185, 0, 80, 2, 0, 192, 0, 84, 42, 180, 0, 1, 180, 0, 29, 28, 29, 96, 185, 0, 80, 2, 0]
abbrev dktX13_lengthAt_3 : List UInt8 := dkwX13_lengthAt_3 ++ dktX13_lengthAt_4
def dkwX13_lengthAt_2 : List UInt8 := [153, 0, 59, 42, 180, 0, 32, 28, 29, 96, 51, 153, 0, 48, 42, 180, 0, 1, 180, 0, 13, 27, 29, 96]
abbrev dktX13_lengthAt_2 : List UInt8 := dkwX13_lengthAt_2 ++ dktX13_lengthAt_3
def dkwX13_lengthAt_1 : List UInt8 := [180, 0, 1, 180, 0, 29, 185, 0, 19, 1, 0, 162, 0, 70, 42, 180, 0, 25, 27, 29, 96, 51]
abbrev dktX13_lengthAt_1 : List UInt8 := dkwX13_lengthAt_1 ++ dktX13_lengthAt_2
def dkwX13_lengthAt_0 : List UInt8 := [3, 62, 27, 29, 96, 42, 180, 0, 1, 180, 0, 13, 185, 0, 19, 1, 0, 162, 0, 88, 28, 29, 96, 42]
abbrev dktX13_lengthAt_0 : List UInt8 := dkwX13_lengthAt_0 ++ dktX13_lengthAt_1
theorem dksX13_lengthAt_0 : cX13_lengthAt.data.toList.drop 0 = dktX13_lengthAt_0 := by decide +kernel
theorem dksX13_lengthAt_1 : cX13_lengthAt.data.toList.drop 24 = dktX13_lengthAt_1 := dk_seg dksX13_lengthAt_0 24 rfl rfl
theorem dksX13_lengthAt_2 : cX13_lengthAt.data.toList.drop 46 = dktX13_lengthAt_2 := dk_seg dksX13_lengthAt_1 22 rfl rfl
theorem dksX13_lengthAt_3 : cX13_lengthAt.data.toList.drop 70 = dktX13_lengthAt_3 := dk_seg dksX13_lengthAt_2 24 rfl rfl
theorem dksX13_lengthAt_4 : cX13_lengthAt.data.toList.drop 93 = dktX13_lengthAt_4 := dk_seg dksX13_lengthAt_3 23 rfl rfl
theorem dX13_lengthAt_0 : decode cX13_lengthAt 0 = .ok (.iconst 0, 1) := dk_3 (dk_at dksX13_lengthAt_0 0 rfl rfl)
theorem dX13_lengthAt_1 : decode cX13_lengthAt 1 = .ok (.istore_n 3, 1) := dk_62 (dk_at dksX13_lengthAt_0 1 rfl rfl)
theorem dX13_lengthAt_2 : decode cX13_lengthAt 2 = .ok (.iload_n 1, 1) := dk_27 (dk_at dksX13_lengthAt_0 2 rfl rfl)
theorem dX13_lengthAt_3 : decode cX13_lengthAt 3 = .ok (.iload_n 3, 1) := dk_29 (dk_at dksX13_lengthAt_0 3 rfl rfl)
theorem dX13_lengthAt_4 : decode cX13_lengthAt 4 = .ok (.iadd, 1) := dk_96 (dk_at dksX13_lengthAt_0 4 rfl rfl)
theorem dX13_lengthAt_5 : decode cX13_lengthAt 5 = .ok (.aload_n 0, 1) := dk_42 (dk_at dksX13_lengthAt_0 5 rfl rfl)
theorem dX13_lengthAt_6 : decode cX13_lengthAt 6 = .ok (.getfield 1, 3) := dk_180 0 1 (dk_at dksX13_lengthAt_0 6 rfl rfl)
theorem dX13_lengthAt_9 : decode cX13_lengthAt 9 = .ok (.getfield 13, 3) := dk_180 0 13 (dk_at dksX13_lengthAt_0 9 rfl rfl)
theorem dX13_lengthAt_12 : decode cX13_lengthAt 12 = .ok (.invokeinterface 19 1, 5) := by decide +kernel
theorem dX13_lengthAt_17 : decode cX13_lengthAt 17 = .ok (.if_icmp .ge 88, 3) := dk_162 0 88 (dk_at dksX13_lengthAt_0 17 rfl rfl)
theorem dX13_lengthAt_20 : decode cX13_lengthAt 20 = .ok (.iload_n 2, 1) := dk_28 (dk_at dksX13_lengthAt_0 20 rfl rfl)
theorem dX13_lengthAt_21 : decode cX13_lengthAt 21 = .ok (.iload_n 3, 1) := dk_29 (dk_at dksX13_lengthAt_0 21 rfl rfl)
theorem dX13_lengthAt_22 : decode cX13_lengthAt 22 = .ok (.iadd, 1) := dk_96 (dk_at dksX13_lengthAt_0 22 rfl rfl)
theorem dX13_lengthAt_23 : decode cX13_lengthAt 23 = .ok (.aload_n 0, 1) := dk_42 (dk_at dksX13_lengthAt_0 23 rfl rfl)
theorem dX13_lengthAt_24 : decode cX13_lengthAt 24 = .ok (.getfield 1, 3) := dk_180 0 1 (dk_at dksX13_lengthAt_1 0 rfl rfl)
theorem dX13_lengthAt_27 : decode cX13_lengthAt 27 = .ok (.getfield 29, 3) := dk_180 0 29 (dk_at dksX13_lengthAt_1 3 rfl rfl)
theorem dX13_lengthAt_30 : decode cX13_lengthAt 30 = .ok (.invokeinterface 19 1, 5) := by decide +kernel
theorem dX13_lengthAt_35 : decode cX13_lengthAt 35 = .ok (.if_icmp .ge 70, 3) := dk_162 0 70 (dk_at dksX13_lengthAt_1 11 rfl rfl)
theorem dX13_lengthAt_38 : decode cX13_lengthAt 38 = .ok (.aload_n 0, 1) := dk_42 (dk_at dksX13_lengthAt_1 14 rfl rfl)
theorem dX13_lengthAt_39 : decode cX13_lengthAt 39 = .ok (.getfield 25, 3) := dk_180 0 25 (dk_at dksX13_lengthAt_1 15 rfl rfl)
theorem dX13_lengthAt_42 : decode cX13_lengthAt 42 = .ok (.iload_n 1, 1) := dk_27 (dk_at dksX13_lengthAt_1 18 rfl rfl)
theorem dX13_lengthAt_43 : decode cX13_lengthAt 43 = .ok (.iload_n 3, 1) := dk_29 (dk_at dksX13_lengthAt_1 19 rfl rfl)
theorem dX13_lengthAt_44 : decode cX13_lengthAt 44 = .ok (.iadd, 1) := dk_96 (dk_at dksX13_lengthAt_1 20 rfl rfl)
theorem dX13_lengthAt_45 : decode cX13_lengthAt 45 = .ok (.baload, 1) := dk_51 (dk_at dksX13_lengthAt_1 21 rfl rfl)
theorem dX13_lengthAt_46 : decode cX13_lengthAt 46 = .ok (.ifCond .eq 59, 3) := dk_153 0 59 (dk_at dksX13_lengthAt_2 0 rfl rfl)
theorem dX13_lengthAt_49 : decode cX13_lengthAt 49 = .ok (.aload_n 0, 1) := dk_42 (dk_at dksX13_lengthAt_2 3 rfl rfl)
theorem dX13_lengthAt_50 : decode cX13_lengthAt 50 = .ok (.getfield 32, 3) := dk_180 0 32 (dk_at dksX13_lengthAt_2 4 rfl rfl)
theorem dX13_lengthAt_53 : decode cX13_lengthAt 53 = .ok (.iload_n 2, 1) := dk_28 (dk_at dksX13_lengthAt_2 7 rfl rfl)
theorem dX13_lengthAt_54 : decode cX13_lengthAt 54 = .ok (.iload_n 3, 1) := dk_29 (dk_at dksX13_lengthAt_2 8 rfl rfl)
theorem dX13_lengthAt_55 : decode cX13_lengthAt 55 = .ok (.iadd, 1) := dk_96 (dk_at dksX13_lengthAt_2 9 rfl rfl)
theorem dX13_lengthAt_56 : decode cX13_lengthAt 56 = .ok (.baload, 1) := dk_51 (dk_at dksX13_lengthAt_2 10 rfl rfl)
theorem dX13_lengthAt_57 : decode cX13_lengthAt 57 = .ok (.ifCond .eq 48, 3) := dk_153 0 48 (dk_at dksX13_lengthAt_2 11 rfl rfl)
theorem dX13_lengthAt_60 : decode cX13_lengthAt 60 = .ok (.aload_n 0, 1) := dk_42 (dk_at dksX13_lengthAt_2 14 rfl rfl)
theorem dX13_lengthAt_61 : decode cX13_lengthAt 61 = .ok (.getfield 1, 3) := dk_180 0 1 (dk_at dksX13_lengthAt_2 15 rfl rfl)
theorem dX13_lengthAt_64 : decode cX13_lengthAt 64 = .ok (.getfield 13, 3) := dk_180 0 13 (dk_at dksX13_lengthAt_2 18 rfl rfl)
theorem dX13_lengthAt_67 : decode cX13_lengthAt 67 = .ok (.iload_n 1, 1) := dk_27 (dk_at dksX13_lengthAt_2 21 rfl rfl)
theorem dX13_lengthAt_68 : decode cX13_lengthAt 68 = .ok (.iload_n 3, 1) := dk_29 (dk_at dksX13_lengthAt_2 22 rfl rfl)
theorem dX13_lengthAt_69 : decode cX13_lengthAt 69 = .ok (.iadd, 1) := dk_96 (dk_at dksX13_lengthAt_2 23 rfl rfl)
theorem dX13_lengthAt_70 : decode cX13_lengthAt 70 = .ok (.invokeinterface 80 2, 5) := by decide +kernel
theorem dX13_lengthAt_75 : decode cX13_lengthAt 75 = .ok (.checkcast 84, 3) := dk_192 0 84 (dk_at dksX13_lengthAt_3 5 rfl rfl)
theorem dX13_lengthAt_78 : decode cX13_lengthAt 78 = .ok (.aload_n 0, 1) := dk_42 (dk_at dksX13_lengthAt_3 8 rfl rfl)
theorem dX13_lengthAt_79 : decode cX13_lengthAt 79 = .ok (.getfield 1, 3) := dk_180 0 1 (dk_at dksX13_lengthAt_3 9 rfl rfl)
theorem dX13_lengthAt_82 : decode cX13_lengthAt 82 = .ok (.getfield 29, 3) := dk_180 0 29 (dk_at dksX13_lengthAt_3 12 rfl rfl)
theorem dX13_lengthAt_85 : decode cX13_lengthAt 85 = .ok (.iload_n 2, 1) := dk_28 (dk_at dksX13_lengthAt_3 15 rfl rfl)
theorem dX13_lengthAt_86 : decode cX13_lengthAt 86 = .ok (.iload_n 3, 1) := dk_29 (dk_at dksX13_lengthAt_3 16 rfl rfl)
theorem dX13_lengthAt_87 : decode cX13_lengthAt 87 = .ok (.iadd, 1) := dk_96 (dk_at dksX13_lengthAt_3 17 rfl rfl)
theorem dX13_lengthAt_88 : decode cX13_lengthAt 88 = .ok (.invokeinterface 80 2, 5) := by decide +kernel
theorem dX13_lengthAt_93 : decode cX13_lengthAt 93 = .ok (.invokevirtual 86, 3) := dk_182 0 86 (dk_at dksX13_lengthAt_4 0 rfl rfl)
theorem dX13_lengthAt_96 : decode cX13_lengthAt 96 = .ok (.ifCond .eq 9, 3) := dk_153 0 9 (dk_at dksX13_lengthAt_4 3 rfl rfl)
theorem dX13_lengthAt_99 : decode cX13_lengthAt 99 = .ok (.iinc 3 1, 3) := dk_132 3 1 (dk_at dksX13_lengthAt_4 6 rfl rfl)
theorem dX13_lengthAt_102 : decode cX13_lengthAt 102 = .ok (.goto (-100), 3) := dk_167 255 156 (dk_at dksX13_lengthAt_4 9 rfl rfl)
theorem dX13_lengthAt_105 : decode cX13_lengthAt 105 = .ok (.iload_n 3, 1) := dk_29 (dk_at dksX13_lengthAt_4 12 rfl rfl)
theorem dX13_lengthAt_106 : decode cX13_lengthAt 106 = .ok (.ireturn, 1) := dk_172 (dk_at dksX13_lengthAt_4 13 rfl rfl)
abbrev cX13_isBehindOther : ByteArray := prog_8_method_4_code
def yX13_isBehindOther : MethodName := ⟨RX13, "isBehindOther", "(II)Z"⟩
def dkwX13_isBehindOther_1 : List UInt8 := [167, 0, 4, 3, 172]
abbrev dktX13_isBehindOther_1 : List UInt8 := dkwX13_isBehindOther_1 ++ []
def dkwX13_isBehindOther_0 : List UInt8 := [27, 158, 0, 24, 28, 158, 0, 20, 42, 27, 4, 100, 28, 4, 100, 182, 0, 90, 158, 0, 7, 4]
abbrev dktX13_isBehindOther_0 : List UInt8 := dkwX13_isBehindOther_0 ++ dktX13_isBehindOther_1
theorem dksX13_isBehindOther_0 : cX13_isBehindOther.data.toList.drop 0 = dktX13_isBehindOther_0 := by decide +kernel
theorem dksX13_isBehindOther_1 : cX13_isBehindOther.data.toList.drop 22 = dktX13_isBehindOther_1 := dk_seg dksX13_isBehindOther_0 22 rfl rfl
theorem dX13_isBehindOther_0 : decode cX13_isBehindOther 0 = .ok (.iload_n 1, 1) := dk_27 (dk_at dksX13_isBehindOther_0 0 rfl rfl)
theorem dX13_isBehindOther_1 : decode cX13_isBehindOther 1 = .ok (.ifCond .le 24, 3) := dk_158 0 24 (dk_at dksX13_isBehindOther_0 1 rfl rfl)
theorem dX13_isBehindOther_4 : decode cX13_isBehindOther 4 = .ok (.iload_n 2, 1) := dk_28 (dk_at dksX13_isBehindOther_0 4 rfl rfl)
theorem dX13_isBehindOther_5 : decode cX13_isBehindOther 5 = .ok (.ifCond .le 20, 3) := dk_158 0 20 (dk_at dksX13_isBehindOther_0 5 rfl rfl)
theorem dX13_isBehindOther_8 : decode cX13_isBehindOther 8 = .ok (.aload_n 0, 1) := dk_42 (dk_at dksX13_isBehindOther_0 8 rfl rfl)
theorem dX13_isBehindOther_9 : decode cX13_isBehindOther 9 = .ok (.iload_n 1, 1) := dk_27 (dk_at dksX13_isBehindOther_0 9 rfl rfl)
theorem dX13_isBehindOther_10 : decode cX13_isBehindOther 10 = .ok (.iconst 1, 1) := dk_4 (dk_at dksX13_isBehindOther_0 10 rfl rfl)
theorem dX13_isBehindOther_11 : decode cX13_isBehindOther 11 = .ok (.isub, 1) := dk_100 (dk_at dksX13_isBehindOther_0 11 rfl rfl)
theorem dX13_isBehindOther_12 : decode cX13_isBehindOther 12 = .ok (.iload_n 2, 1) := dk_28 (dk_at dksX13_isBehindOther_0 12 rfl rfl)
theorem dX13_isBehindOther_13 : decode cX13_isBehindOther 13 = .ok (.iconst 1, 1) := dk_4 (dk_at dksX13_isBehindOther_0 13 rfl rfl)
theorem dX13_isBehindOther_14 : decode cX13_isBehindOther 14 = .ok (.isub, 1) := dk_100 (dk_at dksX13_isBehindOther_0 14 rfl rfl)
theorem dX13_isBehindOther_15 : decode cX13_isBehindOther 15 = .ok (.invokevirtual 90, 3) := dk_182 0 90 (dk_at dksX13_isBehindOther_0 15 rfl rfl)
theorem dX13_isBehindOther_18 : decode cX13_isBehindOther 18 = .ok (.ifCond .le 7, 3) := dk_158 0 7 (dk_at dksX13_isBehindOther_0 18 rfl rfl)
theorem dX13_isBehindOther_21 : decode cX13_isBehindOther 21 = .ok (.iconst 1, 1) := dk_4 (dk_at dksX13_isBehindOther_0 21 rfl rfl)
theorem dX13_isBehindOther_22 : decode cX13_isBehindOther 22 = .ok (.goto 4, 3) := dk_167 0 4 (dk_at dksX13_isBehindOther_1 0 rfl rfl)
theorem dX13_isBehindOther_25 : decode cX13_isBehindOther 25 = .ok (.iconst 0, 1) := dk_3 (dk_at dksX13_isBehindOther_1 3 rfl rfl)
theorem dX13_isBehindOther_26 : decode cX13_isBehindOther 26 = .ok (.ireturn, 1) := dk_172 (dk_at dksX13_isBehindOther_1 4 rfl rfl)
theorem q142 : (Jvm.Cond.initialized "MergeWorkbench$Comparison$MoveFinder") ∈ lw_all := lw_g (lw_at lw_m1 59 rfl) rfl
theorem q300 : (Jvm.Cond.selects "MergeWorkbench$Comparison$MoveFinder" ({ cls := "java/lang/Object", name := "getClass", desc := "()Ljava/lang/Class;" } : Jvm.MethodName) ({ cls := "java/lang/Object", name := "getClass", desc := "()Ljava/lang/Class;" } : Jvm.MethodName)) ∈ lw_all := lw_g (lw_at lw_m1 217 rfl) rfl
theorem q1468 : (Jvm.Cond.selects "MergeWorkbench$Comparison$MoveFinder" ({ cls := "java/lang/Object", name := "equals", desc := "(Ljava/lang/Object;)Z" } : Jvm.MethodName) ({ cls := "java/lang/Object", name := "equals", desc := "(Ljava/lang/Object;)Z" } : Jvm.MethodName)) ∈ lw_all := lw_g (lw_at lw_m6 185 rfl) rfl
theorem q2376 : (Jvm.Cond.fieldLinkNest "MergeWorkbench$Comparison$MoveFinder" (71 : Nat) "MergeWorkbench$Part" "from" "I" "MergeWorkbench") ∈ lw_tbl := lw_at lw_m10 133 rfl
theorem q2384 : (Jvm.Cond.fieldLinkNest "MergeWorkbench$Comparison$MoveFinder" (77 : Nat) "MergeWorkbench$Part" "to" "I" "MergeWorkbench") ∈ lw_tbl := lw_at lw_m10 141 rfl
theorem q2400 : (Jvm.Cond.fieldLinkNest "MergeWorkbench$Comparison$MoveFinder" (54 : Nat) "MergeWorkbench$Difference" "old" "LMergeWorkbench$Part;" "MergeWorkbench") ∈ lw_tbl := lw_at lw_m10 157 rfl
theorem q2402 : (Jvm.Cond.fieldLinkNest "MergeWorkbench$Comparison$MoveFinder" (62 : Nat) "MergeWorkbench$Difference" "now" "LMergeWorkbench$Part;" "MergeWorkbench") ∈ lw_tbl := lw_at lw_m10 159 rfl
theorem q2413 : (Jvm.Cond.fieldLinkNest "MergeWorkbench$Comparison$MoveFinder" (13 : Nat) "MergeWorkbench$Comparison" "a" "Ljava/util/List;" "MergeWorkbench") ∈ lw_tbl := lw_at lw_m10 170 rfl
theorem q2419 : (Jvm.Cond.fieldLinkNest "MergeWorkbench$Comparison$MoveFinder" (29 : Nat) "MergeWorkbench$Comparison" "b" "Ljava/util/List;" "MergeWorkbench") ∈ lw_tbl := lw_at lw_m10 176 rfl
theorem q2432 : (Jvm.Cond.fieldLinkNest "MergeWorkbench$Comparison$MoveFinder" (35 : Nat) "MergeWorkbench$Comparison" "differences" "Ljava/util/List;" "MergeWorkbench") ∈ lw_tbl := lw_at lw_m10 189 rfl
theorem q2435 : (Jvm.Cond.fieldLinkNest "MergeWorkbench$Comparison$MoveFinder" (65 : Nat) "MergeWorkbench$Comparison" "moves" "Ljava/util/List;" "MergeWorkbench") ∈ lw_tbl := lw_at lw_m10 192 rfl
theorem q2563 : (Jvm.Cond.instantiable "MergeWorkbench$Comparison$MoveFinder" (3 : Nat)) ∈ lw_all := lw_g (lw_at lw_m11 80 rfl) rfl
theorem q2565 : (Jvm.Cond.instanceMethod ({ cls := "MergeWorkbench$Comparison$MoveFinder", name := "<init>", desc := "(LMergeWorkbench$Comparison;)V" } : Jvm.MethodName)) ∈ lw_all := lw_g (lw_at lw_m11 82 rfl) rfl
theorem q2566 : (Jvm.Cond.code ({ cls := "MergeWorkbench$Comparison$MoveFinder", name := "<init>", desc := "(LMergeWorkbench$Comparison;)V" } : Jvm.MethodName) prog_8_method_1_code (4 : Nat) (Option.none : Option Jvm.ClassFile.FieldType)) ∈ lw_all := lw_g (lw_at lw_m11 83 rfl) rfl
theorem q2567 : (Jvm.Cond.methodLink "MergeWorkbench$Comparison$MoveFinder" (7 : Nat) ({ cls := "java/lang/Object", name := "<init>", desc := "()V" } : Jvm.MethodName)) ∈ lw_all := lw_g (lw_at lw_m11 84 rfl) rfl
theorem q2568 : (Jvm.Cond.interfaceEntry "MergeWorkbench$Comparison$MoveFinder" (19 : Nat)) ∈ lw_tbl := lw_at lw_m11 85 rfl
theorem q2569 : (Jvm.Cond.methodLink "MergeWorkbench$Comparison$MoveFinder" (19 : Nat) ({ cls := "java/util/List", name := "size", desc := "()I" } : Jvm.MethodName)) ∈ lw_all := lw_g (lw_at lw_m11 86 rfl) rfl
theorem q2570 : (Jvm.Cond.interfaceEntry "MergeWorkbench$Comparison$MoveFinder" (38 : Nat)) ∈ lw_tbl := lw_at lw_m11 87 rfl
theorem q2571 : (Jvm.Cond.methodLink "MergeWorkbench$Comparison$MoveFinder" (38 : Nat) ({ cls := "java/util/List", name := "iterator", desc := "()Ljava/util/Iterator;" } : Jvm.MethodName)) ∈ lw_all := lw_g (lw_at lw_m11 88 rfl) rfl
theorem q2572 : (Jvm.Cond.interfaceEntry "MergeWorkbench$Comparison$MoveFinder" (42 : Nat)) ∈ lw_tbl := lw_at lw_m11 89 rfl
theorem q2573 : (Jvm.Cond.methodLink "MergeWorkbench$Comparison$MoveFinder" (42 : Nat) ({ cls := "java/util/Iterator", name := "hasNext", desc := "()Z" } : Jvm.MethodName)) ∈ lw_all := lw_g (lw_at lw_m11 90 rfl) rfl
theorem q2574 : (Jvm.Cond.interfaceEntry "MergeWorkbench$Comparison$MoveFinder" (48 : Nat)) ∈ lw_tbl := lw_at lw_m11 91 rfl
theorem q2575 : (Jvm.Cond.methodLink "MergeWorkbench$Comparison$MoveFinder" (48 : Nat) ({ cls := "java/util/Iterator", name := "next", desc := "()Ljava/lang/Object;" } : Jvm.MethodName)) ∈ lw_all := lw_g (lw_at lw_m11 92 rfl) rfl
theorem q2576 : (Jvm.Cond.classLink "MergeWorkbench$Comparison$MoveFinder" (52 : Nat) "MergeWorkbench$Difference") ∈ lw_all := lw_g (lw_at lw_m11 93 rfl) rfl
theorem q2577 : (Jvm.Cond.methodLink "MergeWorkbench$Comparison$MoveFinder" (58 : Nat) ({ cls := "MergeWorkbench$Comparison$MoveFinder", name := "free", desc := "(LMergeWorkbench$Part;[Z)V" } : Jvm.MethodName)) ∈ lw_all := lw_g (lw_at lw_m11 94 rfl) rfl
theorem q2578 : (Jvm.Cond.privateMethod ({ cls := "MergeWorkbench$Comparison$MoveFinder", name := "free", desc := "(LMergeWorkbench$Part;[Z)V" } : Jvm.MethodName)) ∈ lw_tbl := lw_at lw_m11 95 rfl
theorem q2579 : (Jvm.Cond.instanceMethod ({ cls := "MergeWorkbench$Comparison$MoveFinder", name := "free", desc := "(LMergeWorkbench$Part;[Z)V" } : Jvm.MethodName)) ∈ lw_all := lw_g (lw_at lw_m11 96 rfl) rfl
theorem q2580 : (Jvm.Cond.code ({ cls := "MergeWorkbench$Comparison$MoveFinder", name := "free", desc := "(LMergeWorkbench$Part;[Z)V" } : Jvm.MethodName) prog_8_method_2_code (4 : Nat) (Option.none : Option Jvm.ClassFile.FieldType)) ∈ lw_all := lw_g (lw_at lw_m11 97 rfl) rfl
theorem q2581 : (Jvm.Cond.interfaceEntry "MergeWorkbench$Comparison$MoveFinder" (68 : Nat)) ∈ lw_tbl := lw_at lw_m11 98 rfl
theorem q2582 : (Jvm.Cond.methodLink "MergeWorkbench$Comparison$MoveFinder" (68 : Nat) ({ cls := "java/util/List", name := "clear", desc := "()V" } : Jvm.MethodName)) ∈ lw_all := lw_g (lw_at lw_m11 99 rfl) rfl
theorem q2650 : (Jvm.Cond.fieldLink "MergeWorkbench$Comparison$MoveFinder" (25 : Nat) "MergeWorkbench$Comparison$MoveFinder" "isFreeA" "[Z") ∈ lw_all := lw_g (lw_at lw_m11 167 rfl) rfl
theorem q2651 : (Jvm.Cond.fieldLink "MergeWorkbench$Comparison$MoveFinder" (32 : Nat) "MergeWorkbench$Comparison$MoveFinder" "isFreeB" "[Z") ∈ lw_all := lw_g (lw_at lw_m11 168 rfl) rfl
theorem q2652 : (Jvm.Cond.fieldLink "MergeWorkbench$Comparison$MoveFinder" (1 : Nat) "MergeWorkbench$Comparison$MoveFinder" "this$0" "LMergeWorkbench$Comparison;") ∈ lw_all := lw_g (lw_at lw_m11 169 rfl) rfl
theorem q2653 : (Jvm.Cond.laysFinal "MergeWorkbench$Comparison$MoveFinder" "MergeWorkbench$Comparison$MoveFinder" "isFreeA" "[Z") ∈ lw_all := lw_g (lw_at lw_m11 170 rfl) rfl
theorem q2654 : (Jvm.Cond.soleField "MergeWorkbench$Comparison$MoveFinder" "isFreeA") ∈ lw_all := lw_g (lw_at lw_m11 171 rfl) rfl
theorem q2655 : (Jvm.Cond.laysFinal "MergeWorkbench$Comparison$MoveFinder" "MergeWorkbench$Comparison$MoveFinder" "isFreeB" "[Z") ∈ lw_all := lw_g (lw_at lw_m11 172 rfl) rfl
theorem q2656 : (Jvm.Cond.soleField "MergeWorkbench$Comparison$MoveFinder" "isFreeB") ∈ lw_all := lw_g (lw_at lw_m11 173 rfl) rfl
theorem q2657 : (Jvm.Cond.laysFinal "MergeWorkbench$Comparison$MoveFinder" "MergeWorkbench$Comparison$MoveFinder" "this$0" "LMergeWorkbench$Comparison;") ∈ lw_all := lw_g (lw_at lw_m11 174 rfl) rfl
theorem q2658 : (Jvm.Cond.soleField "MergeWorkbench$Comparison$MoveFinder" "this$0") ∈ lw_all := lw_g (lw_at lw_m11 175 rfl) rfl
theorem q2659 : (Jvm.Cond.superclass "MergeWorkbench$Comparison$MoveFinder" "java/lang/Object") ∈ lw_all := lw_g (lw_at lw_m11 176 rfl) rfl
theorem q2661 : (Jvm.Cond.instanceMethod ({ cls := "MergeWorkbench$Comparison$MoveFinder", name := "find", desc := "(I)V" } : Jvm.MethodName)) ∈ lw_all := lw_g (lw_at lw_m11 178 rfl) rfl
theorem q2662 : (Jvm.Cond.selects "MergeWorkbench$Comparison$MoveFinder" ({ cls := "MergeWorkbench$Comparison$MoveFinder", name := "find", desc := "(I)V" } : Jvm.MethodName) ({ cls := "MergeWorkbench$Comparison$MoveFinder", name := "find", desc := "(I)V" } : Jvm.MethodName)) ∈ lw_all := lw_g (lw_at lw_m11 179 rfl) rfl
theorem q2663 : (Jvm.Cond.code ({ cls := "MergeWorkbench$Comparison$MoveFinder", name := "find", desc := "(I)V" } : Jvm.MethodName) prog_8_method_6_code (5 : Nat) (Option.none : Option Jvm.ClassFile.FieldType)) ∈ lw_all := lw_g (lw_at lw_m11 180 rfl) rfl
theorem q2664 : (Jvm.Cond.methodLink "MergeWorkbench$Comparison$MoveFinder" (114 : Nat) ({ cls := "MergeWorkbench$Comparison$MoveFinder", name := "possible", desc := "(I)Ljava/util/PriorityQueue;" } : Jvm.MethodName)) ∈ lw_all := lw_g (lw_at lw_m11 181 rfl) rfl
theorem q2665 : (Jvm.Cond.privateMethod ({ cls := "MergeWorkbench$Comparison$MoveFinder", name := "possible", desc := "(I)Ljava/util/PriorityQueue;" } : Jvm.MethodName)) ∈ lw_tbl := lw_at lw_m11 182 rfl
theorem q2666 : (Jvm.Cond.instanceMethod ({ cls := "MergeWorkbench$Comparison$MoveFinder", name := "possible", desc := "(I)Ljava/util/PriorityQueue;" } : Jvm.MethodName)) ∈ lw_all := lw_g (lw_at lw_m11 183 rfl) rfl
theorem q2667 : (Jvm.Cond.code ({ cls := "MergeWorkbench$Comparison$MoveFinder", name := "possible", desc := "(I)Ljava/util/PriorityQueue;" } : Jvm.MethodName) prog_8_method_5_code (6 : Nat) (Option.some (Jvm.ClassFile.FieldType.object "java/util/PriorityQueue"))) ∈ lw_all := lw_g (lw_at lw_m11 184 rfl) rfl
theorem q2668 : (Jvm.Cond.classLink "MergeWorkbench$Comparison$MoveFinder" (94 : Nat) "java/util/PriorityQueue") ∈ lw_all := lw_g (lw_at lw_m11 185 rfl) rfl
theorem q2669 : (Jvm.Cond.classLink "MergeWorkbench$Comparison$MoveFinder" (96 : Nat) "MergeWorkbench$MoveOrder") ∈ lw_all := lw_g (lw_at lw_m11 186 rfl) rfl
theorem q2671 : (Jvm.Cond.methodLinkNest "MergeWorkbench$Comparison$MoveFinder" (98 : Nat) ({ cls := "MergeWorkbench$MoveOrder", name := "<init>", desc := "()V" } : Jvm.MethodName) "MergeWorkbench") ∈ lw_tbl := lw_at lw_m11 188 rfl
theorem q2676 : (Jvm.Cond.methodLink "MergeWorkbench$Comparison$MoveFinder" (99 : Nat) ({ cls := "java/util/PriorityQueue", name := "<init>", desc := "(Ljava/util/Comparator;)V" } : Jvm.MethodName)) ∈ lw_all := lw_g (lw_at lw_m11 193 rfl) rfl
theorem q2705 : (Jvm.Cond.methodLink "MergeWorkbench$Comparison$MoveFinder" (90 : Nat) ({ cls := "MergeWorkbench$Comparison$MoveFinder", name := "lengthAt", desc := "(II)I" } : Jvm.MethodName)) ∈ lw_all := lw_g (lw_at lw_m11 222 rfl) rfl
theorem q2706 : (Jvm.Cond.privateMethod ({ cls := "MergeWorkbench$Comparison$MoveFinder", name := "lengthAt", desc := "(II)I" } : Jvm.MethodName)) ∈ lw_tbl := lw_at lw_m11 223 rfl
theorem q2707 : (Jvm.Cond.instanceMethod ({ cls := "MergeWorkbench$Comparison$MoveFinder", name := "lengthAt", desc := "(II)I" } : Jvm.MethodName)) ∈ lw_all := lw_g (lw_at lw_m11 224 rfl) rfl
theorem q2708 : (Jvm.Cond.code ({ cls := "MergeWorkbench$Comparison$MoveFinder", name := "lengthAt", desc := "(II)I" } : Jvm.MethodName) prog_8_method_3_code (4 : Nat) (Option.some Jvm.ClassFile.FieldType.int)) ∈ lw_all := lw_g (lw_at lw_m11 225 rfl) rfl
theorem q2709 : (Jvm.Cond.interfaceEntry "MergeWorkbench$Comparison$MoveFinder" (80 : Nat)) ∈ lw_tbl := lw_at lw_m11 226 rfl
theorem q2710 : (Jvm.Cond.methodLink "MergeWorkbench$Comparison$MoveFinder" (80 : Nat) ({ cls := "java/util/List", name := "get", desc := "(I)Ljava/lang/Object;" } : Jvm.MethodName)) ∈ lw_all := lw_g (lw_at lw_m11 227 rfl) rfl
theorem q2711 : (Jvm.Cond.classLink "MergeWorkbench$Comparison$MoveFinder" (84 : Nat) "java/lang/Integer") ∈ lw_all := lw_g (lw_at lw_m11 228 rfl) rfl
theorem q2712 : (Jvm.Cond.methodLink "MergeWorkbench$Comparison$MoveFinder" (86 : Nat) ({ cls := "java/lang/Integer", name := "equals", desc := "(Ljava/lang/Object;)Z" } : Jvm.MethodName)) ∈ lw_all := lw_g (lw_at lw_m11 229 rfl) rfl
theorem q2713 : (Jvm.Cond.methodLink "MergeWorkbench$Comparison$MoveFinder" (102 : Nat) ({ cls := "MergeWorkbench$Comparison$MoveFinder", name := "isBehindOther", desc := "(II)Z" } : Jvm.MethodName)) ∈ lw_all := lw_g (lw_at lw_m11 230 rfl) rfl
theorem q2714 : (Jvm.Cond.privateMethod ({ cls := "MergeWorkbench$Comparison$MoveFinder", name := "isBehindOther", desc := "(II)Z" } : Jvm.MethodName)) ∈ lw_tbl := lw_at lw_m11 231 rfl
theorem q2715 : (Jvm.Cond.instanceMethod ({ cls := "MergeWorkbench$Comparison$MoveFinder", name := "isBehindOther", desc := "(II)Z" } : Jvm.MethodName)) ∈ lw_all := lw_g (lw_at lw_m11 232 rfl) rfl
theorem q2716 : (Jvm.Cond.code ({ cls := "MergeWorkbench$Comparison$MoveFinder", name := "isBehindOther", desc := "(II)Z" } : Jvm.MethodName) prog_8_method_4_code (3 : Nat) (Option.some Jvm.ClassFile.FieldType.boolean)) ∈ lw_all := lw_g (lw_at lw_m11 233 rfl) rfl
theorem q2717 : (Jvm.Cond.classLink "MergeWorkbench$Comparison$MoveFinder" (106 : Nat) "MergeWorkbench$Move") ∈ lw_all := lw_g (lw_at lw_m11 234 rfl) rfl
theorem q2719 : (Jvm.Cond.methodLink "MergeWorkbench$Comparison$MoveFinder" (108 : Nat) ({ cls := "MergeWorkbench$Move", name := "<init>", desc := "(III)V" } : Jvm.MethodName)) ∈ lw_all := lw_g (lw_at lw_m11 236 rfl) rfl
theorem q2725 : (Jvm.Cond.fieldLinkNest "MergeWorkbench$Comparison$MoveFinder" (128 : Nat) "MergeWorkbench$Move" "a" "I" "MergeWorkbench") ∈ lw_tbl := lw_at lw_m12 2 rfl
theorem q2728 : (Jvm.Cond.fieldLinkNest "MergeWorkbench$Comparison$MoveFinder" (130 : Nat) "MergeWorkbench$Move" "b" "I" "MergeWorkbench") ∈ lw_tbl := lw_at lw_m12 5 rfl
theorem q2731 : (Jvm.Cond.fieldLinkNest "MergeWorkbench$Comparison$MoveFinder" (125 : Nat) "MergeWorkbench$Move" "length" "I" "MergeWorkbench") ∈ lw_tbl := lw_at lw_m12 8 rfl
theorem q2739 : (Jvm.Cond.methodLink "MergeWorkbench$Comparison$MoveFinder" (111 : Nat) ({ cls := "java/util/PriorityQueue", name := "add", desc := "(Ljava/lang/Object;)Z" } : Jvm.MethodName)) ∈ lw_all := lw_g (lw_at lw_m12 16 rfl) rfl
theorem q2740 : (Jvm.Cond.methodLink "MergeWorkbench$Comparison$MoveFinder" (118 : Nat) ({ cls := "java/util/PriorityQueue", name := "isEmpty", desc := "()Z" } : Jvm.MethodName)) ∈ lw_all := lw_g (lw_at lw_m12 17 rfl) rfl
theorem q2746 : (Jvm.Cond.methodLink "MergeWorkbench$Comparison$MoveFinder" (121 : Nat) ({ cls := "java/util/PriorityQueue", name := "remove", desc := "()Ljava/lang/Object;" } : Jvm.MethodName)) ∈ lw_all := lw_g (lw_at lw_m12 23 rfl) rfl
theorem q2765 : (Jvm.Cond.interfaceEntry "MergeWorkbench$Comparison$MoveFinder" (124 : Nat)) ∈ lw_tbl := lw_at lw_m12 42 rfl
theorem q2766 : (Jvm.Cond.methodLink "MergeWorkbench$Comparison$MoveFinder" (124 : Nat) ({ cls := "java/util/List", name := "add", desc := "(Ljava/lang/Object;)Z" } : Jvm.MethodName)) ∈ lw_all := lw_g (lw_at lw_m12 43 rfl) rfl
theorem q3936 : (Jvm.Cond.castable "MergeWorkbench$Comparison$MoveFinder" "java/lang/Object") ∈ lw_tbl := lw_at lw_m17 13 rfl
theorem in_X13 : ∀ w ∈ wsX130, w ∈ lw_all := lw_in wsX130 [2653, 2655, 2657] (by decide +kernel) (by decide +kernel)

/-! MergeWorkbench$MoveOrder -/
set_option maxRecDepth 100000
def RX14 : String := "MergeWorkbench$MoveOrder"
abbrev cX14_compare : ByteArray := prog_15_method_3_code
def yX14_compare : MethodName := ⟨RX14, "compare", "(Ljava/lang/Object;Ljava/lang/Object;)I"⟩
def dkwX14_compare_0 : List UInt8 := [42, 43, 192, 0, 8, 44, 192, 0, 8, 182, 0, 25, 172]
abbrev dktX14_compare_0 : List UInt8 := dkwX14_compare_0 ++ []
theorem dksX14_compare_0 : cX14_compare.data.toList.drop 0 = dktX14_compare_0 := by decide +kernel
theorem dX14_compare_0 : decode cX14_compare 0 = .ok (.aload_n 0, 1) := dk_42 (dk_at dksX14_compare_0 0 rfl rfl)
theorem dX14_compare_1 : decode cX14_compare 1 = .ok (.aload_n 1, 1) := dk_43 (dk_at dksX14_compare_0 1 rfl rfl)
theorem dX14_compare_2 : decode cX14_compare 2 = .ok (.checkcast 8, 3) := dk_192 0 8 (dk_at dksX14_compare_0 2 rfl rfl)
theorem dX14_compare_5 : decode cX14_compare 5 = .ok (.aload_n 2, 1) := dk_44 (dk_at dksX14_compare_0 5 rfl rfl)
theorem dX14_compare_6 : decode cX14_compare 6 = .ok (.checkcast 8, 3) := dk_192 0 8 (dk_at dksX14_compare_0 6 rfl rfl)
theorem dX14_compare_9 : decode cX14_compare 9 = .ok (.invokevirtual 25, 3) := dk_182 0 25 (dk_at dksX14_compare_0 9 rfl rfl)
theorem dX14_compare_12 : decode cX14_compare 12 = .ok (.ireturn, 1) := dk_172 (dk_at dksX14_compare_0 12 rfl rfl)
abbrev cX14_compare_2 : ByteArray := prog_15_method_2_code
def yX14_compare_2 : MethodName := ⟨RX14, "compare", "(LMergeWorkbench$Move;LMergeWorkbench$Move;)I"⟩
def dkwX14_compare_2_2 : List UInt8 := [43, 180, 0, 22, 44, 180, 0, 22, 184, 0, 13, 172]
abbrev dktX14_compare_2_2 : List UInt8 := dkwX14_compare_2_2 ++ []
def dkwX14_compare_2_1 : List UInt8 := [180, 0, 19, 44, 180, 0, 19, 159, 0, 17, 43, 180, 0, 19, 44, 180, 0, 19, 184, 0, 13, 167, 0, 14]
abbrev dktX14_compare_2_1 : List UInt8 := dkwX14_compare_2_1 ++ dktX14_compare_2_2
def dkwX14_compare_2_0 : List UInt8 := [43, 180, 0, 7, 44, 180, 0, 7, 159, 0, 15, 44, 180, 0, 7, 43, 180, 0, 7, 184, 0, 13, 172, 43]
abbrev dktX14_compare_2_0 : List UInt8 := dkwX14_compare_2_0 ++ dktX14_compare_2_1
theorem dksX14_compare_2_0 : cX14_compare_2.data.toList.drop 0 = dktX14_compare_2_0 := by decide +kernel
theorem dksX14_compare_2_1 : cX14_compare_2.data.toList.drop 24 = dktX14_compare_2_1 := dk_seg dksX14_compare_2_0 24 rfl rfl
theorem dksX14_compare_2_2 : cX14_compare_2.data.toList.drop 48 = dktX14_compare_2_2 := dk_seg dksX14_compare_2_1 24 rfl rfl
theorem dX14_compare_2_0 : decode cX14_compare_2 0 = .ok (.aload_n 1, 1) := dk_43 (dk_at dksX14_compare_2_0 0 rfl rfl)
theorem dX14_compare_2_1 : decode cX14_compare_2 1 = .ok (.getfield 7, 3) := dk_180 0 7 (dk_at dksX14_compare_2_0 1 rfl rfl)
theorem dX14_compare_2_4 : decode cX14_compare_2 4 = .ok (.aload_n 2, 1) := dk_44 (dk_at dksX14_compare_2_0 4 rfl rfl)
theorem dX14_compare_2_5 : decode cX14_compare_2 5 = .ok (.getfield 7, 3) := dk_180 0 7 (dk_at dksX14_compare_2_0 5 rfl rfl)
theorem dX14_compare_2_8 : decode cX14_compare_2 8 = .ok (.if_icmp .eq 15, 3) := dk_159 0 15 (dk_at dksX14_compare_2_0 8 rfl rfl)
theorem dX14_compare_2_11 : decode cX14_compare_2 11 = .ok (.aload_n 2, 1) := dk_44 (dk_at dksX14_compare_2_0 11 rfl rfl)
theorem dX14_compare_2_12 : decode cX14_compare_2 12 = .ok (.getfield 7, 3) := dk_180 0 7 (dk_at dksX14_compare_2_0 12 rfl rfl)
theorem dX14_compare_2_15 : decode cX14_compare_2 15 = .ok (.aload_n 1, 1) := dk_43 (dk_at dksX14_compare_2_0 15 rfl rfl)
theorem dX14_compare_2_16 : decode cX14_compare_2 16 = .ok (.getfield 7, 3) := dk_180 0 7 (dk_at dksX14_compare_2_0 16 rfl rfl)
theorem dX14_compare_2_19 : decode cX14_compare_2 19 = .ok (.invokestatic 13, 3) := dk_184 0 13 (dk_at dksX14_compare_2_0 19 rfl rfl)
theorem dX14_compare_2_22 : decode cX14_compare_2 22 = .ok (.ireturn, 1) := dk_172 (dk_at dksX14_compare_2_0 22 rfl rfl)
theorem dX14_compare_2_23 : decode cX14_compare_2 23 = .ok (.aload_n 1, 1) := dk_43 (dk_at dksX14_compare_2_0 23 rfl rfl)
theorem dX14_compare_2_24 : decode cX14_compare_2 24 = .ok (.getfield 19, 3) := dk_180 0 19 (dk_at dksX14_compare_2_1 0 rfl rfl)
theorem dX14_compare_2_27 : decode cX14_compare_2 27 = .ok (.aload_n 2, 1) := dk_44 (dk_at dksX14_compare_2_1 3 rfl rfl)
theorem dX14_compare_2_28 : decode cX14_compare_2 28 = .ok (.getfield 19, 3) := dk_180 0 19 (dk_at dksX14_compare_2_1 4 rfl rfl)
theorem dX14_compare_2_31 : decode cX14_compare_2 31 = .ok (.if_icmp .eq 17, 3) := dk_159 0 17 (dk_at dksX14_compare_2_1 7 rfl rfl)
theorem dX14_compare_2_34 : decode cX14_compare_2 34 = .ok (.aload_n 1, 1) := dk_43 (dk_at dksX14_compare_2_1 10 rfl rfl)
theorem dX14_compare_2_35 : decode cX14_compare_2 35 = .ok (.getfield 19, 3) := dk_180 0 19 (dk_at dksX14_compare_2_1 11 rfl rfl)
theorem dX14_compare_2_38 : decode cX14_compare_2 38 = .ok (.aload_n 2, 1) := dk_44 (dk_at dksX14_compare_2_1 14 rfl rfl)
theorem dX14_compare_2_39 : decode cX14_compare_2 39 = .ok (.getfield 19, 3) := dk_180 0 19 (dk_at dksX14_compare_2_1 15 rfl rfl)
theorem dX14_compare_2_42 : decode cX14_compare_2 42 = .ok (.invokestatic 13, 3) := dk_184 0 13 (dk_at dksX14_compare_2_1 18 rfl rfl)
theorem dX14_compare_2_45 : decode cX14_compare_2 45 = .ok (.goto 14, 3) := dk_167 0 14 (dk_at dksX14_compare_2_1 21 rfl rfl)
theorem dX14_compare_2_48 : decode cX14_compare_2 48 = .ok (.aload_n 1, 1) := dk_43 (dk_at dksX14_compare_2_2 0 rfl rfl)
theorem dX14_compare_2_49 : decode cX14_compare_2 49 = .ok (.getfield 22, 3) := dk_180 0 22 (dk_at dksX14_compare_2_2 1 rfl rfl)
theorem dX14_compare_2_52 : decode cX14_compare_2 52 = .ok (.aload_n 2, 1) := dk_44 (dk_at dksX14_compare_2_2 4 rfl rfl)
theorem dX14_compare_2_53 : decode cX14_compare_2 53 = .ok (.getfield 22, 3) := dk_180 0 22 (dk_at dksX14_compare_2_2 5 rfl rfl)
theorem dX14_compare_2_56 : decode cX14_compare_2 56 = .ok (.invokestatic 13, 3) := dk_184 0 13 (dk_at dksX14_compare_2_2 8 rfl rfl)
theorem dX14_compare_2_59 : decode cX14_compare_2 59 = .ok (.ireturn, 1) := dk_172 (dk_at dksX14_compare_2_2 11 rfl rfl)
abbrev cX14_init : ByteArray := prog_15_method_1_code
def yX14_init : MethodName := ⟨RX14, "<init>", "()V"⟩
theorem dX14_init_0 : decode cX14_init 0 = .ok (.aload_n 0, 1) := by decide +kernel
theorem dX14_init_1 : decode cX14_init 1 = .ok (.invokespecial 1, 3) := by decide +kernel
theorem dX14_init_4 : decode cX14_init 4 = .ok (.return_, 1) := by decide +kernel
theorem q144 : (Jvm.Cond.initialized "MergeWorkbench$MoveOrder") ∈ lw_all := lw_g (lw_at lw_m1 61 rfl) rfl
theorem q307 : (Jvm.Cond.selects "MergeWorkbench$MoveOrder" ({ cls := "java/lang/Object", name := "getClass", desc := "()Ljava/lang/Class;" } : Jvm.MethodName) ({ cls := "java/lang/Object", name := "getClass", desc := "()Ljava/lang/Class;" } : Jvm.MethodName)) ∈ lw_all := lw_g (lw_at lw_m1 224 rfl) rfl
theorem q1475 : (Jvm.Cond.selects "MergeWorkbench$MoveOrder" ({ cls := "java/lang/Object", name := "equals", desc := "(Ljava/lang/Object;)Z" } : Jvm.MethodName) ({ cls := "java/lang/Object", name := "equals", desc := "(Ljava/lang/Object;)Z" } : Jvm.MethodName)) ∈ lw_all := lw_g (lw_at lw_m6 192 rfl) rfl
theorem q1909 : (Jvm.Cond.castable "MergeWorkbench$MoveOrder" "java/util/Comparator") ∈ lw_tbl := lw_at lw_m8 146 rfl
theorem q1910 : (Jvm.Cond.selects "MergeWorkbench$MoveOrder" ({ cls := "java/util/Comparator", name := "compare", desc := "(Ljava/lang/Object;Ljava/lang/Object;)I" } : Jvm.MethodName) ({ cls := "MergeWorkbench$MoveOrder", name := "compare", desc := "(Ljava/lang/Object;Ljava/lang/Object;)I" } : Jvm.MethodName)) ∈ lw_all := lw_g (lw_at lw_m8 147 rfl) rfl
theorem q1911 : (Jvm.Cond.unhidden "MergeWorkbench$MoveOrder" "compare" "(Ljava/lang/Object;Ljava/lang/Object;)I") ∈ lw_tbl := lw_at lw_m8 148 rfl
theorem q1912 : (Jvm.Cond.instanceMethod ({ cls := "MergeWorkbench$MoveOrder", name := "compare", desc := "(Ljava/lang/Object;Ljava/lang/Object;)I" } : Jvm.MethodName)) ∈ lw_all := lw_g (lw_at lw_m8 149 rfl) rfl
theorem q1913 : (Jvm.Cond.publicMethod ({ cls := "MergeWorkbench$MoveOrder", name := "compare", desc := "(Ljava/lang/Object;Ljava/lang/Object;)I" } : Jvm.MethodName)) ∈ lw_tbl := lw_at lw_m8 150 rfl
theorem q1914 : (Jvm.Cond.code ({ cls := "MergeWorkbench$MoveOrder", name := "compare", desc := "(Ljava/lang/Object;Ljava/lang/Object;)I" } : Jvm.MethodName) prog_15_method_3_code (3 : Nat) (Option.some Jvm.ClassFile.FieldType.int)) ∈ lw_all := lw_g (lw_at lw_m8 151 rfl) rfl
theorem q1915 : (Jvm.Cond.classLink "MergeWorkbench$MoveOrder" (8 : Nat) "MergeWorkbench$Move") ∈ lw_all := lw_g (lw_at lw_m8 152 rfl) rfl
theorem q1916 : (Jvm.Cond.methodLink "MergeWorkbench$MoveOrder" (25 : Nat) ({ cls := "MergeWorkbench$MoveOrder", name := "compare", desc := "(LMergeWorkbench$Move;LMergeWorkbench$Move;)I" } : Jvm.MethodName)) ∈ lw_all := lw_g (lw_at lw_m8 153 rfl) rfl
theorem q1917 : (Jvm.Cond.instanceMethod ({ cls := "MergeWorkbench$MoveOrder", name := "compare", desc := "(LMergeWorkbench$Move;LMergeWorkbench$Move;)I" } : Jvm.MethodName)) ∈ lw_all := lw_g (lw_at lw_m8 154 rfl) rfl
theorem q1918 : (Jvm.Cond.selects "MergeWorkbench$MoveOrder" ({ cls := "MergeWorkbench$MoveOrder", name := "compare", desc := "(LMergeWorkbench$Move;LMergeWorkbench$Move;)I" } : Jvm.MethodName) ({ cls := "MergeWorkbench$MoveOrder", name := "compare", desc := "(LMergeWorkbench$Move;LMergeWorkbench$Move;)I" } : Jvm.MethodName)) ∈ lw_all := lw_g (lw_at lw_m8 155 rfl) rfl
theorem q1919 : (Jvm.Cond.code ({ cls := "MergeWorkbench$MoveOrder", name := "compare", desc := "(LMergeWorkbench$Move;LMergeWorkbench$Move;)I" } : Jvm.MethodName) prog_15_method_2_code (3 : Nat) (Option.some Jvm.ClassFile.FieldType.int)) ∈ lw_all := lw_g (lw_at lw_m8 156 rfl) rfl
theorem q1920 : (Jvm.Cond.methodLink "MergeWorkbench$MoveOrder" (13 : Nat) ({ cls := "java/lang/Integer", name := "compare", desc := "(II)I" } : Jvm.MethodName)) ∈ lw_all := lw_g (lw_at lw_m8 157 rfl) rfl
theorem q2670 : (Jvm.Cond.instantiable "MergeWorkbench$MoveOrder" (0 : Nat)) ∈ lw_all := lw_g (lw_at lw_m11 187 rfl) rfl
theorem q2672 : (Jvm.Cond.instanceMethod ({ cls := "MergeWorkbench$MoveOrder", name := "<init>", desc := "()V" } : Jvm.MethodName)) ∈ lw_all := lw_g (lw_at lw_m11 189 rfl) rfl
theorem q2673 : (Jvm.Cond.code ({ cls := "MergeWorkbench$MoveOrder", name := "<init>", desc := "()V" } : Jvm.MethodName) prog_15_method_1_code (1 : Nat) (Option.none : Option Jvm.ClassFile.FieldType)) ∈ lw_all := lw_g (lw_at lw_m11 190 rfl) rfl
theorem q2674 : (Jvm.Cond.methodLink "MergeWorkbench$MoveOrder" (1 : Nat) ({ cls := "java/lang/Object", name := "<init>", desc := "()V" } : Jvm.MethodName)) ∈ lw_all := lw_g (lw_at lw_m11 191 rfl) rfl
theorem q2675 : (Jvm.Cond.superclass "MergeWorkbench$MoveOrder" "java/lang/Object") ∈ lw_all := lw_g (lw_at lw_m11 192 rfl) rfl
theorem q2724 : (Jvm.Cond.fieldLinkNest "MergeWorkbench$MoveOrder" (19 : Nat) "MergeWorkbench$Move" "a" "I" "MergeWorkbench") ∈ lw_tbl := lw_at lw_m12 1 rfl
theorem q2727 : (Jvm.Cond.fieldLinkNest "MergeWorkbench$MoveOrder" (22 : Nat) "MergeWorkbench$Move" "b" "I" "MergeWorkbench") ∈ lw_tbl := lw_at lw_m12 4 rfl
theorem q2730 : (Jvm.Cond.fieldLinkNest "MergeWorkbench$MoveOrder" (7 : Nat) "MergeWorkbench$Move" "length" "I" "MergeWorkbench") ∈ lw_tbl := lw_at lw_m12 7 rfl
theorem q3941 : (Jvm.Cond.castable "MergeWorkbench$MoveOrder" "java/lang/Object") ∈ lw_tbl := lw_at lw_m17 18 rfl

/-! MergeWorkbench$Move -/
set_option maxRecDepth 100000
def RX15 : String := "MergeWorkbench$Move"
def TX15 : u_T := fun k => match k with
  | 0 => ("MergeWorkbench$Move", "a", "I", true)
  | 1 => ("MergeWorkbench$Move", "b", "I", true)
  | _ => ("MergeWorkbench$Move", "length", "I", true)
def tyX15 : Nat → FieldType := fun k => match k with
  | 0 => .int
  | 1 => .int
  | _ => .int
abbrev wsX150 : List Cond := u_ws RX15 TX15 3
theorem nmX15 : ∀ a, a < 3 → ∀ b, b < 3 → a ≠ b → (TX15 a).2.1 ≠ (TX15 b).2.1 := by decide +kernel
theorem tyX15_ok : ∀ k, k < 3 → parseFieldDescriptor (TX15 k).2.2.1 = some (tyX15 k) := by decide +kernel
abbrev cX15_init : ByteArray := prog_14_method_1_code
def yX15_init : MethodName := ⟨RX15, "<init>", "(III)V"⟩
def dkwX15_init_0 : List UInt8 := [42, 183, 0, 1, 42, 27, 181, 0, 7, 42, 28, 181, 0, 13, 42, 29, 181, 0, 16, 177]
abbrev dktX15_init_0 : List UInt8 := dkwX15_init_0 ++ []
theorem dksX15_init_0 : cX15_init.data.toList.drop 0 = dktX15_init_0 := by decide +kernel
theorem dX15_init_0 : decode cX15_init 0 = .ok (.aload_n 0, 1) := dk_42 (dk_at dksX15_init_0 0 rfl rfl)
theorem dX15_init_1 : decode cX15_init 1 = .ok (.invokespecial 1, 3) := dk_183 0 1 (dk_at dksX15_init_0 1 rfl rfl)
theorem dX15_init_4 : decode cX15_init 4 = .ok (.aload_n 0, 1) := dk_42 (dk_at dksX15_init_0 4 rfl rfl)
theorem dX15_init_5 : decode cX15_init 5 = .ok (.iload_n 1, 1) := dk_27 (dk_at dksX15_init_0 5 rfl rfl)
theorem dX15_init_6 : decode cX15_init 6 = .ok (.putfield 7, 3) := dk_181 0 7 (dk_at dksX15_init_0 6 rfl rfl)
theorem dX15_init_9 : decode cX15_init 9 = .ok (.aload_n 0, 1) := dk_42 (dk_at dksX15_init_0 9 rfl rfl)
theorem dX15_init_10 : decode cX15_init 10 = .ok (.iload_n 2, 1) := dk_28 (dk_at dksX15_init_0 10 rfl rfl)
theorem dX15_init_11 : decode cX15_init 11 = .ok (.putfield 13, 3) := dk_181 0 13 (dk_at dksX15_init_0 11 rfl rfl)
theorem dX15_init_14 : decode cX15_init 14 = .ok (.aload_n 0, 1) := dk_42 (dk_at dksX15_init_0 14 rfl rfl)
theorem dX15_init_15 : decode cX15_init 15 = .ok (.iload_n 3, 1) := dk_29 (dk_at dksX15_init_0 15 rfl rfl)
theorem dX15_init_16 : decode cX15_init 16 = .ok (.putfield 16, 3) := dk_181 0 16 (dk_at dksX15_init_0 16 rfl rfl)
theorem dX15_init_19 : decode cX15_init 19 = .ok (.return_, 1) := dk_177 (dk_at dksX15_init_0 19 rfl rfl)
abbrev cX15_property : ByteArray := prog_14_method_2_code
def yX15_property : MethodName := ⟨RX15, "property", "(I)I"⟩
def dkwX15_property_1 : List UInt8 := [180, 0, 16, 172]
abbrev dktX15_property_1 : List UInt8 := dkwX15_property_1 ++ []
def dkwX15_property_0 : List UInt8 := [27, 154, 0, 10, 42, 180, 0, 7, 167, 0, 19, 27, 4, 160, 0, 10, 42, 180, 0, 13, 167, 0, 7, 42]
abbrev dktX15_property_0 : List UInt8 := dkwX15_property_0 ++ dktX15_property_1
theorem dksX15_property_0 : cX15_property.data.toList.drop 0 = dktX15_property_0 := by decide +kernel
theorem dksX15_property_1 : cX15_property.data.toList.drop 24 = dktX15_property_1 := dk_seg dksX15_property_0 24 rfl rfl
theorem dX15_property_0 : decode cX15_property 0 = .ok (.iload_n 1, 1) := dk_27 (dk_at dksX15_property_0 0 rfl rfl)
theorem dX15_property_1 : decode cX15_property 1 = .ok (.ifCond .ne 10, 3) := dk_154 0 10 (dk_at dksX15_property_0 1 rfl rfl)
theorem dX15_property_4 : decode cX15_property 4 = .ok (.aload_n 0, 1) := dk_42 (dk_at dksX15_property_0 4 rfl rfl)
theorem dX15_property_5 : decode cX15_property 5 = .ok (.getfield 7, 3) := dk_180 0 7 (dk_at dksX15_property_0 5 rfl rfl)
theorem dX15_property_8 : decode cX15_property 8 = .ok (.goto 19, 3) := dk_167 0 19 (dk_at dksX15_property_0 8 rfl rfl)
theorem dX15_property_11 : decode cX15_property 11 = .ok (.iload_n 1, 1) := dk_27 (dk_at dksX15_property_0 11 rfl rfl)
theorem dX15_property_12 : decode cX15_property 12 = .ok (.iconst 1, 1) := dk_4 (dk_at dksX15_property_0 12 rfl rfl)
theorem dX15_property_13 : decode cX15_property 13 = .ok (.if_icmp .ne 10, 3) := dk_160 0 10 (dk_at dksX15_property_0 13 rfl rfl)
theorem dX15_property_16 : decode cX15_property 16 = .ok (.aload_n 0, 1) := dk_42 (dk_at dksX15_property_0 16 rfl rfl)
theorem dX15_property_17 : decode cX15_property 17 = .ok (.getfield 13, 3) := dk_180 0 13 (dk_at dksX15_property_0 17 rfl rfl)
theorem dX15_property_20 : decode cX15_property 20 = .ok (.goto 7, 3) := dk_167 0 7 (dk_at dksX15_property_0 20 rfl rfl)
theorem dX15_property_23 : decode cX15_property 23 = .ok (.aload_n 0, 1) := dk_42 (dk_at dksX15_property_0 23 rfl rfl)
theorem dX15_property_24 : decode cX15_property 24 = .ok (.getfield 16, 3) := dk_180 0 16 (dk_at dksX15_property_1 0 rfl rfl)
theorem dX15_property_27 : decode cX15_property 27 = .ok (.ireturn, 1) := dk_172 (dk_at dksX15_property_1 3 rfl rfl)
theorem q145 : (Jvm.Cond.initialized "MergeWorkbench$Move") ∈ lw_all := lw_g (lw_at lw_m1 62 rfl) rfl
theorem q306 : (Jvm.Cond.selects "MergeWorkbench$Move" ({ cls := "java/lang/Object", name := "getClass", desc := "()Ljava/lang/Class;" } : Jvm.MethodName) ({ cls := "java/lang/Object", name := "getClass", desc := "()Ljava/lang/Class;" } : Jvm.MethodName)) ∈ lw_all := lw_g (lw_at lw_m1 223 rfl) rfl
theorem q1474 : (Jvm.Cond.selects "MergeWorkbench$Move" ({ cls := "java/lang/Object", name := "equals", desc := "(Ljava/lang/Object;)Z" } : Jvm.MethodName) ({ cls := "java/lang/Object", name := "equals", desc := "(Ljava/lang/Object;)Z" } : Jvm.MethodName)) ∈ lw_all := lw_g (lw_at lw_m6 191 rfl) rfl
theorem q2718 : (Jvm.Cond.instantiable "MergeWorkbench$Move" (3 : Nat)) ∈ lw_all := lw_g (lw_at lw_m11 235 rfl) rfl
theorem q2720 : (Jvm.Cond.instanceMethod ({ cls := "MergeWorkbench$Move", name := "<init>", desc := "(III)V" } : Jvm.MethodName)) ∈ lw_all := lw_g (lw_at lw_m11 237 rfl) rfl
theorem q2721 : (Jvm.Cond.code ({ cls := "MergeWorkbench$Move", name := "<init>", desc := "(III)V" } : Jvm.MethodName) prog_14_method_1_code (4 : Nat) (Option.none : Option Jvm.ClassFile.FieldType)) ∈ lw_all := lw_g (lw_at lw_m11 238 rfl) rfl
theorem q2722 : (Jvm.Cond.methodLink "MergeWorkbench$Move" (1 : Nat) ({ cls := "java/lang/Object", name := "<init>", desc := "()V" } : Jvm.MethodName)) ∈ lw_all := lw_g (lw_at lw_m11 239 rfl) rfl
theorem q2723 : (Jvm.Cond.fieldLink "MergeWorkbench$Move" (7 : Nat) "MergeWorkbench$Move" "a" "I") ∈ lw_all := lw_g (lw_at lw_m12 0 rfl) rfl
theorem q2726 : (Jvm.Cond.fieldLink "MergeWorkbench$Move" (13 : Nat) "MergeWorkbench$Move" "b" "I") ∈ lw_all := lw_g (lw_at lw_m12 3 rfl) rfl
theorem q2729 : (Jvm.Cond.fieldLink "MergeWorkbench$Move" (16 : Nat) "MergeWorkbench$Move" "length" "I") ∈ lw_all := lw_g (lw_at lw_m12 6 rfl) rfl
theorem q2732 : (Jvm.Cond.laysFinal "MergeWorkbench$Move" "MergeWorkbench$Move" "a" "I") ∈ lw_all := lw_g (lw_at lw_m12 9 rfl) rfl
theorem q2733 : (Jvm.Cond.soleField "MergeWorkbench$Move" "a") ∈ lw_all := lw_g (lw_at lw_m12 10 rfl) rfl
theorem q2734 : (Jvm.Cond.laysFinal "MergeWorkbench$Move" "MergeWorkbench$Move" "b" "I") ∈ lw_all := lw_g (lw_at lw_m12 11 rfl) rfl
theorem q2735 : (Jvm.Cond.soleField "MergeWorkbench$Move" "b") ∈ lw_all := lw_g (lw_at lw_m12 12 rfl) rfl
theorem q2736 : (Jvm.Cond.laysFinal "MergeWorkbench$Move" "MergeWorkbench$Move" "length" "I") ∈ lw_all := lw_g (lw_at lw_m12 13 rfl) rfl
theorem q2737 : (Jvm.Cond.soleField "MergeWorkbench$Move" "length") ∈ lw_all := lw_g (lw_at lw_m12 14 rfl) rfl
theorem q2738 : (Jvm.Cond.superclass "MergeWorkbench$Move" "java/lang/Object") ∈ lw_all := lw_g (lw_at lw_m12 15 rfl) rfl
theorem q2776 : (Jvm.Cond.instanceMethod ({ cls := "MergeWorkbench$Move", name := "property", desc := "(I)I" } : Jvm.MethodName)) ∈ lw_all := lw_g (lw_at lw_m12 53 rfl) rfl
theorem q2777 : (Jvm.Cond.selects "MergeWorkbench$Move" ({ cls := "MergeWorkbench$Move", name := "property", desc := "(I)I" } : Jvm.MethodName) ({ cls := "MergeWorkbench$Move", name := "property", desc := "(I)I" } : Jvm.MethodName)) ∈ lw_all := lw_g (lw_at lw_m12 54 rfl) rfl
theorem q2778 : (Jvm.Cond.code ({ cls := "MergeWorkbench$Move", name := "property", desc := "(I)I" } : Jvm.MethodName) prog_14_method_2_code (2 : Nat) (Option.some Jvm.ClassFile.FieldType.int)) ∈ lw_all := lw_g (lw_at lw_m12 55 rfl) rfl
theorem q3942 : (Jvm.Cond.castable "MergeWorkbench$Move" "java/lang/Object") ∈ lw_tbl := lw_at lw_m17 19 rfl
theorem in_X15 : ∀ w ∈ wsX150, w ∈ lw_all := lw_in wsX150 [2732, 2734, 2736] (by decide +kernel) (by decide +kernel)

/-! MergeWorkbench$Merge -/
set_option maxRecDepth 100000
def RX16 : String := "MergeWorkbench$Merge"
def TX16 : u_T := fun k => match k with
  | 0 => ("MergeWorkbench$Merge", "left", "LMergeWorkbench$Comparison;", true)
  | 1 => ("MergeWorkbench$Merge", "right", "LMergeWorkbench$Comparison;", true)
  | 2 => ("MergeWorkbench$Merge", "shrinks", "Z", true)
  | 3 => ("MergeWorkbench$Merge", "chunks", "Ljava/util/List;", true)
  | _ => ("MergeWorkbench$Merge", "conflicts", "Ljava/util/List;", true)
def tyX16 : Nat → FieldType := fun k => match k with
  | 0 => .object "MergeWorkbench$Comparison"
  | 1 => .object "MergeWorkbench$Comparison"
  | 2 => .boolean
  | 3 => .object "java/util/List"
  | _ => .object "java/util/List"
abbrev wsX160 : List Cond := u_ws RX16 TX16 5
theorem nmX16 : ∀ a, a < 5 → ∀ b, b < 5 → a ≠ b → (TX16 a).2.1 ≠ (TX16 b).2.1 := by decide +kernel
theorem tyX16_ok : ∀ k, k < 5 → parseFieldDescriptor (TX16 k).2.2.1 = some (tyX16 k) := by decide +kernel
abbrev cX16_init : ByteArray := prog_13_method_1_code
def yX16_init : MethodName := ⟨RX16, "<init>", "(LMergeWorkbench$Comparison;LMergeWorkbench$Comparison;Z)V"⟩
def dkwX16_init_9 : List UInt8 := [54, 7, 132, 8, 1, 167, 255, 105, 177]
abbrev dktX16_init_9 : List UInt8 := dkwX16_init_9 ++ []
def dkwX16_init_8 : List UInt8 := [21, 9, 21, 10, 182, 0, 63, 21, 8, 4, 96, 54, 5, 21, 9, 4, 96, 54, 6, 21, 10, 4, 96]
abbrev dktX16_init_8 : List UInt8 := dkwX16_init_8 ++ dktX16_init_9
def dkwX16_init_7 : List UInt8 := [44, 180, 0, 47, 21, 7, 21, 10, 183, 0, 56, 182, 0, 59, 21, 8, 21, 4, 162, 0, 13, 42, 21, 8]
abbrev dktX16_init_7 : List UInt8 := dkwX16_init_7 ++ dktX16_init_8
def dkwX16_init_6 : List UInt8 := [21, 8, 182, 0, 50, 187, 0, 54, 89, 43, 180, 0, 47, 21, 6, 21, 9, 183, 0, 56, 187, 0, 54, 89]
abbrev dktX16_init_6 : List UInt8 := dkwX16_init_6 ++ dktX16_init_7
def dkwX16_init_5 : List UInt8 := [180, 0, 47, 185, 0, 37, 1, 0, 54, 10, 21, 9, 155, 0, 85, 21, 10, 155, 0, 80, 42, 42, 21, 5]
abbrev dktX16_init_5 : List UInt8 := dkwX16_init_5 ++ dktX16_init_6
def dkwX16_init_4 : List UInt8 := [185, 0, 37, 1, 0, 54, 9, 21, 8, 21, 4, 162, 0, 12, 44, 21, 8, 182, 0, 43, 167, 0, 12, 44]
abbrev dktX16_init_4 : List UInt8 := dkwX16_init_4 ++ dktX16_init_5
def dkwX16_init_3 : List UInt8 := [163, 0, 150, 21, 8, 21, 4, 162, 0, 12, 43, 21, 8, 182, 0, 43, 167, 0, 12, 43, 180, 0, 47]
abbrev dktX16_init_3 : List UInt8 := dkwX16_init_3 ++ dktX16_init_4
def dkwX16_init_2 : List UInt8 := [185, 0, 37, 1, 0, 54, 4, 3, 54, 5, 3, 54, 6, 3, 54, 7, 3, 54, 8, 21, 8, 21, 4]
abbrev dktX16_init_2 : List UInt8 := dkwX16_init_2 ++ dktX16_init_3
def dkwX16_init_1 : List UInt8 := [181, 0, 18, 42, 43, 181, 0, 21, 42, 44, 181, 0, 25, 42, 29, 181, 0, 28, 43, 180, 0, 32]
abbrev dktX16_init_1 : List UInt8 := dkwX16_init_1 ++ dktX16_init_2
def dkwX16_init_0 : List UInt8 := [42, 183, 0, 3, 42, 187, 0, 9, 89, 183, 0, 11, 181, 0, 12, 42, 187, 0, 9, 89, 183, 0, 11]
abbrev dktX16_init_0 : List UInt8 := dkwX16_init_0 ++ dktX16_init_1
theorem dksX16_init_0 : cX16_init.data.toList.drop 0 = dktX16_init_0 := by decide +kernel
theorem dksX16_init_1 : cX16_init.data.toList.drop 23 = dktX16_init_1 := dk_seg dksX16_init_0 23 rfl rfl
theorem dksX16_init_2 : cX16_init.data.toList.drop 45 = dktX16_init_2 := dk_seg dksX16_init_1 22 rfl rfl
theorem dksX16_init_3 : cX16_init.data.toList.drop 68 = dktX16_init_3 := dk_seg dksX16_init_2 23 rfl rfl
theorem dksX16_init_4 : cX16_init.data.toList.drop 91 = dktX16_init_4 := dk_seg dksX16_init_3 23 rfl rfl
theorem dksX16_init_5 : cX16_init.data.toList.drop 115 = dktX16_init_5 := dk_seg dksX16_init_4 24 rfl rfl
theorem dksX16_init_6 : cX16_init.data.toList.drop 139 = dktX16_init_6 := dk_seg dksX16_init_5 24 rfl rfl
theorem dksX16_init_7 : cX16_init.data.toList.drop 163 = dktX16_init_7 := dk_seg dksX16_init_6 24 rfl rfl
theorem dksX16_init_8 : cX16_init.data.toList.drop 187 = dktX16_init_8 := dk_seg dksX16_init_7 24 rfl rfl
theorem dksX16_init_9 : cX16_init.data.toList.drop 210 = dktX16_init_9 := dk_seg dksX16_init_8 23 rfl rfl
theorem dX16_init_0 : decode cX16_init 0 = .ok (.aload_n 0, 1) := dk_42 (dk_at dksX16_init_0 0 rfl rfl)
theorem dX16_init_1 : decode cX16_init 1 = .ok (.invokespecial 3, 3) := dk_183 0 3 (dk_at dksX16_init_0 1 rfl rfl)
theorem dX16_init_4 : decode cX16_init 4 = .ok (.aload_n 0, 1) := dk_42 (dk_at dksX16_init_0 4 rfl rfl)
theorem dX16_init_5 : decode cX16_init 5 = .ok (.new 9, 3) := dk_187 0 9 (dk_at dksX16_init_0 5 rfl rfl)
theorem dX16_init_8 : decode cX16_init 8 = .ok (.dup, 1) := dk_89 (dk_at dksX16_init_0 8 rfl rfl)
theorem dX16_init_9 : decode cX16_init 9 = .ok (.invokespecial 11, 3) := dk_183 0 11 (dk_at dksX16_init_0 9 rfl rfl)
theorem dX16_init_12 : decode cX16_init 12 = .ok (.putfield 12, 3) := dk_181 0 12 (dk_at dksX16_init_0 12 rfl rfl)
theorem dX16_init_15 : decode cX16_init 15 = .ok (.aload_n 0, 1) := dk_42 (dk_at dksX16_init_0 15 rfl rfl)
theorem dX16_init_16 : decode cX16_init 16 = .ok (.new 9, 3) := dk_187 0 9 (dk_at dksX16_init_0 16 rfl rfl)
theorem dX16_init_19 : decode cX16_init 19 = .ok (.dup, 1) := dk_89 (dk_at dksX16_init_0 19 rfl rfl)
theorem dX16_init_20 : decode cX16_init 20 = .ok (.invokespecial 11, 3) := dk_183 0 11 (dk_at dksX16_init_0 20 rfl rfl)
theorem dX16_init_23 : decode cX16_init 23 = .ok (.putfield 18, 3) := dk_181 0 18 (dk_at dksX16_init_1 0 rfl rfl)
theorem dX16_init_26 : decode cX16_init 26 = .ok (.aload_n 0, 1) := dk_42 (dk_at dksX16_init_1 3 rfl rfl)
theorem dX16_init_27 : decode cX16_init 27 = .ok (.aload_n 1, 1) := dk_43 (dk_at dksX16_init_1 4 rfl rfl)
theorem dX16_init_28 : decode cX16_init 28 = .ok (.putfield 21, 3) := dk_181 0 21 (dk_at dksX16_init_1 5 rfl rfl)
theorem dX16_init_31 : decode cX16_init 31 = .ok (.aload_n 0, 1) := dk_42 (dk_at dksX16_init_1 8 rfl rfl)
theorem dX16_init_32 : decode cX16_init 32 = .ok (.aload_n 2, 1) := dk_44 (dk_at dksX16_init_1 9 rfl rfl)
theorem dX16_init_33 : decode cX16_init 33 = .ok (.putfield 25, 3) := dk_181 0 25 (dk_at dksX16_init_1 10 rfl rfl)
theorem dX16_init_36 : decode cX16_init 36 = .ok (.aload_n 0, 1) := dk_42 (dk_at dksX16_init_1 13 rfl rfl)
theorem dX16_init_37 : decode cX16_init 37 = .ok (.iload_n 3, 1) := dk_29 (dk_at dksX16_init_1 14 rfl rfl)
theorem dX16_init_38 : decode cX16_init 38 = .ok (.putfield 28, 3) := dk_181 0 28 (dk_at dksX16_init_1 15 rfl rfl)
theorem dX16_init_41 : decode cX16_init 41 = .ok (.aload_n 1, 1) := dk_43 (dk_at dksX16_init_1 18 rfl rfl)
theorem dX16_init_42 : decode cX16_init 42 = .ok (.getfield 32, 3) := dk_180 0 32 (dk_at dksX16_init_1 19 rfl rfl)
theorem dX16_init_45 : decode cX16_init 45 = .ok (.invokeinterface 37 1, 5) := by decide +kernel
theorem dX16_init_50 : decode cX16_init 50 = .ok (.istore 4, 2) := dk_54 4 (dk_at dksX16_init_2 5 rfl rfl)
theorem dX16_init_52 : decode cX16_init 52 = .ok (.iconst 0, 1) := dk_3 (dk_at dksX16_init_2 7 rfl rfl)
theorem dX16_init_53 : decode cX16_init 53 = .ok (.istore 5, 2) := dk_54 5 (dk_at dksX16_init_2 8 rfl rfl)
theorem dX16_init_55 : decode cX16_init 55 = .ok (.iconst 0, 1) := dk_3 (dk_at dksX16_init_2 10 rfl rfl)
theorem dX16_init_56 : decode cX16_init 56 = .ok (.istore 6, 2) := dk_54 6 (dk_at dksX16_init_2 11 rfl rfl)
theorem dX16_init_58 : decode cX16_init 58 = .ok (.iconst 0, 1) := dk_3 (dk_at dksX16_init_2 13 rfl rfl)
theorem dX16_init_59 : decode cX16_init 59 = .ok (.istore 7, 2) := dk_54 7 (dk_at dksX16_init_2 14 rfl rfl)
theorem dX16_init_61 : decode cX16_init 61 = .ok (.iconst 0, 1) := dk_3 (dk_at dksX16_init_2 16 rfl rfl)
theorem dX16_init_62 : decode cX16_init 62 = .ok (.istore 8, 2) := dk_54 8 (dk_at dksX16_init_2 17 rfl rfl)
theorem dX16_init_64 : decode cX16_init 64 = .ok (.iload 8, 2) := dk_21 8 (dk_at dksX16_init_2 19 rfl rfl)
theorem dX16_init_66 : decode cX16_init 66 = .ok (.iload 4, 2) := dk_21 4 (dk_at dksX16_init_2 21 rfl rfl)
theorem dX16_init_68 : decode cX16_init 68 = .ok (.if_icmp .gt 150, 3) := dk_163 0 150 (dk_at dksX16_init_3 0 rfl rfl)
theorem dX16_init_71 : decode cX16_init 71 = .ok (.iload 8, 2) := dk_21 8 (dk_at dksX16_init_3 3 rfl rfl)
theorem dX16_init_73 : decode cX16_init 73 = .ok (.iload 4, 2) := dk_21 4 (dk_at dksX16_init_3 5 rfl rfl)
theorem dX16_init_75 : decode cX16_init 75 = .ok (.if_icmp .ge 12, 3) := dk_162 0 12 (dk_at dksX16_init_3 7 rfl rfl)
theorem dX16_init_78 : decode cX16_init 78 = .ok (.aload_n 1, 1) := dk_43 (dk_at dksX16_init_3 10 rfl rfl)
theorem dX16_init_79 : decode cX16_init 79 = .ok (.iload 8, 2) := dk_21 8 (dk_at dksX16_init_3 11 rfl rfl)
theorem dX16_init_81 : decode cX16_init 81 = .ok (.invokevirtual 43, 3) := dk_182 0 43 (dk_at dksX16_init_3 13 rfl rfl)
theorem dX16_init_84 : decode cX16_init 84 = .ok (.goto 12, 3) := dk_167 0 12 (dk_at dksX16_init_3 16 rfl rfl)
theorem dX16_init_87 : decode cX16_init 87 = .ok (.aload_n 1, 1) := dk_43 (dk_at dksX16_init_3 19 rfl rfl)
theorem dX16_init_88 : decode cX16_init 88 = .ok (.getfield 47, 3) := dk_180 0 47 (dk_at dksX16_init_3 20 rfl rfl)
theorem dX16_init_91 : decode cX16_init 91 = .ok (.invokeinterface 37 1, 5) := by decide +kernel
theorem dX16_init_96 : decode cX16_init 96 = .ok (.istore 9, 2) := dk_54 9 (dk_at dksX16_init_4 5 rfl rfl)
theorem dX16_init_98 : decode cX16_init 98 = .ok (.iload 8, 2) := dk_21 8 (dk_at dksX16_init_4 7 rfl rfl)
theorem dX16_init_100 : decode cX16_init 100 = .ok (.iload 4, 2) := dk_21 4 (dk_at dksX16_init_4 9 rfl rfl)
theorem dX16_init_102 : decode cX16_init 102 = .ok (.if_icmp .ge 12, 3) := dk_162 0 12 (dk_at dksX16_init_4 11 rfl rfl)
theorem dX16_init_105 : decode cX16_init 105 = .ok (.aload_n 2, 1) := dk_44 (dk_at dksX16_init_4 14 rfl rfl)
theorem dX16_init_106 : decode cX16_init 106 = .ok (.iload 8, 2) := dk_21 8 (dk_at dksX16_init_4 15 rfl rfl)
theorem dX16_init_108 : decode cX16_init 108 = .ok (.invokevirtual 43, 3) := dk_182 0 43 (dk_at dksX16_init_4 17 rfl rfl)
theorem dX16_init_111 : decode cX16_init 111 = .ok (.goto 12, 3) := dk_167 0 12 (dk_at dksX16_init_4 20 rfl rfl)
theorem dX16_init_114 : decode cX16_init 114 = .ok (.aload_n 2, 1) := dk_44 (dk_at dksX16_init_4 23 rfl rfl)
theorem dX16_init_115 : decode cX16_init 115 = .ok (.getfield 47, 3) := dk_180 0 47 (dk_at dksX16_init_5 0 rfl rfl)
theorem dX16_init_118 : decode cX16_init 118 = .ok (.invokeinterface 37 1, 5) := by decide +kernel
theorem dX16_init_123 : decode cX16_init 123 = .ok (.istore 10, 2) := dk_54 10 (dk_at dksX16_init_5 8 rfl rfl)
theorem dX16_init_125 : decode cX16_init 125 = .ok (.iload 9, 2) := dk_21 9 (dk_at dksX16_init_5 10 rfl rfl)
theorem dX16_init_127 : decode cX16_init 127 = .ok (.ifCond .lt 85, 3) := dk_155 0 85 (dk_at dksX16_init_5 12 rfl rfl)
theorem dX16_init_130 : decode cX16_init 130 = .ok (.iload 10, 2) := dk_21 10 (dk_at dksX16_init_5 15 rfl rfl)
theorem dX16_init_132 : decode cX16_init 132 = .ok (.ifCond .lt 80, 3) := dk_155 0 80 (dk_at dksX16_init_5 17 rfl rfl)
theorem dX16_init_135 : decode cX16_init 135 = .ok (.aload_n 0, 1) := dk_42 (dk_at dksX16_init_5 20 rfl rfl)
theorem dX16_init_136 : decode cX16_init 136 = .ok (.aload_n 0, 1) := dk_42 (dk_at dksX16_init_5 21 rfl rfl)
theorem dX16_init_137 : decode cX16_init 137 = .ok (.iload 5, 2) := dk_21 5 (dk_at dksX16_init_5 22 rfl rfl)
theorem dX16_init_139 : decode cX16_init 139 = .ok (.iload 8, 2) := dk_21 8 (dk_at dksX16_init_6 0 rfl rfl)
theorem dX16_init_141 : decode cX16_init 141 = .ok (.invokevirtual 50, 3) := dk_182 0 50 (dk_at dksX16_init_6 2 rfl rfl)
theorem dX16_init_144 : decode cX16_init 144 = .ok (.new 54, 3) := dk_187 0 54 (dk_at dksX16_init_6 5 rfl rfl)
theorem dX16_init_147 : decode cX16_init 147 = .ok (.dup, 1) := dk_89 (dk_at dksX16_init_6 8 rfl rfl)
theorem dX16_init_148 : decode cX16_init 148 = .ok (.aload_n 1, 1) := dk_43 (dk_at dksX16_init_6 9 rfl rfl)
theorem dX16_init_149 : decode cX16_init 149 = .ok (.getfield 47, 3) := dk_180 0 47 (dk_at dksX16_init_6 10 rfl rfl)
theorem dX16_init_152 : decode cX16_init 152 = .ok (.iload 6, 2) := dk_21 6 (dk_at dksX16_init_6 13 rfl rfl)
theorem dX16_init_154 : decode cX16_init 154 = .ok (.iload 9, 2) := dk_21 9 (dk_at dksX16_init_6 15 rfl rfl)
theorem dX16_init_156 : decode cX16_init 156 = .ok (.invokespecial 56, 3) := dk_183 0 56 (dk_at dksX16_init_6 17 rfl rfl)
theorem dX16_init_159 : decode cX16_init 159 = .ok (.new 54, 3) := dk_187 0 54 (dk_at dksX16_init_6 20 rfl rfl)
theorem dX16_init_162 : decode cX16_init 162 = .ok (.dup, 1) := dk_89 (dk_at dksX16_init_6 23 rfl rfl)
theorem dX16_init_163 : decode cX16_init 163 = .ok (.aload_n 2, 1) := dk_44 (dk_at dksX16_init_7 0 rfl rfl)
theorem dX16_init_164 : decode cX16_init 164 = .ok (.getfield 47, 3) := dk_180 0 47 (dk_at dksX16_init_7 1 rfl rfl)
theorem dX16_init_167 : decode cX16_init 167 = .ok (.iload 7, 2) := dk_21 7 (dk_at dksX16_init_7 4 rfl rfl)
theorem dX16_init_169 : decode cX16_init 169 = .ok (.iload 10, 2) := dk_21 10 (dk_at dksX16_init_7 6 rfl rfl)
theorem dX16_init_171 : decode cX16_init 171 = .ok (.invokespecial 56, 3) := dk_183 0 56 (dk_at dksX16_init_7 8 rfl rfl)
theorem dX16_init_174 : decode cX16_init 174 = .ok (.invokevirtual 59, 3) := dk_182 0 59 (dk_at dksX16_init_7 11 rfl rfl)
theorem dX16_init_177 : decode cX16_init 177 = .ok (.iload 8, 2) := dk_21 8 (dk_at dksX16_init_7 14 rfl rfl)
theorem dX16_init_179 : decode cX16_init 179 = .ok (.iload 4, 2) := dk_21 4 (dk_at dksX16_init_7 16 rfl rfl)
theorem dX16_init_181 : decode cX16_init 181 = .ok (.if_icmp .ge 13, 3) := dk_162 0 13 (dk_at dksX16_init_7 18 rfl rfl)
theorem dX16_init_184 : decode cX16_init 184 = .ok (.aload_n 0, 1) := dk_42 (dk_at dksX16_init_7 21 rfl rfl)
theorem dX16_init_185 : decode cX16_init 185 = .ok (.iload 8, 2) := dk_21 8 (dk_at dksX16_init_7 22 rfl rfl)
theorem dX16_init_187 : decode cX16_init 187 = .ok (.iload 9, 2) := dk_21 9 (dk_at dksX16_init_8 0 rfl rfl)
theorem dX16_init_189 : decode cX16_init 189 = .ok (.iload 10, 2) := dk_21 10 (dk_at dksX16_init_8 2 rfl rfl)
theorem dX16_init_191 : decode cX16_init 191 = .ok (.invokevirtual 63, 3) := dk_182 0 63 (dk_at dksX16_init_8 4 rfl rfl)
theorem dX16_init_194 : decode cX16_init 194 = .ok (.iload 8, 2) := dk_21 8 (dk_at dksX16_init_8 7 rfl rfl)
theorem dX16_init_196 : decode cX16_init 196 = .ok (.iconst 1, 1) := dk_4 (dk_at dksX16_init_8 9 rfl rfl)
theorem dX16_init_197 : decode cX16_init 197 = .ok (.iadd, 1) := dk_96 (dk_at dksX16_init_8 10 rfl rfl)
theorem dX16_init_198 : decode cX16_init 198 = .ok (.istore 5, 2) := dk_54 5 (dk_at dksX16_init_8 11 rfl rfl)
theorem dX16_init_200 : decode cX16_init 200 = .ok (.iload 9, 2) := dk_21 9 (dk_at dksX16_init_8 13 rfl rfl)
theorem dX16_init_202 : decode cX16_init 202 = .ok (.iconst 1, 1) := dk_4 (dk_at dksX16_init_8 15 rfl rfl)
theorem dX16_init_203 : decode cX16_init 203 = .ok (.iadd, 1) := dk_96 (dk_at dksX16_init_8 16 rfl rfl)
theorem dX16_init_204 : decode cX16_init 204 = .ok (.istore 6, 2) := dk_54 6 (dk_at dksX16_init_8 17 rfl rfl)
theorem dX16_init_206 : decode cX16_init 206 = .ok (.iload 10, 2) := dk_21 10 (dk_at dksX16_init_8 19 rfl rfl)
theorem dX16_init_208 : decode cX16_init 208 = .ok (.iconst 1, 1) := dk_4 (dk_at dksX16_init_8 21 rfl rfl)
theorem dX16_init_209 : decode cX16_init 209 = .ok (.iadd, 1) := dk_96 (dk_at dksX16_init_8 22 rfl rfl)
theorem dX16_init_210 : decode cX16_init 210 = .ok (.istore 7, 2) := dk_54 7 (dk_at dksX16_init_9 0 rfl rfl)
theorem dX16_init_212 : decode cX16_init 212 = .ok (.iinc 8 1, 3) := dk_132 8 1 (dk_at dksX16_init_9 2 rfl rfl)
theorem dX16_init_215 : decode cX16_init 215 = .ok (.goto (-151), 3) := dk_167 255 105 (dk_at dksX16_init_9 5 rfl rfl)
theorem dX16_init_218 : decode cX16_init 218 = .ok (.return_, 1) := dk_177 (dk_at dksX16_init_9 8 rfl rfl)
abbrev cX16_baseOf : ByteArray := prog_13_method_2_code
def yX16_baseOf : MethodName := ⟨RX16, "baseOf", "(II)LMergeWorkbench$Part;"⟩
def dkwX16_baseOf_0 : List UInt8 := [187, 0, 54, 89, 42, 180, 0, 21, 180, 0, 32, 27, 28, 183, 0, 56, 176]
abbrev dktX16_baseOf_0 : List UInt8 := dkwX16_baseOf_0 ++ []
theorem dksX16_baseOf_0 : cX16_baseOf.data.toList.drop 0 = dktX16_baseOf_0 := by decide +kernel
theorem dX16_baseOf_0 : decode cX16_baseOf 0 = .ok (.new 54, 3) := dk_187 0 54 (dk_at dksX16_baseOf_0 0 rfl rfl)
theorem dX16_baseOf_3 : decode cX16_baseOf 3 = .ok (.dup, 1) := dk_89 (dk_at dksX16_baseOf_0 3 rfl rfl)
theorem dX16_baseOf_4 : decode cX16_baseOf 4 = .ok (.aload_n 0, 1) := dk_42 (dk_at dksX16_baseOf_0 4 rfl rfl)
theorem dX16_baseOf_5 : decode cX16_baseOf 5 = .ok (.getfield 21, 3) := dk_180 0 21 (dk_at dksX16_baseOf_0 5 rfl rfl)
theorem dX16_baseOf_8 : decode cX16_baseOf 8 = .ok (.getfield 32, 3) := dk_180 0 32 (dk_at dksX16_baseOf_0 8 rfl rfl)
theorem dX16_baseOf_11 : decode cX16_baseOf 11 = .ok (.iload_n 1, 1) := dk_27 (dk_at dksX16_baseOf_0 11 rfl rfl)
theorem dX16_baseOf_12 : decode cX16_baseOf 12 = .ok (.iload_n 2, 1) := dk_28 (dk_at dksX16_baseOf_0 12 rfl rfl)
theorem dX16_baseOf_13 : decode cX16_baseOf 13 = .ok (.invokespecial 56, 3) := dk_183 0 56 (dk_at dksX16_baseOf_0 13 rfl rfl)
theorem dX16_baseOf_16 : decode cX16_baseOf 16 = .ok (.areturn, 1) := dk_176 (dk_at dksX16_baseOf_0 16 rfl rfl)
abbrev cX16_addRegion : ByteArray := prog_13_method_4_code
def yX16_addRegion : MethodName := ⟨RX16, "addRegion", "(LMergeWorkbench$Part;LMergeWorkbench$Part;LMergeWorkbench$Part;)V"⟩
def dkwX16_addRegion_5 : List UInt8 := [167, 0, 10, 42, 43, 44, 45, 182, 0, 107, 177]
abbrev dktX16_addRegion_5 : List UInt8 := dkwX16_addRegion_5 ++ []
def dkwX16_addRegion_4 : List UInt8 := [153, 0, 27, 42, 180, 0, 12, 187, 0, 75, 89, 6, 43, 44, 45, 183, 0, 95, 185, 0, 98, 2, 0, 87]
abbrev dktX16_addRegion_4 : List UInt8 := dkwX16_addRegion_4 ++ dktX16_addRegion_5
def dkwX16_addRegion_3 : List UInt8 := [89, 4, 43, 44, 45, 183, 0, 95, 185, 0, 98, 2, 0, 87, 167, 0, 42, 44, 45, 182, 0, 103]
abbrev dktX16_addRegion_3 : List UInt8 := dkwX16_addRegion_3 ++ dktX16_addRegion_4
def dkwX16_addRegion_2 : List UInt8 := [185, 0, 98, 2, 0, 87, 167, 0, 74, 45, 43, 182, 0, 103, 153, 0, 27, 42, 180, 0, 12, 187, 0, 75]
abbrev dktX16_addRegion_2 : List UInt8 := dkwX16_addRegion_2 ++ dktX16_addRegion_3
def dkwX16_addRegion_1 : List UInt8 := [182, 0, 103, 153, 0, 27, 42, 180, 0, 12, 187, 0, 75, 89, 5, 43, 44, 45, 183, 0, 95]
abbrev dktX16_addRegion_1 : List UInt8 := dkwX16_addRegion_1 ++ dktX16_addRegion_2
def dkwX16_addRegion_0 : List UInt8 := [43, 182, 0, 102, 153, 0, 18, 44, 182, 0, 102, 153, 0, 11, 45, 182, 0, 102, 153, 0, 4, 177, 44, 43]
abbrev dktX16_addRegion_0 : List UInt8 := dkwX16_addRegion_0 ++ dktX16_addRegion_1
theorem dksX16_addRegion_0 : cX16_addRegion.data.toList.drop 0 = dktX16_addRegion_0 := by decide +kernel
theorem dksX16_addRegion_1 : cX16_addRegion.data.toList.drop 24 = dktX16_addRegion_1 := dk_seg dksX16_addRegion_0 24 rfl rfl
theorem dksX16_addRegion_2 : cX16_addRegion.data.toList.drop 45 = dktX16_addRegion_2 := dk_seg dksX16_addRegion_1 21 rfl rfl
theorem dksX16_addRegion_3 : cX16_addRegion.data.toList.drop 69 = dktX16_addRegion_3 := dk_seg dksX16_addRegion_2 24 rfl rfl
theorem dksX16_addRegion_4 : cX16_addRegion.data.toList.drop 91 = dktX16_addRegion_4 := dk_seg dksX16_addRegion_3 22 rfl rfl
theorem dksX16_addRegion_5 : cX16_addRegion.data.toList.drop 115 = dktX16_addRegion_5 := dk_seg dksX16_addRegion_4 24 rfl rfl
theorem dX16_addRegion_0 : decode cX16_addRegion 0 = .ok (.aload_n 1, 1) := dk_43 (dk_at dksX16_addRegion_0 0 rfl rfl)
theorem dX16_addRegion_1 : decode cX16_addRegion 1 = .ok (.invokevirtual 102, 3) := dk_182 0 102 (dk_at dksX16_addRegion_0 1 rfl rfl)
theorem dX16_addRegion_4 : decode cX16_addRegion 4 = .ok (.ifCond .eq 18, 3) := dk_153 0 18 (dk_at dksX16_addRegion_0 4 rfl rfl)
theorem dX16_addRegion_7 : decode cX16_addRegion 7 = .ok (.aload_n 2, 1) := dk_44 (dk_at dksX16_addRegion_0 7 rfl rfl)
theorem dX16_addRegion_8 : decode cX16_addRegion 8 = .ok (.invokevirtual 102, 3) := dk_182 0 102 (dk_at dksX16_addRegion_0 8 rfl rfl)
theorem dX16_addRegion_11 : decode cX16_addRegion 11 = .ok (.ifCond .eq 11, 3) := dk_153 0 11 (dk_at dksX16_addRegion_0 11 rfl rfl)
theorem dX16_addRegion_14 : decode cX16_addRegion 14 = .ok (.aload_n 3, 1) := dk_45 (dk_at dksX16_addRegion_0 14 rfl rfl)
theorem dX16_addRegion_15 : decode cX16_addRegion 15 = .ok (.invokevirtual 102, 3) := dk_182 0 102 (dk_at dksX16_addRegion_0 15 rfl rfl)
theorem dX16_addRegion_18 : decode cX16_addRegion 18 = .ok (.ifCond .eq 4, 3) := dk_153 0 4 (dk_at dksX16_addRegion_0 18 rfl rfl)
theorem dX16_addRegion_21 : decode cX16_addRegion 21 = .ok (.return_, 1) := dk_177 (dk_at dksX16_addRegion_0 21 rfl rfl)
theorem dX16_addRegion_22 : decode cX16_addRegion 22 = .ok (.aload_n 2, 1) := dk_44 (dk_at dksX16_addRegion_0 22 rfl rfl)
theorem dX16_addRegion_23 : decode cX16_addRegion 23 = .ok (.aload_n 1, 1) := dk_43 (dk_at dksX16_addRegion_0 23 rfl rfl)
theorem dX16_addRegion_24 : decode cX16_addRegion 24 = .ok (.invokevirtual 103, 3) := dk_182 0 103 (dk_at dksX16_addRegion_1 0 rfl rfl)
theorem dX16_addRegion_27 : decode cX16_addRegion 27 = .ok (.ifCond .eq 27, 3) := dk_153 0 27 (dk_at dksX16_addRegion_1 3 rfl rfl)
theorem dX16_addRegion_30 : decode cX16_addRegion 30 = .ok (.aload_n 0, 1) := dk_42 (dk_at dksX16_addRegion_1 6 rfl rfl)
theorem dX16_addRegion_31 : decode cX16_addRegion 31 = .ok (.getfield 12, 3) := dk_180 0 12 (dk_at dksX16_addRegion_1 7 rfl rfl)
theorem dX16_addRegion_34 : decode cX16_addRegion 34 = .ok (.new 75, 3) := dk_187 0 75 (dk_at dksX16_addRegion_1 10 rfl rfl)
theorem dX16_addRegion_37 : decode cX16_addRegion 37 = .ok (.dup, 1) := dk_89 (dk_at dksX16_addRegion_1 13 rfl rfl)
theorem dX16_addRegion_38 : decode cX16_addRegion 38 = .ok (.iconst 2, 1) := dk_5 (dk_at dksX16_addRegion_1 14 rfl rfl)
theorem dX16_addRegion_39 : decode cX16_addRegion 39 = .ok (.aload_n 1, 1) := dk_43 (dk_at dksX16_addRegion_1 15 rfl rfl)
theorem dX16_addRegion_40 : decode cX16_addRegion 40 = .ok (.aload_n 2, 1) := dk_44 (dk_at dksX16_addRegion_1 16 rfl rfl)
theorem dX16_addRegion_41 : decode cX16_addRegion 41 = .ok (.aload_n 3, 1) := dk_45 (dk_at dksX16_addRegion_1 17 rfl rfl)
theorem dX16_addRegion_42 : decode cX16_addRegion 42 = .ok (.invokespecial 95, 3) := dk_183 0 95 (dk_at dksX16_addRegion_1 18 rfl rfl)
theorem dX16_addRegion_45 : decode cX16_addRegion 45 = .ok (.invokeinterface 98 2, 5) := by decide +kernel
theorem dX16_addRegion_50 : decode cX16_addRegion 50 = .ok (.pop, 1) := dk_87 (dk_at dksX16_addRegion_2 5 rfl rfl)
theorem dX16_addRegion_51 : decode cX16_addRegion 51 = .ok (.goto 74, 3) := dk_167 0 74 (dk_at dksX16_addRegion_2 6 rfl rfl)
theorem dX16_addRegion_54 : decode cX16_addRegion 54 = .ok (.aload_n 3, 1) := dk_45 (dk_at dksX16_addRegion_2 9 rfl rfl)
theorem dX16_addRegion_55 : decode cX16_addRegion 55 = .ok (.aload_n 1, 1) := dk_43 (dk_at dksX16_addRegion_2 10 rfl rfl)
theorem dX16_addRegion_56 : decode cX16_addRegion 56 = .ok (.invokevirtual 103, 3) := dk_182 0 103 (dk_at dksX16_addRegion_2 11 rfl rfl)
theorem dX16_addRegion_59 : decode cX16_addRegion 59 = .ok (.ifCond .eq 27, 3) := dk_153 0 27 (dk_at dksX16_addRegion_2 14 rfl rfl)
theorem dX16_addRegion_62 : decode cX16_addRegion 62 = .ok (.aload_n 0, 1) := dk_42 (dk_at dksX16_addRegion_2 17 rfl rfl)
theorem dX16_addRegion_63 : decode cX16_addRegion 63 = .ok (.getfield 12, 3) := dk_180 0 12 (dk_at dksX16_addRegion_2 18 rfl rfl)
theorem dX16_addRegion_66 : decode cX16_addRegion 66 = .ok (.new 75, 3) := dk_187 0 75 (dk_at dksX16_addRegion_2 21 rfl rfl)
theorem dX16_addRegion_69 : decode cX16_addRegion 69 = .ok (.dup, 1) := dk_89 (dk_at dksX16_addRegion_3 0 rfl rfl)
theorem dX16_addRegion_70 : decode cX16_addRegion 70 = .ok (.iconst 1, 1) := dk_4 (dk_at dksX16_addRegion_3 1 rfl rfl)
theorem dX16_addRegion_71 : decode cX16_addRegion 71 = .ok (.aload_n 1, 1) := dk_43 (dk_at dksX16_addRegion_3 2 rfl rfl)
theorem dX16_addRegion_72 : decode cX16_addRegion 72 = .ok (.aload_n 2, 1) := dk_44 (dk_at dksX16_addRegion_3 3 rfl rfl)
theorem dX16_addRegion_73 : decode cX16_addRegion 73 = .ok (.aload_n 3, 1) := dk_45 (dk_at dksX16_addRegion_3 4 rfl rfl)
theorem dX16_addRegion_74 : decode cX16_addRegion 74 = .ok (.invokespecial 95, 3) := dk_183 0 95 (dk_at dksX16_addRegion_3 5 rfl rfl)
theorem dX16_addRegion_77 : decode cX16_addRegion 77 = .ok (.invokeinterface 98 2, 5) := by decide +kernel
theorem dX16_addRegion_82 : decode cX16_addRegion 82 = .ok (.pop, 1) := dk_87 (dk_at dksX16_addRegion_3 13 rfl rfl)
theorem dX16_addRegion_83 : decode cX16_addRegion 83 = .ok (.goto 42, 3) := dk_167 0 42 (dk_at dksX16_addRegion_3 14 rfl rfl)
theorem dX16_addRegion_86 : decode cX16_addRegion 86 = .ok (.aload_n 2, 1) := dk_44 (dk_at dksX16_addRegion_3 17 rfl rfl)
theorem dX16_addRegion_87 : decode cX16_addRegion 87 = .ok (.aload_n 3, 1) := dk_45 (dk_at dksX16_addRegion_3 18 rfl rfl)
theorem dX16_addRegion_88 : decode cX16_addRegion 88 = .ok (.invokevirtual 103, 3) := dk_182 0 103 (dk_at dksX16_addRegion_3 19 rfl rfl)
theorem dX16_addRegion_91 : decode cX16_addRegion 91 = .ok (.ifCond .eq 27, 3) := dk_153 0 27 (dk_at dksX16_addRegion_4 0 rfl rfl)
theorem dX16_addRegion_94 : decode cX16_addRegion 94 = .ok (.aload_n 0, 1) := dk_42 (dk_at dksX16_addRegion_4 3 rfl rfl)
theorem dX16_addRegion_95 : decode cX16_addRegion 95 = .ok (.getfield 12, 3) := dk_180 0 12 (dk_at dksX16_addRegion_4 4 rfl rfl)
theorem dX16_addRegion_98 : decode cX16_addRegion 98 = .ok (.new 75, 3) := dk_187 0 75 (dk_at dksX16_addRegion_4 7 rfl rfl)
theorem dX16_addRegion_101 : decode cX16_addRegion 101 = .ok (.dup, 1) := dk_89 (dk_at dksX16_addRegion_4 10 rfl rfl)
theorem dX16_addRegion_102 : decode cX16_addRegion 102 = .ok (.iconst 3, 1) := dk_6 (dk_at dksX16_addRegion_4 11 rfl rfl)
theorem dX16_addRegion_103 : decode cX16_addRegion 103 = .ok (.aload_n 1, 1) := dk_43 (dk_at dksX16_addRegion_4 12 rfl rfl)
theorem dX16_addRegion_104 : decode cX16_addRegion 104 = .ok (.aload_n 2, 1) := dk_44 (dk_at dksX16_addRegion_4 13 rfl rfl)
theorem dX16_addRegion_105 : decode cX16_addRegion 105 = .ok (.aload_n 3, 1) := dk_45 (dk_at dksX16_addRegion_4 14 rfl rfl)
theorem dX16_addRegion_106 : decode cX16_addRegion 106 = .ok (.invokespecial 95, 3) := dk_183 0 95 (dk_at dksX16_addRegion_4 15 rfl rfl)
theorem dX16_addRegion_109 : decode cX16_addRegion 109 = .ok (.invokeinterface 98 2, 5) := by decide +kernel
theorem dX16_addRegion_114 : decode cX16_addRegion 114 = .ok (.pop, 1) := dk_87 (dk_at dksX16_addRegion_4 23 rfl rfl)
theorem dX16_addRegion_115 : decode cX16_addRegion 115 = .ok (.goto 10, 3) := dk_167 0 10 (dk_at dksX16_addRegion_5 0 rfl rfl)
theorem dX16_addRegion_118 : decode cX16_addRegion 118 = .ok (.aload_n 0, 1) := dk_42 (dk_at dksX16_addRegion_5 3 rfl rfl)
theorem dX16_addRegion_119 : decode cX16_addRegion 119 = .ok (.aload_n 1, 1) := dk_43 (dk_at dksX16_addRegion_5 4 rfl rfl)
theorem dX16_addRegion_120 : decode cX16_addRegion 120 = .ok (.aload_n 2, 1) := dk_44 (dk_at dksX16_addRegion_5 5 rfl rfl)
theorem dX16_addRegion_121 : decode cX16_addRegion 121 = .ok (.aload_n 3, 1) := dk_45 (dk_at dksX16_addRegion_5 6 rfl rfl)
theorem dX16_addRegion_122 : decode cX16_addRegion 122 = .ok (.invokevirtual 107, 3) := dk_182 0 107 (dk_at dksX16_addRegion_5 7 rfl rfl)
theorem dX16_addRegion_125 : decode cX16_addRegion 125 = .ok (.return_, 1) := dk_177 (dk_at dksX16_addRegion_5 10 rfl rfl)
abbrev cX16_addConflict : ByteArray := prog_13_method_5_code
def yX16_addConflict : MethodName := ⟨RX16, "addConflict", "(LMergeWorkbench$Part;LMergeWorkbench$Part;LMergeWorkbench$Part;)V"⟩
def dkwX16_addConflict_8 : List UInt8 := [185, 0, 98, 2, 0, 87, 177]
abbrev dktX16_addConflict_8 : List UInt8 := dkwX16_addConflict_8 ++ []
def dkwX16_addConflict_7 : List UInt8 := [6, 43, 3, 182, 0, 124, 44, 21, 7, 182, 0, 124, 45, 21, 7, 182, 0, 124, 183, 0, 95]
abbrev dktX16_addConflict_7 : List UInt8 := dkwX16_addConflict_7 ++ dktX16_addConflict_8
def dkwX16_addConflict_6 : List UInt8 := [180, 0, 18, 25, 8, 185, 0, 98, 2, 0, 87, 21, 7, 158, 0, 38, 42, 180, 0, 12, 187, 0, 75, 89]
abbrev dktX16_addConflict_6 : List UInt8 := dkwX16_addConflict_6 ++ dktX16_addConflict_7
def dkwX16_addConflict_5 : List UInt8 := [21, 7, 182, 0, 114, 183, 0, 95, 58, 8, 42, 180, 0, 12, 25, 8, 185, 0, 98, 2, 0, 87, 42]
abbrev dktX16_addConflict_5 : List UInt8 := dkwX16_addConflict_5 ++ dktX16_addConflict_6
def dkwX16_addConflict_4 : List UInt8 := [185, 0, 98, 2, 0, 87, 187, 0, 75, 89, 7, 43, 25, 5, 3, 21, 7, 182, 0, 114, 25, 6, 3]
abbrev dktX16_addConflict_4 : List UInt8 := dkwX16_addConflict_4 ++ dktX16_addConflict_5
def dkwX16_addConflict_3 : List UInt8 := [6, 43, 3, 182, 0, 120, 44, 21, 4, 182, 0, 120, 45, 21, 4, 182, 0, 120, 183, 0, 95]
abbrev dktX16_addConflict_3 : List UInt8 := dkwX16_addConflict_3 ++ dktX16_addConflict_4
def dkwX16_addConflict_2 : List UInt8 := [25, 6, 182, 0, 117, 167, 0, 4, 3, 54, 7, 21, 4, 158, 0, 38, 42, 180, 0, 12, 187, 0, 75, 89]
abbrev dktX16_addConflict_2 : List UInt8 := dkwX16_addConflict_2 ++ dktX16_addConflict_3
def dkwX16_addConflict_1 : List UInt8 := [182, 0, 114, 58, 5, 45, 21, 4, 3, 182, 0, 114, 58, 6, 42, 180, 0, 28, 153, 0, 13, 25, 5]
abbrev dktX16_addConflict_1 : List UInt8 := dkwX16_addConflict_1 ++ dktX16_addConflict_2
def dkwX16_addConflict_0 : List UInt8 := [42, 180, 0, 28, 153, 0, 11, 44, 45, 182, 0, 110, 167, 0, 4, 3, 54, 4, 44, 21, 4, 3]
abbrev dktX16_addConflict_0 : List UInt8 := dkwX16_addConflict_0 ++ dktX16_addConflict_1
theorem dksX16_addConflict_0 : cX16_addConflict.data.toList.drop 0 = dktX16_addConflict_0 := by decide +kernel
theorem dksX16_addConflict_1 : cX16_addConflict.data.toList.drop 22 = dktX16_addConflict_1 := dk_seg dksX16_addConflict_0 22 rfl rfl
theorem dksX16_addConflict_2 : cX16_addConflict.data.toList.drop 45 = dktX16_addConflict_2 := dk_seg dksX16_addConflict_1 23 rfl rfl
theorem dksX16_addConflict_3 : cX16_addConflict.data.toList.drop 69 = dktX16_addConflict_3 := dk_seg dksX16_addConflict_2 24 rfl rfl
theorem dksX16_addConflict_4 : cX16_addConflict.data.toList.drop 90 = dktX16_addConflict_4 := dk_seg dksX16_addConflict_3 21 rfl rfl
theorem dksX16_addConflict_5 : cX16_addConflict.data.toList.drop 113 = dktX16_addConflict_5 := dk_seg dksX16_addConflict_4 23 rfl rfl
theorem dksX16_addConflict_6 : cX16_addConflict.data.toList.drop 136 = dktX16_addConflict_6 := dk_seg dksX16_addConflict_5 23 rfl rfl
theorem dksX16_addConflict_7 : cX16_addConflict.data.toList.drop 160 = dktX16_addConflict_7 := dk_seg dksX16_addConflict_6 24 rfl rfl
theorem dksX16_addConflict_8 : cX16_addConflict.data.toList.drop 181 = dktX16_addConflict_8 := dk_seg dksX16_addConflict_7 21 rfl rfl
theorem dX16_addConflict_0 : decode cX16_addConflict 0 = .ok (.aload_n 0, 1) := dk_42 (dk_at dksX16_addConflict_0 0 rfl rfl)
theorem dX16_addConflict_1 : decode cX16_addConflict 1 = .ok (.getfield 28, 3) := dk_180 0 28 (dk_at dksX16_addConflict_0 1 rfl rfl)
theorem dX16_addConflict_4 : decode cX16_addConflict 4 = .ok (.ifCond .eq 11, 3) := dk_153 0 11 (dk_at dksX16_addConflict_0 4 rfl rfl)
theorem dX16_addConflict_7 : decode cX16_addConflict 7 = .ok (.aload_n 2, 1) := dk_44 (dk_at dksX16_addConflict_0 7 rfl rfl)
theorem dX16_addConflict_8 : decode cX16_addConflict 8 = .ok (.aload_n 3, 1) := dk_45 (dk_at dksX16_addConflict_0 8 rfl rfl)
theorem dX16_addConflict_9 : decode cX16_addConflict 9 = .ok (.invokevirtual 110, 3) := dk_182 0 110 (dk_at dksX16_addConflict_0 9 rfl rfl)
theorem dX16_addConflict_12 : decode cX16_addConflict 12 = .ok (.goto 4, 3) := dk_167 0 4 (dk_at dksX16_addConflict_0 12 rfl rfl)
theorem dX16_addConflict_15 : decode cX16_addConflict 15 = .ok (.iconst 0, 1) := dk_3 (dk_at dksX16_addConflict_0 15 rfl rfl)
theorem dX16_addConflict_16 : decode cX16_addConflict 16 = .ok (.istore 4, 2) := dk_54 4 (dk_at dksX16_addConflict_0 16 rfl rfl)
theorem dX16_addConflict_18 : decode cX16_addConflict 18 = .ok (.aload_n 2, 1) := dk_44 (dk_at dksX16_addConflict_0 18 rfl rfl)
theorem dX16_addConflict_19 : decode cX16_addConflict 19 = .ok (.iload 4, 2) := dk_21 4 (dk_at dksX16_addConflict_0 19 rfl rfl)
theorem dX16_addConflict_21 : decode cX16_addConflict 21 = .ok (.iconst 0, 1) := dk_3 (dk_at dksX16_addConflict_0 21 rfl rfl)
theorem dX16_addConflict_22 : decode cX16_addConflict 22 = .ok (.invokevirtual 114, 3) := dk_182 0 114 (dk_at dksX16_addConflict_1 0 rfl rfl)
theorem dX16_addConflict_25 : decode cX16_addConflict 25 = .ok (.astore 5, 2) := dk_58 5 (dk_at dksX16_addConflict_1 3 rfl rfl)
theorem dX16_addConflict_27 : decode cX16_addConflict 27 = .ok (.aload_n 3, 1) := dk_45 (dk_at dksX16_addConflict_1 5 rfl rfl)
theorem dX16_addConflict_28 : decode cX16_addConflict 28 = .ok (.iload 4, 2) := dk_21 4 (dk_at dksX16_addConflict_1 6 rfl rfl)
theorem dX16_addConflict_30 : decode cX16_addConflict 30 = .ok (.iconst 0, 1) := dk_3 (dk_at dksX16_addConflict_1 8 rfl rfl)
theorem dX16_addConflict_31 : decode cX16_addConflict 31 = .ok (.invokevirtual 114, 3) := dk_182 0 114 (dk_at dksX16_addConflict_1 9 rfl rfl)
theorem dX16_addConflict_34 : decode cX16_addConflict 34 = .ok (.astore 6, 2) := dk_58 6 (dk_at dksX16_addConflict_1 12 rfl rfl)
theorem dX16_addConflict_36 : decode cX16_addConflict 36 = .ok (.aload_n 0, 1) := dk_42 (dk_at dksX16_addConflict_1 14 rfl rfl)
theorem dX16_addConflict_37 : decode cX16_addConflict 37 = .ok (.getfield 28, 3) := dk_180 0 28 (dk_at dksX16_addConflict_1 15 rfl rfl)
theorem dX16_addConflict_40 : decode cX16_addConflict 40 = .ok (.ifCond .eq 13, 3) := dk_153 0 13 (dk_at dksX16_addConflict_1 18 rfl rfl)
theorem dX16_addConflict_43 : decode cX16_addConflict 43 = .ok (.aload 5, 2) := dk_25 5 (dk_at dksX16_addConflict_1 21 rfl rfl)
theorem dX16_addConflict_45 : decode cX16_addConflict 45 = .ok (.aload 6, 2) := dk_25 6 (dk_at dksX16_addConflict_2 0 rfl rfl)
theorem dX16_addConflict_47 : decode cX16_addConflict 47 = .ok (.invokevirtual 117, 3) := dk_182 0 117 (dk_at dksX16_addConflict_2 2 rfl rfl)
theorem dX16_addConflict_50 : decode cX16_addConflict 50 = .ok (.goto 4, 3) := dk_167 0 4 (dk_at dksX16_addConflict_2 5 rfl rfl)
theorem dX16_addConflict_53 : decode cX16_addConflict 53 = .ok (.iconst 0, 1) := dk_3 (dk_at dksX16_addConflict_2 8 rfl rfl)
theorem dX16_addConflict_54 : decode cX16_addConflict 54 = .ok (.istore 7, 2) := dk_54 7 (dk_at dksX16_addConflict_2 9 rfl rfl)
theorem dX16_addConflict_56 : decode cX16_addConflict 56 = .ok (.iload 4, 2) := dk_21 4 (dk_at dksX16_addConflict_2 11 rfl rfl)
theorem dX16_addConflict_58 : decode cX16_addConflict 58 = .ok (.ifCond .le 38, 3) := dk_158 0 38 (dk_at dksX16_addConflict_2 13 rfl rfl)
theorem dX16_addConflict_61 : decode cX16_addConflict 61 = .ok (.aload_n 0, 1) := dk_42 (dk_at dksX16_addConflict_2 16 rfl rfl)
theorem dX16_addConflict_62 : decode cX16_addConflict 62 = .ok (.getfield 12, 3) := dk_180 0 12 (dk_at dksX16_addConflict_2 17 rfl rfl)
theorem dX16_addConflict_65 : decode cX16_addConflict 65 = .ok (.new 75, 3) := dk_187 0 75 (dk_at dksX16_addConflict_2 20 rfl rfl)
theorem dX16_addConflict_68 : decode cX16_addConflict 68 = .ok (.dup, 1) := dk_89 (dk_at dksX16_addConflict_2 23 rfl rfl)
theorem dX16_addConflict_69 : decode cX16_addConflict 69 = .ok (.iconst 3, 1) := dk_6 (dk_at dksX16_addConflict_3 0 rfl rfl)
theorem dX16_addConflict_70 : decode cX16_addConflict 70 = .ok (.aload_n 1, 1) := dk_43 (dk_at dksX16_addConflict_3 1 rfl rfl)
theorem dX16_addConflict_71 : decode cX16_addConflict 71 = .ok (.iconst 0, 1) := dk_3 (dk_at dksX16_addConflict_3 2 rfl rfl)
theorem dX16_addConflict_72 : decode cX16_addConflict 72 = .ok (.invokevirtual 120, 3) := dk_182 0 120 (dk_at dksX16_addConflict_3 3 rfl rfl)
theorem dX16_addConflict_75 : decode cX16_addConflict 75 = .ok (.aload_n 2, 1) := dk_44 (dk_at dksX16_addConflict_3 6 rfl rfl)
theorem dX16_addConflict_76 : decode cX16_addConflict 76 = .ok (.iload 4, 2) := dk_21 4 (dk_at dksX16_addConflict_3 7 rfl rfl)
theorem dX16_addConflict_78 : decode cX16_addConflict 78 = .ok (.invokevirtual 120, 3) := dk_182 0 120 (dk_at dksX16_addConflict_3 9 rfl rfl)
theorem dX16_addConflict_81 : decode cX16_addConflict 81 = .ok (.aload_n 3, 1) := dk_45 (dk_at dksX16_addConflict_3 12 rfl rfl)
theorem dX16_addConflict_82 : decode cX16_addConflict 82 = .ok (.iload 4, 2) := dk_21 4 (dk_at dksX16_addConflict_3 13 rfl rfl)
theorem dX16_addConflict_84 : decode cX16_addConflict 84 = .ok (.invokevirtual 120, 3) := dk_182 0 120 (dk_at dksX16_addConflict_3 15 rfl rfl)
theorem dX16_addConflict_87 : decode cX16_addConflict 87 = .ok (.invokespecial 95, 3) := dk_183 0 95 (dk_at dksX16_addConflict_3 18 rfl rfl)
theorem dX16_addConflict_90 : decode cX16_addConflict 90 = .ok (.invokeinterface 98 2, 5) := by decide +kernel
theorem dX16_addConflict_95 : decode cX16_addConflict 95 = .ok (.pop, 1) := dk_87 (dk_at dksX16_addConflict_4 5 rfl rfl)
theorem dX16_addConflict_96 : decode cX16_addConflict 96 = .ok (.new 75, 3) := dk_187 0 75 (dk_at dksX16_addConflict_4 6 rfl rfl)
theorem dX16_addConflict_99 : decode cX16_addConflict 99 = .ok (.dup, 1) := dk_89 (dk_at dksX16_addConflict_4 9 rfl rfl)
theorem dX16_addConflict_100 : decode cX16_addConflict 100 = .ok (.iconst 4, 1) := dk_7 (dk_at dksX16_addConflict_4 10 rfl rfl)
theorem dX16_addConflict_101 : decode cX16_addConflict 101 = .ok (.aload_n 1, 1) := dk_43 (dk_at dksX16_addConflict_4 11 rfl rfl)
theorem dX16_addConflict_102 : decode cX16_addConflict 102 = .ok (.aload 5, 2) := dk_25 5 (dk_at dksX16_addConflict_4 12 rfl rfl)
theorem dX16_addConflict_104 : decode cX16_addConflict 104 = .ok (.iconst 0, 1) := dk_3 (dk_at dksX16_addConflict_4 14 rfl rfl)
theorem dX16_addConflict_105 : decode cX16_addConflict 105 = .ok (.iload 7, 2) := dk_21 7 (dk_at dksX16_addConflict_4 15 rfl rfl)
theorem dX16_addConflict_107 : decode cX16_addConflict 107 = .ok (.invokevirtual 114, 3) := dk_182 0 114 (dk_at dksX16_addConflict_4 17 rfl rfl)
theorem dX16_addConflict_110 : decode cX16_addConflict 110 = .ok (.aload 6, 2) := dk_25 6 (dk_at dksX16_addConflict_4 20 rfl rfl)
theorem dX16_addConflict_112 : decode cX16_addConflict 112 = .ok (.iconst 0, 1) := dk_3 (dk_at dksX16_addConflict_4 22 rfl rfl)
theorem dX16_addConflict_113 : decode cX16_addConflict 113 = .ok (.iload 7, 2) := dk_21 7 (dk_at dksX16_addConflict_5 0 rfl rfl)
theorem dX16_addConflict_115 : decode cX16_addConflict 115 = .ok (.invokevirtual 114, 3) := dk_182 0 114 (dk_at dksX16_addConflict_5 2 rfl rfl)
theorem dX16_addConflict_118 : decode cX16_addConflict 118 = .ok (.invokespecial 95, 3) := dk_183 0 95 (dk_at dksX16_addConflict_5 5 rfl rfl)
theorem dX16_addConflict_121 : decode cX16_addConflict 121 = .ok (.astore 8, 2) := dk_58 8 (dk_at dksX16_addConflict_5 8 rfl rfl)
theorem dX16_addConflict_123 : decode cX16_addConflict 123 = .ok (.aload_n 0, 1) := dk_42 (dk_at dksX16_addConflict_5 10 rfl rfl)
theorem dX16_addConflict_124 : decode cX16_addConflict 124 = .ok (.getfield 12, 3) := dk_180 0 12 (dk_at dksX16_addConflict_5 11 rfl rfl)
theorem dX16_addConflict_127 : decode cX16_addConflict 127 = .ok (.aload 8, 2) := dk_25 8 (dk_at dksX16_addConflict_5 14 rfl rfl)
theorem dX16_addConflict_129 : decode cX16_addConflict 129 = .ok (.invokeinterface 98 2, 5) := by decide +kernel
theorem dX16_addConflict_134 : decode cX16_addConflict 134 = .ok (.pop, 1) := dk_87 (dk_at dksX16_addConflict_5 21 rfl rfl)
theorem dX16_addConflict_135 : decode cX16_addConflict 135 = .ok (.aload_n 0, 1) := dk_42 (dk_at dksX16_addConflict_5 22 rfl rfl)
theorem dX16_addConflict_136 : decode cX16_addConflict 136 = .ok (.getfield 18, 3) := dk_180 0 18 (dk_at dksX16_addConflict_6 0 rfl rfl)
theorem dX16_addConflict_139 : decode cX16_addConflict 139 = .ok (.aload 8, 2) := dk_25 8 (dk_at dksX16_addConflict_6 3 rfl rfl)
theorem dX16_addConflict_141 : decode cX16_addConflict 141 = .ok (.invokeinterface 98 2, 5) := by decide +kernel
theorem dX16_addConflict_146 : decode cX16_addConflict 146 = .ok (.pop, 1) := dk_87 (dk_at dksX16_addConflict_6 10 rfl rfl)
theorem dX16_addConflict_147 : decode cX16_addConflict 147 = .ok (.iload 7, 2) := dk_21 7 (dk_at dksX16_addConflict_6 11 rfl rfl)
theorem dX16_addConflict_149 : decode cX16_addConflict 149 = .ok (.ifCond .le 38, 3) := dk_158 0 38 (dk_at dksX16_addConflict_6 13 rfl rfl)
theorem dX16_addConflict_152 : decode cX16_addConflict 152 = .ok (.aload_n 0, 1) := dk_42 (dk_at dksX16_addConflict_6 16 rfl rfl)
theorem dX16_addConflict_153 : decode cX16_addConflict 153 = .ok (.getfield 12, 3) := dk_180 0 12 (dk_at dksX16_addConflict_6 17 rfl rfl)
theorem dX16_addConflict_156 : decode cX16_addConflict 156 = .ok (.new 75, 3) := dk_187 0 75 (dk_at dksX16_addConflict_6 20 rfl rfl)
theorem dX16_addConflict_159 : decode cX16_addConflict 159 = .ok (.dup, 1) := dk_89 (dk_at dksX16_addConflict_6 23 rfl rfl)
theorem dX16_addConflict_160 : decode cX16_addConflict 160 = .ok (.iconst 3, 1) := dk_6 (dk_at dksX16_addConflict_7 0 rfl rfl)
theorem dX16_addConflict_161 : decode cX16_addConflict 161 = .ok (.aload_n 1, 1) := dk_43 (dk_at dksX16_addConflict_7 1 rfl rfl)
theorem dX16_addConflict_162 : decode cX16_addConflict 162 = .ok (.iconst 0, 1) := dk_3 (dk_at dksX16_addConflict_7 2 rfl rfl)
theorem dX16_addConflict_163 : decode cX16_addConflict 163 = .ok (.invokevirtual 124, 3) := dk_182 0 124 (dk_at dksX16_addConflict_7 3 rfl rfl)
theorem dX16_addConflict_166 : decode cX16_addConflict 166 = .ok (.aload_n 2, 1) := dk_44 (dk_at dksX16_addConflict_7 6 rfl rfl)
theorem dX16_addConflict_167 : decode cX16_addConflict 167 = .ok (.iload 7, 2) := dk_21 7 (dk_at dksX16_addConflict_7 7 rfl rfl)
theorem dX16_addConflict_169 : decode cX16_addConflict 169 = .ok (.invokevirtual 124, 3) := dk_182 0 124 (dk_at dksX16_addConflict_7 9 rfl rfl)
theorem dX16_addConflict_172 : decode cX16_addConflict 172 = .ok (.aload_n 3, 1) := dk_45 (dk_at dksX16_addConflict_7 12 rfl rfl)
theorem dX16_addConflict_173 : decode cX16_addConflict 173 = .ok (.iload 7, 2) := dk_21 7 (dk_at dksX16_addConflict_7 13 rfl rfl)
theorem dX16_addConflict_175 : decode cX16_addConflict 175 = .ok (.invokevirtual 124, 3) := dk_182 0 124 (dk_at dksX16_addConflict_7 15 rfl rfl)
theorem dX16_addConflict_178 : decode cX16_addConflict 178 = .ok (.invokespecial 95, 3) := dk_183 0 95 (dk_at dksX16_addConflict_7 18 rfl rfl)
theorem dX16_addConflict_181 : decode cX16_addConflict 181 = .ok (.invokeinterface 98 2, 5) := by decide +kernel
theorem dX16_addConflict_186 : decode cX16_addConflict 186 = .ok (.pop, 1) := dk_87 (dk_at dksX16_addConflict_8 5 rfl rfl)
theorem dX16_addConflict_187 : decode cX16_addConflict 187 = .ok (.return_, 1) := dk_177 (dk_at dksX16_addConflict_8 6 rfl rfl)
abbrev cX16_addStable : ByteArray := prog_13_method_3_code
def yX16_addStable : MethodName := ⟨RX16, "addStable", "(III)V"⟩
def dkwX16_addStable_8 : List UInt8 := [29, 4, 96, 183, 0, 56, 183, 0, 95, 185, 0, 98, 2, 0, 87, 177]
abbrev dktX16_addStable_8 : List UInt8 := dkwX16_addStable_8 ++ []
def dkwX16_addStable_7 : List UInt8 := [42, 180, 0, 25, 180, 0, 47, 21, 5, 153, 0, 14, 25, 4, 180, 0, 93, 180, 0, 88, 167, 0, 4, 29]
abbrev dktX16_addStable_7 : List UInt8 := dkwX16_addStable_7 ++ dktX16_addStable_8
def dkwX16_addStable_6 : List UInt8 := [4, 96, 183, 0, 56, 58, 7, 42, 180, 0, 12, 187, 0, 75, 89, 3, 25, 6, 25, 7, 187, 0, 54, 89]
abbrev dktX16_addStable_6 : List UInt8 := dkwX16_addStable_6 ++ dktX16_addStable_7
def dkwX16_addStable_5 : List UInt8 := [180, 0, 21, 180, 0, 47, 21, 5, 153, 0, 14, 25, 4, 180, 0, 91, 180, 0, 88, 167, 0, 4, 28, 28]
abbrev dktX16_addStable_5 : List UInt8 := dkwX16_addStable_5 ++ dktX16_addStable_6
def dkwX16_addStable_4 : List UInt8 := [180, 0, 84, 180, 0, 88, 167, 0, 4, 27, 27, 4, 96, 182, 0, 50, 58, 6, 187, 0, 54, 89, 42]
abbrev dktX16_addStable_4 : List UInt8 := dkwX16_addStable_4 ++ dktX16_addStable_5
def dkwX16_addStable_3 : List UInt8 := [180, 0, 12, 185, 0, 37, 1, 0, 4, 100, 185, 0, 81, 2, 0, 87, 42, 21, 5, 153, 0, 14, 25, 4]
abbrev dktX16_addStable_3 : List UInt8 := dkwX16_addStable_3 ++ dktX16_addStable_4
def dkwX16_addStable_2 : List UInt8 := [180, 0, 77, 154, 0, 7, 4, 167, 0, 4, 3, 54, 5, 21, 5, 153, 0, 24, 42, 180, 0, 12, 42]
abbrev dktX16_addStable_2 : List UInt8 := dkwX16_addStable_2 ++ dktX16_addStable_3
def dkwX16_addStable_1 : List UInt8 := [185, 0, 37, 1, 0, 4, 100, 185, 0, 71, 2, 0, 192, 0, 75, 58, 4, 25, 4, 198, 0, 15, 25, 4]
abbrev dktX16_addStable_1 : List UInt8 := dkwX16_addStable_1 ++ dktX16_addStable_2
def dkwX16_addStable_0 : List UInt8 := [42, 180, 0, 12, 185, 0, 67, 1, 0, 153, 0, 7, 1, 167, 0, 26, 42, 180, 0, 12, 42, 180, 0, 12]
abbrev dktX16_addStable_0 : List UInt8 := dkwX16_addStable_0 ++ dktX16_addStable_1
theorem dksX16_addStable_0 : cX16_addStable.data.toList.drop 0 = dktX16_addStable_0 := by decide +kernel
theorem dksX16_addStable_1 : cX16_addStable.data.toList.drop 24 = dktX16_addStable_1 := dk_seg dksX16_addStable_0 24 rfl rfl
theorem dksX16_addStable_2 : cX16_addStable.data.toList.drop 48 = dktX16_addStable_2 := dk_seg dksX16_addStable_1 24 rfl rfl
theorem dksX16_addStable_3 : cX16_addStable.data.toList.drop 71 = dktX16_addStable_3 := dk_seg dksX16_addStable_2 23 rfl rfl
theorem dksX16_addStable_4 : cX16_addStable.data.toList.drop 95 = dktX16_addStable_4 := dk_seg dksX16_addStable_3 24 rfl rfl
theorem dksX16_addStable_5 : cX16_addStable.data.toList.drop 118 = dktX16_addStable_5 := dk_seg dksX16_addStable_4 23 rfl rfl
theorem dksX16_addStable_6 : cX16_addStable.data.toList.drop 142 = dktX16_addStable_6 := dk_seg dksX16_addStable_5 24 rfl rfl
theorem dksX16_addStable_7 : cX16_addStable.data.toList.drop 166 = dktX16_addStable_7 := dk_seg dksX16_addStable_6 24 rfl rfl
theorem dksX16_addStable_8 : cX16_addStable.data.toList.drop 190 = dktX16_addStable_8 := dk_seg dksX16_addStable_7 24 rfl rfl
theorem dX16_addStable_0 : decode cX16_addStable 0 = .ok (.aload_n 0, 1) := dk_42 (dk_at dksX16_addStable_0 0 rfl rfl)
theorem dX16_addStable_1 : decode cX16_addStable 1 = .ok (.getfield 12, 3) := dk_180 0 12 (dk_at dksX16_addStable_0 1 rfl rfl)
theorem dX16_addStable_4 : decode cX16_addStable 4 = .ok (.invokeinterface 67 1, 5) := by decide +kernel
theorem dX16_addStable_9 : decode cX16_addStable 9 = .ok (.ifCond .eq 7, 3) := dk_153 0 7 (dk_at dksX16_addStable_0 9 rfl rfl)
theorem dX16_addStable_12 : decode cX16_addStable 12 = .ok (.aconst_null, 1) := dk_1 (dk_at dksX16_addStable_0 12 rfl rfl)
theorem dX16_addStable_13 : decode cX16_addStable 13 = .ok (.goto 26, 3) := dk_167 0 26 (dk_at dksX16_addStable_0 13 rfl rfl)
theorem dX16_addStable_16 : decode cX16_addStable 16 = .ok (.aload_n 0, 1) := dk_42 (dk_at dksX16_addStable_0 16 rfl rfl)
theorem dX16_addStable_17 : decode cX16_addStable 17 = .ok (.getfield 12, 3) := dk_180 0 12 (dk_at dksX16_addStable_0 17 rfl rfl)
theorem dX16_addStable_20 : decode cX16_addStable 20 = .ok (.aload_n 0, 1) := dk_42 (dk_at dksX16_addStable_0 20 rfl rfl)
theorem dX16_addStable_21 : decode cX16_addStable 21 = .ok (.getfield 12, 3) := dk_180 0 12 (dk_at dksX16_addStable_0 21 rfl rfl)
theorem dX16_addStable_24 : decode cX16_addStable 24 = .ok (.invokeinterface 37 1, 5) := by decide +kernel
theorem dX16_addStable_29 : decode cX16_addStable 29 = .ok (.iconst 1, 1) := dk_4 (dk_at dksX16_addStable_1 5 rfl rfl)
theorem dX16_addStable_30 : decode cX16_addStable 30 = .ok (.isub, 1) := dk_100 (dk_at dksX16_addStable_1 6 rfl rfl)
theorem dX16_addStable_31 : decode cX16_addStable 31 = .ok (.invokeinterface 71 2, 5) := by decide +kernel
theorem dX16_addStable_36 : decode cX16_addStable 36 = .ok (.checkcast 75, 3) := dk_192 0 75 (dk_at dksX16_addStable_1 12 rfl rfl)
theorem dX16_addStable_39 : decode cX16_addStable 39 = .ok (.astore 4, 2) := dk_58 4 (dk_at dksX16_addStable_1 15 rfl rfl)
theorem dX16_addStable_41 : decode cX16_addStable 41 = .ok (.aload 4, 2) := dk_25 4 (dk_at dksX16_addStable_1 17 rfl rfl)
theorem dX16_addStable_43 : decode cX16_addStable 43 = .ok (.ifnull 15, 3) := dk_198 0 15 (dk_at dksX16_addStable_1 19 rfl rfl)
theorem dX16_addStable_46 : decode cX16_addStable 46 = .ok (.aload 4, 2) := dk_25 4 (dk_at dksX16_addStable_1 22 rfl rfl)
theorem dX16_addStable_48 : decode cX16_addStable 48 = .ok (.getfield 77, 3) := dk_180 0 77 (dk_at dksX16_addStable_2 0 rfl rfl)
theorem dX16_addStable_51 : decode cX16_addStable 51 = .ok (.ifCond .ne 7, 3) := dk_154 0 7 (dk_at dksX16_addStable_2 3 rfl rfl)
theorem dX16_addStable_54 : decode cX16_addStable 54 = .ok (.iconst 1, 1) := dk_4 (dk_at dksX16_addStable_2 6 rfl rfl)
theorem dX16_addStable_55 : decode cX16_addStable 55 = .ok (.goto 4, 3) := dk_167 0 4 (dk_at dksX16_addStable_2 7 rfl rfl)
theorem dX16_addStable_58 : decode cX16_addStable 58 = .ok (.iconst 0, 1) := dk_3 (dk_at dksX16_addStable_2 10 rfl rfl)
theorem dX16_addStable_59 : decode cX16_addStable 59 = .ok (.istore 5, 2) := dk_54 5 (dk_at dksX16_addStable_2 11 rfl rfl)
theorem dX16_addStable_61 : decode cX16_addStable 61 = .ok (.iload 5, 2) := dk_21 5 (dk_at dksX16_addStable_2 13 rfl rfl)
theorem dX16_addStable_63 : decode cX16_addStable 63 = .ok (.ifCond .eq 24, 3) := dk_153 0 24 (dk_at dksX16_addStable_2 15 rfl rfl)
theorem dX16_addStable_66 : decode cX16_addStable 66 = .ok (.aload_n 0, 1) := dk_42 (dk_at dksX16_addStable_2 18 rfl rfl)
theorem dX16_addStable_67 : decode cX16_addStable 67 = .ok (.getfield 12, 3) := dk_180 0 12 (dk_at dksX16_addStable_2 19 rfl rfl)
theorem dX16_addStable_70 : decode cX16_addStable 70 = .ok (.aload_n 0, 1) := dk_42 (dk_at dksX16_addStable_2 22 rfl rfl)
theorem dX16_addStable_71 : decode cX16_addStable 71 = .ok (.getfield 12, 3) := dk_180 0 12 (dk_at dksX16_addStable_3 0 rfl rfl)
theorem dX16_addStable_74 : decode cX16_addStable 74 = .ok (.invokeinterface 37 1, 5) := by decide +kernel
theorem dX16_addStable_79 : decode cX16_addStable 79 = .ok (.iconst 1, 1) := dk_4 (dk_at dksX16_addStable_3 8 rfl rfl)
theorem dX16_addStable_80 : decode cX16_addStable 80 = .ok (.isub, 1) := dk_100 (dk_at dksX16_addStable_3 9 rfl rfl)
theorem dX16_addStable_81 : decode cX16_addStable 81 = .ok (.invokeinterface 81 2, 5) := by decide +kernel
theorem dX16_addStable_86 : decode cX16_addStable 86 = .ok (.pop, 1) := dk_87 (dk_at dksX16_addStable_3 15 rfl rfl)
theorem dX16_addStable_87 : decode cX16_addStable 87 = .ok (.aload_n 0, 1) := dk_42 (dk_at dksX16_addStable_3 16 rfl rfl)
theorem dX16_addStable_88 : decode cX16_addStable 88 = .ok (.iload 5, 2) := dk_21 5 (dk_at dksX16_addStable_3 17 rfl rfl)
theorem dX16_addStable_90 : decode cX16_addStable 90 = .ok (.ifCond .eq 14, 3) := dk_153 0 14 (dk_at dksX16_addStable_3 19 rfl rfl)
theorem dX16_addStable_93 : decode cX16_addStable 93 = .ok (.aload 4, 2) := dk_25 4 (dk_at dksX16_addStable_3 22 rfl rfl)
theorem dX16_addStable_95 : decode cX16_addStable 95 = .ok (.getfield 84, 3) := dk_180 0 84 (dk_at dksX16_addStable_4 0 rfl rfl)
theorem dX16_addStable_98 : decode cX16_addStable 98 = .ok (.getfield 88, 3) := dk_180 0 88 (dk_at dksX16_addStable_4 3 rfl rfl)
theorem dX16_addStable_101 : decode cX16_addStable 101 = .ok (.goto 4, 3) := dk_167 0 4 (dk_at dksX16_addStable_4 6 rfl rfl)
theorem dX16_addStable_104 : decode cX16_addStable 104 = .ok (.iload_n 1, 1) := dk_27 (dk_at dksX16_addStable_4 9 rfl rfl)
theorem dX16_addStable_105 : decode cX16_addStable 105 = .ok (.iload_n 1, 1) := dk_27 (dk_at dksX16_addStable_4 10 rfl rfl)
theorem dX16_addStable_106 : decode cX16_addStable 106 = .ok (.iconst 1, 1) := dk_4 (dk_at dksX16_addStable_4 11 rfl rfl)
theorem dX16_addStable_107 : decode cX16_addStable 107 = .ok (.iadd, 1) := dk_96 (dk_at dksX16_addStable_4 12 rfl rfl)
theorem dX16_addStable_108 : decode cX16_addStable 108 = .ok (.invokevirtual 50, 3) := dk_182 0 50 (dk_at dksX16_addStable_4 13 rfl rfl)
theorem dX16_addStable_111 : decode cX16_addStable 111 = .ok (.astore 6, 2) := dk_58 6 (dk_at dksX16_addStable_4 16 rfl rfl)
theorem dX16_addStable_113 : decode cX16_addStable 113 = .ok (.new 54, 3) := dk_187 0 54 (dk_at dksX16_addStable_4 18 rfl rfl)
theorem dX16_addStable_116 : decode cX16_addStable 116 = .ok (.dup, 1) := dk_89 (dk_at dksX16_addStable_4 21 rfl rfl)
theorem dX16_addStable_117 : decode cX16_addStable 117 = .ok (.aload_n 0, 1) := dk_42 (dk_at dksX16_addStable_4 22 rfl rfl)
theorem dX16_addStable_118 : decode cX16_addStable 118 = .ok (.getfield 21, 3) := dk_180 0 21 (dk_at dksX16_addStable_5 0 rfl rfl)
theorem dX16_addStable_121 : decode cX16_addStable 121 = .ok (.getfield 47, 3) := dk_180 0 47 (dk_at dksX16_addStable_5 3 rfl rfl)
theorem dX16_addStable_124 : decode cX16_addStable 124 = .ok (.iload 5, 2) := dk_21 5 (dk_at dksX16_addStable_5 6 rfl rfl)
theorem dX16_addStable_126 : decode cX16_addStable 126 = .ok (.ifCond .eq 14, 3) := dk_153 0 14 (dk_at dksX16_addStable_5 8 rfl rfl)
theorem dX16_addStable_129 : decode cX16_addStable 129 = .ok (.aload 4, 2) := dk_25 4 (dk_at dksX16_addStable_5 11 rfl rfl)
theorem dX16_addStable_131 : decode cX16_addStable 131 = .ok (.getfield 91, 3) := dk_180 0 91 (dk_at dksX16_addStable_5 13 rfl rfl)
theorem dX16_addStable_134 : decode cX16_addStable 134 = .ok (.getfield 88, 3) := dk_180 0 88 (dk_at dksX16_addStable_5 16 rfl rfl)
theorem dX16_addStable_137 : decode cX16_addStable 137 = .ok (.goto 4, 3) := dk_167 0 4 (dk_at dksX16_addStable_5 19 rfl rfl)
theorem dX16_addStable_140 : decode cX16_addStable 140 = .ok (.iload_n 2, 1) := dk_28 (dk_at dksX16_addStable_5 22 rfl rfl)
theorem dX16_addStable_141 : decode cX16_addStable 141 = .ok (.iload_n 2, 1) := dk_28 (dk_at dksX16_addStable_5 23 rfl rfl)
theorem dX16_addStable_142 : decode cX16_addStable 142 = .ok (.iconst 1, 1) := dk_4 (dk_at dksX16_addStable_6 0 rfl rfl)
theorem dX16_addStable_143 : decode cX16_addStable 143 = .ok (.iadd, 1) := dk_96 (dk_at dksX16_addStable_6 1 rfl rfl)
theorem dX16_addStable_144 : decode cX16_addStable 144 = .ok (.invokespecial 56, 3) := dk_183 0 56 (dk_at dksX16_addStable_6 2 rfl rfl)
theorem dX16_addStable_147 : decode cX16_addStable 147 = .ok (.astore 7, 2) := dk_58 7 (dk_at dksX16_addStable_6 5 rfl rfl)
theorem dX16_addStable_149 : decode cX16_addStable 149 = .ok (.aload_n 0, 1) := dk_42 (dk_at dksX16_addStable_6 7 rfl rfl)
theorem dX16_addStable_150 : decode cX16_addStable 150 = .ok (.getfield 12, 3) := dk_180 0 12 (dk_at dksX16_addStable_6 8 rfl rfl)
theorem dX16_addStable_153 : decode cX16_addStable 153 = .ok (.new 75, 3) := dk_187 0 75 (dk_at dksX16_addStable_6 11 rfl rfl)
theorem dX16_addStable_156 : decode cX16_addStable 156 = .ok (.dup, 1) := dk_89 (dk_at dksX16_addStable_6 14 rfl rfl)
theorem dX16_addStable_157 : decode cX16_addStable 157 = .ok (.iconst 0, 1) := dk_3 (dk_at dksX16_addStable_6 15 rfl rfl)
theorem dX16_addStable_158 : decode cX16_addStable 158 = .ok (.aload 6, 2) := dk_25 6 (dk_at dksX16_addStable_6 16 rfl rfl)
theorem dX16_addStable_160 : decode cX16_addStable 160 = .ok (.aload 7, 2) := dk_25 7 (dk_at dksX16_addStable_6 18 rfl rfl)
theorem dX16_addStable_162 : decode cX16_addStable 162 = .ok (.new 54, 3) := dk_187 0 54 (dk_at dksX16_addStable_6 20 rfl rfl)
theorem dX16_addStable_165 : decode cX16_addStable 165 = .ok (.dup, 1) := dk_89 (dk_at dksX16_addStable_6 23 rfl rfl)
theorem dX16_addStable_166 : decode cX16_addStable 166 = .ok (.aload_n 0, 1) := dk_42 (dk_at dksX16_addStable_7 0 rfl rfl)
theorem dX16_addStable_167 : decode cX16_addStable 167 = .ok (.getfield 25, 3) := dk_180 0 25 (dk_at dksX16_addStable_7 1 rfl rfl)
theorem dX16_addStable_170 : decode cX16_addStable 170 = .ok (.getfield 47, 3) := dk_180 0 47 (dk_at dksX16_addStable_7 4 rfl rfl)
theorem dX16_addStable_173 : decode cX16_addStable 173 = .ok (.iload 5, 2) := dk_21 5 (dk_at dksX16_addStable_7 7 rfl rfl)
theorem dX16_addStable_175 : decode cX16_addStable 175 = .ok (.ifCond .eq 14, 3) := dk_153 0 14 (dk_at dksX16_addStable_7 9 rfl rfl)
theorem dX16_addStable_178 : decode cX16_addStable 178 = .ok (.aload 4, 2) := dk_25 4 (dk_at dksX16_addStable_7 12 rfl rfl)
theorem dX16_addStable_180 : decode cX16_addStable 180 = .ok (.getfield 93, 3) := dk_180 0 93 (dk_at dksX16_addStable_7 14 rfl rfl)
theorem dX16_addStable_183 : decode cX16_addStable 183 = .ok (.getfield 88, 3) := dk_180 0 88 (dk_at dksX16_addStable_7 17 rfl rfl)
theorem dX16_addStable_186 : decode cX16_addStable 186 = .ok (.goto 4, 3) := dk_167 0 4 (dk_at dksX16_addStable_7 20 rfl rfl)
theorem dX16_addStable_189 : decode cX16_addStable 189 = .ok (.iload_n 3, 1) := dk_29 (dk_at dksX16_addStable_7 23 rfl rfl)
theorem dX16_addStable_190 : decode cX16_addStable 190 = .ok (.iload_n 3, 1) := dk_29 (dk_at dksX16_addStable_8 0 rfl rfl)
theorem dX16_addStable_191 : decode cX16_addStable 191 = .ok (.iconst 1, 1) := dk_4 (dk_at dksX16_addStable_8 1 rfl rfl)
theorem dX16_addStable_192 : decode cX16_addStable 192 = .ok (.iadd, 1) := dk_96 (dk_at dksX16_addStable_8 2 rfl rfl)
theorem dX16_addStable_193 : decode cX16_addStable 193 = .ok (.invokespecial 56, 3) := dk_183 0 56 (dk_at dksX16_addStable_8 3 rfl rfl)
theorem dX16_addStable_196 : decode cX16_addStable 196 = .ok (.invokespecial 95, 3) := dk_183 0 95 (dk_at dksX16_addStable_8 6 rfl rfl)
theorem dX16_addStable_199 : decode cX16_addStable 199 = .ok (.invokeinterface 98 2, 5) := by decide +kernel
theorem dX16_addStable_204 : decode cX16_addStable 204 = .ok (.pop, 1) := dk_87 (dk_at dksX16_addStable_8 14 rfl rfl)
theorem dX16_addStable_205 : decode cX16_addStable 205 = .ok (.return_, 1) := dk_177 (dk_at dksX16_addStable_8 15 rfl rfl)
abbrev cX16_unresolved : ByteArray := prog_13_method_6_code
def yX16_unresolved : MethodName := ⟨RX16, "unresolved", "()I"⟩
def dkwX16_unresolved_2 : List UInt8 := [167, 255, 222, 27, 172]
abbrev dktX16_unresolved_2 : List UInt8 := dkwX16_unresolved_2 ++ []
def dkwX16_unresolved_1 : List UInt8 := [185, 0, 136, 1, 0, 192, 0, 75, 78, 27, 45, 182, 0, 140, 153, 0, 7, 4, 167, 0, 4, 3, 96, 60]
abbrev dktX16_unresolved_1 : List UInt8 := dkwX16_unresolved_1 ++ dktX16_unresolved_2
def dkwX16_unresolved_0 : List UInt8 := [3, 60, 42, 180, 0, 18, 185, 0, 127, 1, 0, 77, 44, 185, 0, 131, 1, 0, 153, 0, 31, 44]
abbrev dktX16_unresolved_0 : List UInt8 := dkwX16_unresolved_0 ++ dktX16_unresolved_1
theorem dksX16_unresolved_0 : cX16_unresolved.data.toList.drop 0 = dktX16_unresolved_0 := by decide +kernel
theorem dksX16_unresolved_1 : cX16_unresolved.data.toList.drop 22 = dktX16_unresolved_1 := dk_seg dksX16_unresolved_0 22 rfl rfl
theorem dksX16_unresolved_2 : cX16_unresolved.data.toList.drop 46 = dktX16_unresolved_2 := dk_seg dksX16_unresolved_1 24 rfl rfl
theorem dX16_unresolved_0 : decode cX16_unresolved 0 = .ok (.iconst 0, 1) := dk_3 (dk_at dksX16_unresolved_0 0 rfl rfl)
theorem dX16_unresolved_1 : decode cX16_unresolved 1 = .ok (.istore_n 1, 1) := dk_60 (dk_at dksX16_unresolved_0 1 rfl rfl)
theorem dX16_unresolved_2 : decode cX16_unresolved 2 = .ok (.aload_n 0, 1) := dk_42 (dk_at dksX16_unresolved_0 2 rfl rfl)
theorem dX16_unresolved_3 : decode cX16_unresolved 3 = .ok (.getfield 18, 3) := dk_180 0 18 (dk_at dksX16_unresolved_0 3 rfl rfl)
theorem dX16_unresolved_6 : decode cX16_unresolved 6 = .ok (.invokeinterface 127 1, 5) := by decide +kernel
theorem dX16_unresolved_11 : decode cX16_unresolved 11 = .ok (.astore_n 2, 1) := dk_77 (dk_at dksX16_unresolved_0 11 rfl rfl)
theorem dX16_unresolved_12 : decode cX16_unresolved 12 = .ok (.aload_n 2, 1) := dk_44 (dk_at dksX16_unresolved_0 12 rfl rfl)
theorem dX16_unresolved_13 : decode cX16_unresolved 13 = .ok (.invokeinterface 131 1, 5) := by decide +kernel
theorem dX16_unresolved_18 : decode cX16_unresolved 18 = .ok (.ifCond .eq 31, 3) := dk_153 0 31 (dk_at dksX16_unresolved_0 18 rfl rfl)
theorem dX16_unresolved_21 : decode cX16_unresolved 21 = .ok (.aload_n 2, 1) := dk_44 (dk_at dksX16_unresolved_0 21 rfl rfl)
theorem dX16_unresolved_22 : decode cX16_unresolved 22 = .ok (.invokeinterface 136 1, 5) := by decide +kernel
theorem dX16_unresolved_27 : decode cX16_unresolved 27 = .ok (.checkcast 75, 3) := dk_192 0 75 (dk_at dksX16_unresolved_1 5 rfl rfl)
theorem dX16_unresolved_30 : decode cX16_unresolved 30 = .ok (.astore_n 3, 1) := dk_78 (dk_at dksX16_unresolved_1 8 rfl rfl)
theorem dX16_unresolved_31 : decode cX16_unresolved 31 = .ok (.iload_n 1, 1) := dk_27 (dk_at dksX16_unresolved_1 9 rfl rfl)
theorem dX16_unresolved_32 : decode cX16_unresolved 32 = .ok (.aload_n 3, 1) := dk_45 (dk_at dksX16_unresolved_1 10 rfl rfl)
theorem dX16_unresolved_33 : decode cX16_unresolved 33 = .ok (.invokevirtual 140, 3) := dk_182 0 140 (dk_at dksX16_unresolved_1 11 rfl rfl)
theorem dX16_unresolved_36 : decode cX16_unresolved 36 = .ok (.ifCond .eq 7, 3) := dk_153 0 7 (dk_at dksX16_unresolved_1 14 rfl rfl)
theorem dX16_unresolved_39 : decode cX16_unresolved 39 = .ok (.iconst 1, 1) := dk_4 (dk_at dksX16_unresolved_1 17 rfl rfl)
theorem dX16_unresolved_40 : decode cX16_unresolved 40 = .ok (.goto 4, 3) := dk_167 0 4 (dk_at dksX16_unresolved_1 18 rfl rfl)
theorem dX16_unresolved_43 : decode cX16_unresolved 43 = .ok (.iconst 0, 1) := dk_3 (dk_at dksX16_unresolved_1 21 rfl rfl)
theorem dX16_unresolved_44 : decode cX16_unresolved 44 = .ok (.iadd, 1) := dk_96 (dk_at dksX16_unresolved_1 22 rfl rfl)
theorem dX16_unresolved_45 : decode cX16_unresolved 45 = .ok (.istore_n 1, 1) := dk_60 (dk_at dksX16_unresolved_1 23 rfl rfl)
theorem dX16_unresolved_46 : decode cX16_unresolved 46 = .ok (.goto (-34), 3) := dk_167 255 222 (dk_at dksX16_unresolved_2 0 rfl rfl)
theorem dX16_unresolved_49 : decode cX16_unresolved 49 = .ok (.iload_n 1, 1) := dk_27 (dk_at dksX16_unresolved_2 3 rfl rfl)
theorem dX16_unresolved_50 : decode cX16_unresolved 50 = .ok (.ireturn, 1) := dk_172 (dk_at dksX16_unresolved_2 4 rfl rfl)
abbrev cX16_result : ByteArray := prog_13_method_7_code
def yX16_result : MethodName := ⟨RX16, "result", "()Ljava/util/List;"⟩
def dkwX16_result_1 : List UInt8 := [153, 0, 21, 44, 185, 0, 136, 1, 0, 192, 0, 75, 78, 45, 43, 182, 0, 143, 167, 255, 232, 43, 176]
abbrev dktX16_result_1 : List UInt8 := dkwX16_result_1 ++ []
def dkwX16_result_0 : List UInt8 := [187, 0, 9, 89, 183, 0, 11, 76, 42, 180, 0, 12, 185, 0, 127, 1, 0, 77, 44, 185, 0, 131, 1, 0]
abbrev dktX16_result_0 : List UInt8 := dkwX16_result_0 ++ dktX16_result_1
theorem dksX16_result_0 : cX16_result.data.toList.drop 0 = dktX16_result_0 := by decide +kernel
theorem dksX16_result_1 : cX16_result.data.toList.drop 24 = dktX16_result_1 := dk_seg dksX16_result_0 24 rfl rfl
theorem dX16_result_0 : decode cX16_result 0 = .ok (.new 9, 3) := dk_187 0 9 (dk_at dksX16_result_0 0 rfl rfl)
theorem dX16_result_3 : decode cX16_result 3 = .ok (.dup, 1) := dk_89 (dk_at dksX16_result_0 3 rfl rfl)
theorem dX16_result_4 : decode cX16_result 4 = .ok (.invokespecial 11, 3) := dk_183 0 11 (dk_at dksX16_result_0 4 rfl rfl)
theorem dX16_result_7 : decode cX16_result 7 = .ok (.astore_n 1, 1) := dk_76 (dk_at dksX16_result_0 7 rfl rfl)
theorem dX16_result_8 : decode cX16_result 8 = .ok (.aload_n 0, 1) := dk_42 (dk_at dksX16_result_0 8 rfl rfl)
theorem dX16_result_9 : decode cX16_result 9 = .ok (.getfield 12, 3) := dk_180 0 12 (dk_at dksX16_result_0 9 rfl rfl)
theorem dX16_result_12 : decode cX16_result 12 = .ok (.invokeinterface 127 1, 5) := by decide +kernel
theorem dX16_result_17 : decode cX16_result 17 = .ok (.astore_n 2, 1) := dk_77 (dk_at dksX16_result_0 17 rfl rfl)
theorem dX16_result_18 : decode cX16_result 18 = .ok (.aload_n 2, 1) := dk_44 (dk_at dksX16_result_0 18 rfl rfl)
theorem dX16_result_19 : decode cX16_result 19 = .ok (.invokeinterface 131 1, 5) := by decide +kernel
theorem dX16_result_24 : decode cX16_result 24 = .ok (.ifCond .eq 21, 3) := dk_153 0 21 (dk_at dksX16_result_1 0 rfl rfl)
theorem dX16_result_27 : decode cX16_result 27 = .ok (.aload_n 2, 1) := dk_44 (dk_at dksX16_result_1 3 rfl rfl)
theorem dX16_result_28 : decode cX16_result 28 = .ok (.invokeinterface 136 1, 5) := by decide +kernel
theorem dX16_result_33 : decode cX16_result 33 = .ok (.checkcast 75, 3) := dk_192 0 75 (dk_at dksX16_result_1 9 rfl rfl)
theorem dX16_result_36 : decode cX16_result 36 = .ok (.astore_n 3, 1) := dk_78 (dk_at dksX16_result_1 12 rfl rfl)
theorem dX16_result_37 : decode cX16_result 37 = .ok (.aload_n 3, 1) := dk_45 (dk_at dksX16_result_1 13 rfl rfl)
theorem dX16_result_38 : decode cX16_result 38 = .ok (.aload_n 1, 1) := dk_43 (dk_at dksX16_result_1 14 rfl rfl)
theorem dX16_result_39 : decode cX16_result 39 = .ok (.invokevirtual 143, 3) := dk_182 0 143 (dk_at dksX16_result_1 15 rfl rfl)
theorem dX16_result_42 : decode cX16_result 42 = .ok (.goto (-24), 3) := dk_167 255 232 (dk_at dksX16_result_1 18 rfl rfl)
theorem dX16_result_45 : decode cX16_result 45 = .ok (.aload_n 1, 1) := dk_43 (dk_at dksX16_result_1 21 rfl rfl)
theorem dX16_result_46 : decode cX16_result 46 = .ok (.areturn, 1) := dk_176 (dk_at dksX16_result_1 22 rfl rfl)
theorem q146 : (Jvm.Cond.initialized "MergeWorkbench$Merge") ∈ lw_all := lw_g (lw_at lw_m1 63 rfl) rfl
theorem q305 : (Jvm.Cond.selects "MergeWorkbench$Merge" ({ cls := "java/lang/Object", name := "getClass", desc := "()Ljava/lang/Class;" } : Jvm.MethodName) ({ cls := "java/lang/Object", name := "getClass", desc := "()Ljava/lang/Class;" } : Jvm.MethodName)) ∈ lw_all := lw_g (lw_at lw_m1 222 rfl) rfl
theorem q1473 : (Jvm.Cond.selects "MergeWorkbench$Merge" ({ cls := "java/lang/Object", name := "equals", desc := "(Ljava/lang/Object;)Z" } : Jvm.MethodName) ({ cls := "java/lang/Object", name := "equals", desc := "(Ljava/lang/Object;)Z" } : Jvm.MethodName)) ∈ lw_all := lw_g (lw_at lw_m6 190 rfl) rfl
theorem q2380 : (Jvm.Cond.fieldLinkNest "MergeWorkbench$Merge" (88 : Nat) "MergeWorkbench$Part" "from" "I" "MergeWorkbench") ∈ lw_tbl := lw_at lw_m10 137 rfl
theorem q2415 : (Jvm.Cond.fieldLinkNest "MergeWorkbench$Merge" (32 : Nat) "MergeWorkbench$Comparison" "a" "Ljava/util/List;" "MergeWorkbench") ∈ lw_tbl := lw_at lw_m10 172 rfl
theorem q2421 : (Jvm.Cond.fieldLinkNest "MergeWorkbench$Merge" (47 : Nat) "MergeWorkbench$Comparison" "b" "Ljava/util/List;" "MergeWorkbench") ∈ lw_tbl := lw_at lw_m10 178 rfl
theorem q2787 : (Jvm.Cond.instantiable "MergeWorkbench$Merge" (5 : Nat)) ∈ lw_all := lw_g (lw_at lw_m12 64 rfl) rfl
theorem q2789 : (Jvm.Cond.instanceMethod ({ cls := "MergeWorkbench$Merge", name := "<init>", desc := "(LMergeWorkbench$Comparison;LMergeWorkbench$Comparison;Z)V" } : Jvm.MethodName)) ∈ lw_all := lw_g (lw_at lw_m12 66 rfl) rfl
theorem q2790 : (Jvm.Cond.code ({ cls := "MergeWorkbench$Merge", name := "<init>", desc := "(LMergeWorkbench$Comparison;LMergeWorkbench$Comparison;Z)V" } : Jvm.MethodName) prog_13_method_1_code (11 : Nat) (Option.none : Option Jvm.ClassFile.FieldType)) ∈ lw_all := lw_g (lw_at lw_m12 67 rfl) rfl
theorem q2791 : (Jvm.Cond.methodLink "MergeWorkbench$Merge" (3 : Nat) ({ cls := "java/lang/Object", name := "<init>", desc := "()V" } : Jvm.MethodName)) ∈ lw_all := lw_g (lw_at lw_m12 68 rfl) rfl
theorem q2792 : (Jvm.Cond.classLink "MergeWorkbench$Merge" (9 : Nat) "java/util/ArrayList") ∈ lw_all := lw_g (lw_at lw_m12 69 rfl) rfl
theorem q2793 : (Jvm.Cond.methodLink "MergeWorkbench$Merge" (11 : Nat) ({ cls := "java/util/ArrayList", name := "<init>", desc := "()V" } : Jvm.MethodName)) ∈ lw_all := lw_g (lw_at lw_m12 70 rfl) rfl
theorem q2794 : (Jvm.Cond.interfaceEntry "MergeWorkbench$Merge" (37 : Nat)) ∈ lw_tbl := lw_at lw_m12 71 rfl
theorem q2795 : (Jvm.Cond.methodLink "MergeWorkbench$Merge" (37 : Nat) ({ cls := "java/util/List", name := "size", desc := "()I" } : Jvm.MethodName)) ∈ lw_all := lw_g (lw_at lw_m12 72 rfl) rfl
theorem q2796 : (Jvm.Cond.methodLink "MergeWorkbench$Merge" (43 : Nat) ({ cls := "MergeWorkbench$Comparison", name := "partner", desc := "(I)I" } : Jvm.MethodName)) ∈ lw_all := lw_g (lw_at lw_m12 73 rfl) rfl
theorem q2797 : (Jvm.Cond.methodLink "MergeWorkbench$Merge" (50 : Nat) ({ cls := "MergeWorkbench$Merge", name := "baseOf", desc := "(II)LMergeWorkbench$Part;" } : Jvm.MethodName)) ∈ lw_all := lw_g (lw_at lw_m12 74 rfl) rfl
theorem q2798 : (Jvm.Cond.privateMethod ({ cls := "MergeWorkbench$Merge", name := "baseOf", desc := "(II)LMergeWorkbench$Part;" } : Jvm.MethodName)) ∈ lw_tbl := lw_at lw_m12 75 rfl
theorem q2799 : (Jvm.Cond.instanceMethod ({ cls := "MergeWorkbench$Merge", name := "baseOf", desc := "(II)LMergeWorkbench$Part;" } : Jvm.MethodName)) ∈ lw_all := lw_g (lw_at lw_m12 76 rfl) rfl
theorem q2800 : (Jvm.Cond.code ({ cls := "MergeWorkbench$Merge", name := "baseOf", desc := "(II)LMergeWorkbench$Part;" } : Jvm.MethodName) prog_13_method_2_code (3 : Nat) (Option.some (Jvm.ClassFile.FieldType.object "MergeWorkbench$Part"))) ∈ lw_all := lw_g (lw_at lw_m12 77 rfl) rfl
theorem q2801 : (Jvm.Cond.classLink "MergeWorkbench$Merge" (54 : Nat) "MergeWorkbench$Part") ∈ lw_all := lw_g (lw_at lw_m12 78 rfl) rfl
theorem q2802 : (Jvm.Cond.methodLink "MergeWorkbench$Merge" (56 : Nat) ({ cls := "MergeWorkbench$Part", name := "<init>", desc := "(Ljava/util/List;II)V" } : Jvm.MethodName)) ∈ lw_all := lw_g (lw_at lw_m12 79 rfl) rfl
theorem q2803 : (Jvm.Cond.methodLink "MergeWorkbench$Merge" (59 : Nat) ({ cls := "MergeWorkbench$Merge", name := "addRegion", desc := "(LMergeWorkbench$Part;LMergeWorkbench$Part;LMergeWorkbench$Part;)V" } : Jvm.MethodName)) ∈ lw_all := lw_g (lw_at lw_m12 80 rfl) rfl
theorem q2804 : (Jvm.Cond.privateMethod ({ cls := "MergeWorkbench$Merge", name := "addRegion", desc := "(LMergeWorkbench$Part;LMergeWorkbench$Part;LMergeWorkbench$Part;)V" } : Jvm.MethodName)) ∈ lw_tbl := lw_at lw_m12 81 rfl
theorem q2805 : (Jvm.Cond.instanceMethod ({ cls := "MergeWorkbench$Merge", name := "addRegion", desc := "(LMergeWorkbench$Part;LMergeWorkbench$Part;LMergeWorkbench$Part;)V" } : Jvm.MethodName)) ∈ lw_all := lw_g (lw_at lw_m12 82 rfl) rfl
theorem q2806 : (Jvm.Cond.code ({ cls := "MergeWorkbench$Merge", name := "addRegion", desc := "(LMergeWorkbench$Part;LMergeWorkbench$Part;LMergeWorkbench$Part;)V" } : Jvm.MethodName) prog_13_method_4_code (4 : Nat) (Option.none : Option Jvm.ClassFile.FieldType)) ∈ lw_all := lw_g (lw_at lw_m12 83 rfl) rfl
theorem q2807 : (Jvm.Cond.methodLink "MergeWorkbench$Merge" (102 : Nat) ({ cls := "MergeWorkbench$Part", name := "isEmpty", desc := "()Z" } : Jvm.MethodName)) ∈ lw_all := lw_g (lw_at lw_m12 84 rfl) rfl
theorem q2811 : (Jvm.Cond.methodLink "MergeWorkbench$Merge" (103 : Nat) ({ cls := "MergeWorkbench$Part", name := "isLike", desc := "(LMergeWorkbench$Part;)Z" } : Jvm.MethodName)) ∈ lw_all := lw_g (lw_at lw_m12 88 rfl) rfl
theorem q2904 : (Jvm.Cond.classLink "MergeWorkbench$Merge" (75 : Nat) "MergeWorkbench$Chunk") ∈ lw_all := lw_g (lw_at lw_m12 181 rfl) rfl
theorem q2906 : (Jvm.Cond.methodLink "MergeWorkbench$Merge" (95 : Nat) ({ cls := "MergeWorkbench$Chunk", name := "<init>", desc := "(ILMergeWorkbench$Part;LMergeWorkbench$Part;LMergeWorkbench$Part;)V" } : Jvm.MethodName)) ∈ lw_all := lw_g (lw_at lw_m12 183 rfl) rfl
theorem q2911 : (Jvm.Cond.fieldLinkNest "MergeWorkbench$Merge" (77 : Nat) "MergeWorkbench$Chunk" "kind" "I" "MergeWorkbench") ∈ lw_tbl := lw_at lw_m12 188 rfl
theorem q2913 : (Jvm.Cond.fieldLinkNest "MergeWorkbench$Merge" (84 : Nat) "MergeWorkbench$Chunk" "base" "LMergeWorkbench$Part;" "MergeWorkbench") ∈ lw_tbl := lw_at lw_m12 190 rfl
theorem q2915 : (Jvm.Cond.fieldLinkNest "MergeWorkbench$Merge" (91 : Nat) "MergeWorkbench$Chunk" "left" "LMergeWorkbench$Part;" "MergeWorkbench") ∈ lw_tbl := lw_at lw_m12 192 rfl
theorem q2917 : (Jvm.Cond.fieldLinkNest "MergeWorkbench$Merge" (93 : Nat) "MergeWorkbench$Chunk" "right" "LMergeWorkbench$Part;" "MergeWorkbench") ∈ lw_tbl := lw_at lw_m12 194 rfl
theorem q2931 : (Jvm.Cond.interfaceEntry "MergeWorkbench$Merge" (98 : Nat)) ∈ lw_tbl := lw_at lw_m12 208 rfl
theorem q2932 : (Jvm.Cond.methodLink "MergeWorkbench$Merge" (98 : Nat) ({ cls := "java/util/List", name := "add", desc := "(Ljava/lang/Object;)Z" } : Jvm.MethodName)) ∈ lw_all := lw_g (lw_at lw_m12 209 rfl) rfl
theorem q2933 : (Jvm.Cond.methodLink "MergeWorkbench$Merge" (107 : Nat) ({ cls := "MergeWorkbench$Merge", name := "addConflict", desc := "(LMergeWorkbench$Part;LMergeWorkbench$Part;LMergeWorkbench$Part;)V" } : Jvm.MethodName)) ∈ lw_all := lw_g (lw_at lw_m12 210 rfl) rfl
theorem q2934 : (Jvm.Cond.privateMethod ({ cls := "MergeWorkbench$Merge", name := "addConflict", desc := "(LMergeWorkbench$Part;LMergeWorkbench$Part;LMergeWorkbench$Part;)V" } : Jvm.MethodName)) ∈ lw_tbl := lw_at lw_m12 211 rfl
theorem q2935 : (Jvm.Cond.instanceMethod ({ cls := "MergeWorkbench$Merge", name := "addConflict", desc := "(LMergeWorkbench$Part;LMergeWorkbench$Part;LMergeWorkbench$Part;)V" } : Jvm.MethodName)) ∈ lw_all := lw_g (lw_at lw_m12 212 rfl) rfl
theorem q2936 : (Jvm.Cond.code ({ cls := "MergeWorkbench$Merge", name := "addConflict", desc := "(LMergeWorkbench$Part;LMergeWorkbench$Part;LMergeWorkbench$Part;)V" } : Jvm.MethodName) prog_13_method_5_code (9 : Nat) (Option.none : Option Jvm.ClassFile.FieldType)) ∈ lw_all := lw_g (lw_at lw_m12 213 rfl) rfl
theorem q2937 : (Jvm.Cond.methodLink "MergeWorkbench$Merge" (110 : Nat) ({ cls := "MergeWorkbench$Part", name := "commonBeginning", desc := "(LMergeWorkbench$Part;)I" } : Jvm.MethodName)) ∈ lw_all := lw_g (lw_at lw_m12 214 rfl) rfl
theorem q2938 : (Jvm.Cond.methodLink "MergeWorkbench$Merge" (114 : Nat) ({ cls := "MergeWorkbench$Part", name := "without", desc := "(II)LMergeWorkbench$Part;" } : Jvm.MethodName)) ∈ lw_all := lw_g (lw_at lw_m12 215 rfl) rfl
theorem q2944 : (Jvm.Cond.methodLink "MergeWorkbench$Merge" (117 : Nat) ({ cls := "MergeWorkbench$Part", name := "commonEnd", desc := "(LMergeWorkbench$Part;)I" } : Jvm.MethodName)) ∈ lw_all := lw_g (lw_at lw_m12 221 rfl) rfl
theorem q2948 : (Jvm.Cond.methodLink "MergeWorkbench$Merge" (120 : Nat) ({ cls := "MergeWorkbench$Part", name := "first", desc := "(I)LMergeWorkbench$Part;" } : Jvm.MethodName)) ∈ lw_all := lw_g (lw_at lw_m12 225 rfl) rfl
theorem q2952 : (Jvm.Cond.methodLink "MergeWorkbench$Merge" (124 : Nat) ({ cls := "MergeWorkbench$Part", name := "last", desc := "(I)LMergeWorkbench$Part;" } : Jvm.MethodName)) ∈ lw_all := lw_g (lw_at lw_m12 229 rfl) rfl
theorem q2956 : (Jvm.Cond.methodLink "MergeWorkbench$Merge" (63 : Nat) ({ cls := "MergeWorkbench$Merge", name := "addStable", desc := "(III)V" } : Jvm.MethodName)) ∈ lw_all := lw_g (lw_at lw_m12 233 rfl) rfl
theorem q2957 : (Jvm.Cond.privateMethod ({ cls := "MergeWorkbench$Merge", name := "addStable", desc := "(III)V" } : Jvm.MethodName)) ∈ lw_tbl := lw_at lw_m12 234 rfl
theorem q2958 : (Jvm.Cond.instanceMethod ({ cls := "MergeWorkbench$Merge", name := "addStable", desc := "(III)V" } : Jvm.MethodName)) ∈ lw_all := lw_g (lw_at lw_m12 235 rfl) rfl
theorem q2959 : (Jvm.Cond.code ({ cls := "MergeWorkbench$Merge", name := "addStable", desc := "(III)V" } : Jvm.MethodName) prog_13_method_3_code (8 : Nat) (Option.none : Option Jvm.ClassFile.FieldType)) ∈ lw_all := lw_g (lw_at lw_m12 236 rfl) rfl
theorem q2960 : (Jvm.Cond.interfaceEntry "MergeWorkbench$Merge" (67 : Nat)) ∈ lw_tbl := lw_at lw_m12 237 rfl
theorem q2961 : (Jvm.Cond.methodLink "MergeWorkbench$Merge" (67 : Nat) ({ cls := "java/util/List", name := "isEmpty", desc := "()Z" } : Jvm.MethodName)) ∈ lw_all := lw_g (lw_at lw_m12 238 rfl) rfl
theorem q2972 : (Jvm.Cond.interfaceEntry "MergeWorkbench$Merge" (71 : Nat)) ∈ lw_tbl := lw_at lw_m13 9 rfl
theorem q2973 : (Jvm.Cond.methodLink "MergeWorkbench$Merge" (71 : Nat) ({ cls := "java/util/List", name := "get", desc := "(I)Ljava/lang/Object;" } : Jvm.MethodName)) ∈ lw_all := lw_g (lw_at lw_m13 10 rfl) rfl
theorem q2974 : (Jvm.Cond.interfaceEntry "MergeWorkbench$Merge" (81 : Nat)) ∈ lw_tbl := lw_at lw_m13 11 rfl
theorem q2975 : (Jvm.Cond.methodLink "MergeWorkbench$Merge" (81 : Nat) ({ cls := "java/util/List", name := "remove", desc := "(I)Ljava/lang/Object;" } : Jvm.MethodName)) ∈ lw_all := lw_g (lw_at lw_m13 12 rfl) rfl
theorem q2976 : (Jvm.Cond.fieldLink "MergeWorkbench$Merge" (21 : Nat) "MergeWorkbench$Merge" "left" "LMergeWorkbench$Comparison;") ∈ lw_all := lw_g (lw_at lw_m13 13 rfl) rfl
theorem q2977 : (Jvm.Cond.fieldLink "MergeWorkbench$Merge" (25 : Nat) "MergeWorkbench$Merge" "right" "LMergeWorkbench$Comparison;") ∈ lw_all := lw_g (lw_at lw_m13 14 rfl) rfl
theorem q2978 : (Jvm.Cond.fieldLink "MergeWorkbench$Merge" (28 : Nat) "MergeWorkbench$Merge" "shrinks" "Z") ∈ lw_all := lw_g (lw_at lw_m13 15 rfl) rfl
theorem q2979 : (Jvm.Cond.fieldLink "MergeWorkbench$Merge" (12 : Nat) "MergeWorkbench$Merge" "chunks" "Ljava/util/List;") ∈ lw_all := lw_g (lw_at lw_m13 16 rfl) rfl
theorem q2981 : (Jvm.Cond.fieldLink "MergeWorkbench$Merge" (18 : Nat) "MergeWorkbench$Merge" "conflicts" "Ljava/util/List;") ∈ lw_all := lw_g (lw_at lw_m13 18 rfl) rfl
theorem q2983 : (Jvm.Cond.laysFinal "MergeWorkbench$Merge" "MergeWorkbench$Merge" "left" "LMergeWorkbench$Comparison;") ∈ lw_all := lw_g (lw_at lw_m13 20 rfl) rfl
theorem q2984 : (Jvm.Cond.soleField "MergeWorkbench$Merge" "left") ∈ lw_all := lw_g (lw_at lw_m13 21 rfl) rfl
theorem q2985 : (Jvm.Cond.laysFinal "MergeWorkbench$Merge" "MergeWorkbench$Merge" "right" "LMergeWorkbench$Comparison;") ∈ lw_all := lw_g (lw_at lw_m13 22 rfl) rfl
theorem q2986 : (Jvm.Cond.soleField "MergeWorkbench$Merge" "right") ∈ lw_all := lw_g (lw_at lw_m13 23 rfl) rfl
theorem q2987 : (Jvm.Cond.laysFinal "MergeWorkbench$Merge" "MergeWorkbench$Merge" "shrinks" "Z") ∈ lw_all := lw_g (lw_at lw_m13 24 rfl) rfl
theorem q2988 : (Jvm.Cond.soleField "MergeWorkbench$Merge" "shrinks") ∈ lw_all := lw_g (lw_at lw_m13 25 rfl) rfl
theorem q2989 : (Jvm.Cond.laysFinal "MergeWorkbench$Merge" "MergeWorkbench$Merge" "chunks" "Ljava/util/List;") ∈ lw_all := lw_g (lw_at lw_m13 26 rfl) rfl
theorem q2990 : (Jvm.Cond.soleField "MergeWorkbench$Merge" "chunks") ∈ lw_all := lw_g (lw_at lw_m13 27 rfl) rfl
theorem q2991 : (Jvm.Cond.laysFinal "MergeWorkbench$Merge" "MergeWorkbench$Merge" "conflicts" "Ljava/util/List;") ∈ lw_all := lw_g (lw_at lw_m13 28 rfl) rfl
theorem q2992 : (Jvm.Cond.soleField "MergeWorkbench$Merge" "conflicts") ∈ lw_all := lw_g (lw_at lw_m13 29 rfl) rfl
theorem q2993 : (Jvm.Cond.superclass "MergeWorkbench$Merge" "java/lang/Object") ∈ lw_all := lw_g (lw_at lw_m13 30 rfl) rfl
theorem q3045 : (Jvm.Cond.instanceMethod ({ cls := "MergeWorkbench$Merge", name := "unresolved", desc := "()I" } : Jvm.MethodName)) ∈ lw_all := lw_g (lw_at lw_m13 82 rfl) rfl
theorem q3046 : (Jvm.Cond.selects "MergeWorkbench$Merge" ({ cls := "MergeWorkbench$Merge", name := "unresolved", desc := "()I" } : Jvm.MethodName) ({ cls := "MergeWorkbench$Merge", name := "unresolved", desc := "()I" } : Jvm.MethodName)) ∈ lw_all := lw_g (lw_at lw_m13 83 rfl) rfl
theorem q3047 : (Jvm.Cond.code ({ cls := "MergeWorkbench$Merge", name := "unresolved", desc := "()I" } : Jvm.MethodName) prog_13_method_6_code (4 : Nat) (Option.some Jvm.ClassFile.FieldType.int)) ∈ lw_all := lw_g (lw_at lw_m13 84 rfl) rfl
theorem q3048 : (Jvm.Cond.interfaceEntry "MergeWorkbench$Merge" (127 : Nat)) ∈ lw_tbl := lw_at lw_m13 85 rfl
theorem q3049 : (Jvm.Cond.methodLink "MergeWorkbench$Merge" (127 : Nat) ({ cls := "java/util/List", name := "iterator", desc := "()Ljava/util/Iterator;" } : Jvm.MethodName)) ∈ lw_all := lw_g (lw_at lw_m13 86 rfl) rfl
theorem q3050 : (Jvm.Cond.interfaceEntry "MergeWorkbench$Merge" (131 : Nat)) ∈ lw_tbl := lw_at lw_m13 87 rfl
theorem q3051 : (Jvm.Cond.methodLink "MergeWorkbench$Merge" (131 : Nat) ({ cls := "java/util/Iterator", name := "hasNext", desc := "()Z" } : Jvm.MethodName)) ∈ lw_all := lw_g (lw_at lw_m13 88 rfl) rfl
theorem q3052 : (Jvm.Cond.interfaceEntry "MergeWorkbench$Merge" (136 : Nat)) ∈ lw_tbl := lw_at lw_m13 89 rfl
theorem q3053 : (Jvm.Cond.methodLink "MergeWorkbench$Merge" (136 : Nat) ({ cls := "java/util/Iterator", name := "next", desc := "()Ljava/lang/Object;" } : Jvm.MethodName)) ∈ lw_all := lw_g (lw_at lw_m13 90 rfl) rfl
theorem q3054 : (Jvm.Cond.methodLink "MergeWorkbench$Merge" (140 : Nat) ({ cls := "MergeWorkbench$Chunk", name := "isUnresolved", desc := "()Z" } : Jvm.MethodName)) ∈ lw_all := lw_g (lw_at lw_m13 91 rfl) rfl
theorem q3066 : (Jvm.Cond.instanceMethod ({ cls := "MergeWorkbench$Merge", name := "result", desc := "()Ljava/util/List;" } : Jvm.MethodName)) ∈ lw_all := lw_g (lw_at lw_m13 103 rfl) rfl
theorem q3067 : (Jvm.Cond.selects "MergeWorkbench$Merge" ({ cls := "MergeWorkbench$Merge", name := "result", desc := "()Ljava/util/List;" } : Jvm.MethodName) ({ cls := "MergeWorkbench$Merge", name := "result", desc := "()Ljava/util/List;" } : Jvm.MethodName)) ∈ lw_all := lw_g (lw_at lw_m13 104 rfl) rfl
theorem q3068 : (Jvm.Cond.code ({ cls := "MergeWorkbench$Merge", name := "result", desc := "()Ljava/util/List;" } : Jvm.MethodName) prog_13_method_7_code (4 : Nat) (Option.some (Jvm.ClassFile.FieldType.object "java/util/List"))) ∈ lw_all := lw_g (lw_at lw_m13 105 rfl) rfl
theorem q3069 : (Jvm.Cond.methodLink "MergeWorkbench$Merge" (143 : Nat) ({ cls := "MergeWorkbench$Chunk", name := "addResult", desc := "(Ljava/util/List;)V" } : Jvm.MethodName)) ∈ lw_all := lw_g (lw_at lw_m13 106 rfl) rfl
theorem q3943 : (Jvm.Cond.castable "MergeWorkbench$Merge" "java/lang/Object") ∈ lw_tbl := lw_at lw_m17 20 rfl
theorem in_X16 : ∀ w ∈ wsX160, w ∈ lw_all := lw_in wsX160 [2983, 2985, 2987, 2989, 2991] (by decide +kernel) (by decide +kernel)

/-! MergeWorkbench$Chunk -/
set_option maxRecDepth 100000
def RX17 : String := "MergeWorkbench$Chunk"
def TX17 : u_T := fun k => match k with
  | 0 => ("MergeWorkbench$Chunk", "kind", "I", true)
  | 1 => ("MergeWorkbench$Chunk", "base", "LMergeWorkbench$Part;", true)
  | 2 => ("MergeWorkbench$Chunk", "left", "LMergeWorkbench$Part;", true)
  | 3 => ("MergeWorkbench$Chunk", "right", "LMergeWorkbench$Part;", true)
  | _ => ("MergeWorkbench$Chunk", "choice", "I", false)
def tyX17 : Nat → FieldType := fun k => match k with
  | 0 => .int
  | 1 => .object "MergeWorkbench$Part"
  | 2 => .object "MergeWorkbench$Part"
  | 3 => .object "MergeWorkbench$Part"
  | _ => .int
abbrev wsX170 : List Cond := u_ws RX17 TX17 5
theorem nmX17 : ∀ a, a < 5 → ∀ b, b < 5 → a ≠ b → (TX17 a).2.1 ≠ (TX17 b).2.1 := by decide +kernel
theorem tyX17_ok : ∀ k, k < 5 → parseFieldDescriptor (TX17 k).2.2.1 = some (tyX17 k) := by decide +kernel
abbrev cX17_init : ByteArray := prog_5_method_1_code
def yX17_init : MethodName := ⟨RX17, "<init>", "(ILMergeWorkbench$Part;LMergeWorkbench$Part;LMergeWorkbench$Part;)V"⟩
def dkwX17_init_1 : List UInt8 := [42, 25, 4, 181, 0, 25, 177]
abbrev dktX17_init_1 : List UInt8 := dkwX17_init_1 ++ []
def dkwX17_init_0 : List UInt8 := [42, 183, 0, 3, 42, 2, 181, 0, 9, 42, 27, 181, 0, 15, 42, 44, 181, 0, 18, 42, 45, 181, 0, 22]
abbrev dktX17_init_0 : List UInt8 := dkwX17_init_0 ++ dktX17_init_1
theorem dksX17_init_0 : cX17_init.data.toList.drop 0 = dktX17_init_0 := by decide +kernel
theorem dksX17_init_1 : cX17_init.data.toList.drop 24 = dktX17_init_1 := dk_seg dksX17_init_0 24 rfl rfl
theorem dX17_init_0 : decode cX17_init 0 = .ok (.aload_n 0, 1) := dk_42 (dk_at dksX17_init_0 0 rfl rfl)
theorem dX17_init_1 : decode cX17_init 1 = .ok (.invokespecial 3, 3) := dk_183 0 3 (dk_at dksX17_init_0 1 rfl rfl)
theorem dX17_init_4 : decode cX17_init 4 = .ok (.aload_n 0, 1) := dk_42 (dk_at dksX17_init_0 4 rfl rfl)
theorem dX17_init_5 : decode cX17_init 5 = .ok (.iconst (-1), 1) := dk_2 (dk_at dksX17_init_0 5 rfl rfl)
theorem dX17_init_6 : decode cX17_init 6 = .ok (.putfield 9, 3) := dk_181 0 9 (dk_at dksX17_init_0 6 rfl rfl)
theorem dX17_init_9 : decode cX17_init 9 = .ok (.aload_n 0, 1) := dk_42 (dk_at dksX17_init_0 9 rfl rfl)
theorem dX17_init_10 : decode cX17_init 10 = .ok (.iload_n 1, 1) := dk_27 (dk_at dksX17_init_0 10 rfl rfl)
theorem dX17_init_11 : decode cX17_init 11 = .ok (.putfield 15, 3) := dk_181 0 15 (dk_at dksX17_init_0 11 rfl rfl)
theorem dX17_init_14 : decode cX17_init 14 = .ok (.aload_n 0, 1) := dk_42 (dk_at dksX17_init_0 14 rfl rfl)
theorem dX17_init_15 : decode cX17_init 15 = .ok (.aload_n 2, 1) := dk_44 (dk_at dksX17_init_0 15 rfl rfl)
theorem dX17_init_16 : decode cX17_init 16 = .ok (.putfield 18, 3) := dk_181 0 18 (dk_at dksX17_init_0 16 rfl rfl)
theorem dX17_init_19 : decode cX17_init 19 = .ok (.aload_n 0, 1) := dk_42 (dk_at dksX17_init_0 19 rfl rfl)
theorem dX17_init_20 : decode cX17_init 20 = .ok (.aload_n 3, 1) := dk_45 (dk_at dksX17_init_0 20 rfl rfl)
theorem dX17_init_21 : decode cX17_init 21 = .ok (.putfield 22, 3) := dk_181 0 22 (dk_at dksX17_init_0 21 rfl rfl)
theorem dX17_init_24 : decode cX17_init 24 = .ok (.aload_n 0, 1) := dk_42 (dk_at dksX17_init_1 0 rfl rfl)
theorem dX17_init_25 : decode cX17_init 25 = .ok (.aload 4, 2) := dk_25 4 (dk_at dksX17_init_1 1 rfl rfl)
theorem dX17_init_27 : decode cX17_init 27 = .ok (.putfield 25, 3) := dk_181 0 25 (dk_at dksX17_init_1 3 rfl rfl)
theorem dX17_init_30 : decode cX17_init 30 = .ok (.return_, 1) := dk_177 (dk_at dksX17_init_1 6 rfl rfl)
abbrev cX17_property : ByteArray := prog_5_method_2_code
def yX17_property : MethodName := ⟨RX17, "property", "(I)I"⟩
def dkwX17_property_4 : List UInt8 := [180, 0, 25, 180, 0, 33, 172]
abbrev dktX17_property_4 : List UInt8 := dkwX17_property_4 ++ []
def dkwX17_property_3 : List UInt8 := [180, 0, 22, 180, 0, 28, 172, 42, 180, 0, 22, 180, 0, 33, 172, 42, 180, 0, 25, 180, 0, 28, 172, 42]
abbrev dktX17_property_3 : List UInt8 := dkwX17_property_3 ++ dktX17_property_4
def dkwX17_property_2 : List UInt8 := [42, 180, 0, 15, 172, 42, 180, 0, 18, 180, 0, 28, 172, 42, 180, 0, 18, 180, 0, 33, 172, 42]
abbrev dktX17_property_2 : List UInt8 := dkwX17_property_2 ++ dktX17_property_3
def dkwX17_property_1 : List UInt8 := [170, 0, 0, 0, 0, 0, 84, 0, 0, 0, 0, 0, 0, 0, 5, 0, 0, 0, 39, 0, 0, 0, 44, 0, 0, 0, 52, 0, 0, 0, 60, 0, 0, 0, 68, 0, 0, 0, 76]
abbrev dktX17_property_1 : List UInt8 := dkwX17_property_1 ++ dktX17_property_2
def dkwX17_property_0 : List UInt8 := [27]
abbrev dktX17_property_0 : List UInt8 := dkwX17_property_0 ++ dktX17_property_1
theorem dksX17_property_0 : cX17_property.data.toList.drop 0 = dktX17_property_0 := by decide +kernel
theorem dksX17_property_1 : cX17_property.data.toList.drop 1 = dktX17_property_1 := dk_seg dksX17_property_0 1 rfl rfl
theorem dksX17_property_2 : cX17_property.data.toList.drop 40 = dktX17_property_2 := dk_seg dksX17_property_1 39 rfl rfl
theorem dksX17_property_3 : cX17_property.data.toList.drop 62 = dktX17_property_3 := dk_seg dksX17_property_2 22 rfl rfl
theorem dksX17_property_4 : cX17_property.data.toList.drop 86 = dktX17_property_4 := dk_seg dksX17_property_3 24 rfl rfl
theorem dX17_property_0 : decode cX17_property 0 = .ok (.iload_n 1, 1) := dk_27 (dk_at dksX17_property_0 0 rfl rfl)
theorem dX17_property_1 : decode cX17_property 1 = .ok (.tableswitch 84 0 5 #[39, 44, 52, 60, 68, 76], 39) := by decide +kernel
theorem dX17_property_40 : decode cX17_property 40 = .ok (.aload_n 0, 1) := dk_42 (dk_at dksX17_property_2 0 rfl rfl)
theorem dX17_property_41 : decode cX17_property 41 = .ok (.getfield 15, 3) := dk_180 0 15 (dk_at dksX17_property_2 1 rfl rfl)
theorem dX17_property_44 : decode cX17_property 44 = .ok (.ireturn, 1) := dk_172 (dk_at dksX17_property_2 4 rfl rfl)
theorem dX17_property_45 : decode cX17_property 45 = .ok (.aload_n 0, 1) := dk_42 (dk_at dksX17_property_2 5 rfl rfl)
theorem dX17_property_46 : decode cX17_property 46 = .ok (.getfield 18, 3) := dk_180 0 18 (dk_at dksX17_property_2 6 rfl rfl)
theorem dX17_property_49 : decode cX17_property 49 = .ok (.getfield 28, 3) := dk_180 0 28 (dk_at dksX17_property_2 9 rfl rfl)
theorem dX17_property_52 : decode cX17_property 52 = .ok (.ireturn, 1) := dk_172 (dk_at dksX17_property_2 12 rfl rfl)
theorem dX17_property_53 : decode cX17_property 53 = .ok (.aload_n 0, 1) := dk_42 (dk_at dksX17_property_2 13 rfl rfl)
theorem dX17_property_54 : decode cX17_property 54 = .ok (.getfield 18, 3) := dk_180 0 18 (dk_at dksX17_property_2 14 rfl rfl)
theorem dX17_property_57 : decode cX17_property 57 = .ok (.getfield 33, 3) := dk_180 0 33 (dk_at dksX17_property_2 17 rfl rfl)
theorem dX17_property_60 : decode cX17_property 60 = .ok (.ireturn, 1) := dk_172 (dk_at dksX17_property_2 20 rfl rfl)
theorem dX17_property_61 : decode cX17_property 61 = .ok (.aload_n 0, 1) := dk_42 (dk_at dksX17_property_2 21 rfl rfl)
theorem dX17_property_62 : decode cX17_property 62 = .ok (.getfield 22, 3) := dk_180 0 22 (dk_at dksX17_property_3 0 rfl rfl)
theorem dX17_property_65 : decode cX17_property 65 = .ok (.getfield 28, 3) := dk_180 0 28 (dk_at dksX17_property_3 3 rfl rfl)
theorem dX17_property_68 : decode cX17_property 68 = .ok (.ireturn, 1) := dk_172 (dk_at dksX17_property_3 6 rfl rfl)
theorem dX17_property_69 : decode cX17_property 69 = .ok (.aload_n 0, 1) := dk_42 (dk_at dksX17_property_3 7 rfl rfl)
theorem dX17_property_70 : decode cX17_property 70 = .ok (.getfield 22, 3) := dk_180 0 22 (dk_at dksX17_property_3 8 rfl rfl)
theorem dX17_property_73 : decode cX17_property 73 = .ok (.getfield 33, 3) := dk_180 0 33 (dk_at dksX17_property_3 11 rfl rfl)
theorem dX17_property_76 : decode cX17_property 76 = .ok (.ireturn, 1) := dk_172 (dk_at dksX17_property_3 14 rfl rfl)
theorem dX17_property_77 : decode cX17_property 77 = .ok (.aload_n 0, 1) := dk_42 (dk_at dksX17_property_3 15 rfl rfl)
theorem dX17_property_78 : decode cX17_property 78 = .ok (.getfield 25, 3) := dk_180 0 25 (dk_at dksX17_property_3 16 rfl rfl)
theorem dX17_property_81 : decode cX17_property 81 = .ok (.getfield 28, 3) := dk_180 0 28 (dk_at dksX17_property_3 19 rfl rfl)
theorem dX17_property_84 : decode cX17_property 84 = .ok (.ireturn, 1) := dk_172 (dk_at dksX17_property_3 22 rfl rfl)
theorem dX17_property_85 : decode cX17_property 85 = .ok (.aload_n 0, 1) := dk_42 (dk_at dksX17_property_3 23 rfl rfl)
theorem dX17_property_86 : decode cX17_property 86 = .ok (.getfield 25, 3) := dk_180 0 25 (dk_at dksX17_property_4 0 rfl rfl)
theorem dX17_property_89 : decode cX17_property 89 = .ok (.getfield 33, 3) := dk_180 0 33 (dk_at dksX17_property_4 3 rfl rfl)
theorem dX17_property_92 : decode cX17_property 92 = .ok (.ireturn, 1) := dk_172 (dk_at dksX17_property_4 6 rfl rfl)
abbrev cX17_addResult : ByteArray := prog_5_method_4_code
def yX17_addResult : MethodName := ⟨RX17, "addResult", "(Ljava/util/List;)V"⟩
def dkwX17_addResult_8 : List UInt8 := [180, 0, 18, 43, 182, 0, 36, 177]
abbrev dktX17_addResult_8 : List UInt8 := dkwX17_addResult_8 ++ []
def dkwX17_addResult_7 : List UInt8 := [167, 0, 30, 42, 180, 0, 25, 43, 182, 0, 36, 42, 180, 0, 22, 43, 182, 0, 36, 167, 0, 11, 42]
abbrev dktX17_addResult_7 : List UInt8 := dkwX17_addResult_7 ++ dktX17_addResult_8
def dkwX17_addResult_6 : List UInt8 := [43, 182, 0, 36, 167, 0, 49, 42, 180, 0, 22, 43, 182, 0, 36, 42, 180, 0, 25, 43, 182, 0, 36]
abbrev dktX17_addResult_6 : List UInt8 := dkwX17_addResult_6 ++ dktX17_addResult_7
def dkwX17_addResult_5 : List UInt8 := [185, 0, 46, 2, 0, 87, 167, 0, 71, 42, 180, 0, 22, 43, 182, 0, 36, 167, 0, 60, 42, 180, 0, 25]
abbrev dktX17_addResult_5 : List UInt8 := dkwX17_addResult_5 ++ dktX17_addResult_6
def dkwX17_addResult_4 : List UInt8 := [184, 0, 40, 185, 0, 46, 2, 0, 87, 42, 180, 0, 25, 43, 182, 0, 36, 43, 16, 253, 184, 0, 40]
abbrev dktX17_addResult_4 : List UInt8 := dkwX17_addResult_4 ++ dktX17_addResult_5
def dkwX17_addResult_3 : List UInt8 := [43, 2, 184, 0, 40, 185, 0, 46, 2, 0, 87, 42, 180, 0, 22, 43, 182, 0, 36, 43, 16, 254]
abbrev dktX17_addResult_3 : List UInt8 := dkwX17_addResult_3 ++ dktX17_addResult_4
def dkwX17_addResult_2 : List UInt8 := [170, 0, 0, 0, 0, 0, 0, 150, 255, 255, 255, 255, 0, 0, 0, 3, 0, 0, 0, 36, 0, 0, 0, 90, 0, 0, 0, 101, 0, 0, 0, 112, 0, 0, 0, 131]
abbrev dktX17_addResult_2 : List UInt8 := dkwX17_addResult_2 ++ dktX17_addResult_3
def dkwX17_addResult_1 : List UInt8 := [180, 0, 22, 43, 182, 0, 36, 177, 42, 180, 0, 9]
abbrev dktX17_addResult_1 : List UInt8 := dkwX17_addResult_1 ++ dktX17_addResult_2
def dkwX17_addResult_0 : List UInt8 := [42, 180, 0, 15, 7, 159, 0, 27, 42, 180, 0, 15, 5, 160, 0, 10, 42, 180, 0, 25, 167, 0, 7, 42]
abbrev dktX17_addResult_0 : List UInt8 := dkwX17_addResult_0 ++ dktX17_addResult_1
theorem dksX17_addResult_0 : cX17_addResult.data.toList.drop 0 = dktX17_addResult_0 := by decide +kernel
theorem dksX17_addResult_1 : cX17_addResult.data.toList.drop 24 = dktX17_addResult_1 := dk_seg dksX17_addResult_0 24 rfl rfl
theorem dksX17_addResult_2 : cX17_addResult.data.toList.drop 36 = dktX17_addResult_2 := dk_seg dksX17_addResult_1 12 rfl rfl
theorem dksX17_addResult_3 : cX17_addResult.data.toList.drop 72 = dktX17_addResult_3 := dk_seg dksX17_addResult_2 36 rfl rfl
theorem dksX17_addResult_4 : cX17_addResult.data.toList.drop 94 = dktX17_addResult_4 := dk_seg dksX17_addResult_3 22 rfl rfl
theorem dksX17_addResult_5 : cX17_addResult.data.toList.drop 117 = dktX17_addResult_5 := dk_seg dksX17_addResult_4 23 rfl rfl
theorem dksX17_addResult_6 : cX17_addResult.data.toList.drop 141 = dktX17_addResult_6 := dk_seg dksX17_addResult_5 24 rfl rfl
theorem dksX17_addResult_7 : cX17_addResult.data.toList.drop 164 = dktX17_addResult_7 := dk_seg dksX17_addResult_6 23 rfl rfl
theorem dksX17_addResult_8 : cX17_addResult.data.toList.drop 187 = dktX17_addResult_8 := dk_seg dksX17_addResult_7 23 rfl rfl
theorem dX17_addResult_0 : decode cX17_addResult 0 = .ok (.aload_n 0, 1) := dk_42 (dk_at dksX17_addResult_0 0 rfl rfl)
theorem dX17_addResult_1 : decode cX17_addResult 1 = .ok (.getfield 15, 3) := dk_180 0 15 (dk_at dksX17_addResult_0 1 rfl rfl)
theorem dX17_addResult_4 : decode cX17_addResult 4 = .ok (.iconst 4, 1) := dk_7 (dk_at dksX17_addResult_0 4 rfl rfl)
theorem dX17_addResult_5 : decode cX17_addResult 5 = .ok (.if_icmp .eq 27, 3) := dk_159 0 27 (dk_at dksX17_addResult_0 5 rfl rfl)
theorem dX17_addResult_8 : decode cX17_addResult 8 = .ok (.aload_n 0, 1) := dk_42 (dk_at dksX17_addResult_0 8 rfl rfl)
theorem dX17_addResult_9 : decode cX17_addResult 9 = .ok (.getfield 15, 3) := dk_180 0 15 (dk_at dksX17_addResult_0 9 rfl rfl)
theorem dX17_addResult_12 : decode cX17_addResult 12 = .ok (.iconst 2, 1) := dk_5 (dk_at dksX17_addResult_0 12 rfl rfl)
theorem dX17_addResult_13 : decode cX17_addResult 13 = .ok (.if_icmp .ne 10, 3) := dk_160 0 10 (dk_at dksX17_addResult_0 13 rfl rfl)
theorem dX17_addResult_16 : decode cX17_addResult 16 = .ok (.aload_n 0, 1) := dk_42 (dk_at dksX17_addResult_0 16 rfl rfl)
theorem dX17_addResult_17 : decode cX17_addResult 17 = .ok (.getfield 25, 3) := dk_180 0 25 (dk_at dksX17_addResult_0 17 rfl rfl)
theorem dX17_addResult_20 : decode cX17_addResult 20 = .ok (.goto 7, 3) := dk_167 0 7 (dk_at dksX17_addResult_0 20 rfl rfl)
theorem dX17_addResult_23 : decode cX17_addResult 23 = .ok (.aload_n 0, 1) := dk_42 (dk_at dksX17_addResult_0 23 rfl rfl)
theorem dX17_addResult_24 : decode cX17_addResult 24 = .ok (.getfield 22, 3) := dk_180 0 22 (dk_at dksX17_addResult_1 0 rfl rfl)
theorem dX17_addResult_27 : decode cX17_addResult 27 = .ok (.aload_n 1, 1) := dk_43 (dk_at dksX17_addResult_1 3 rfl rfl)
theorem dX17_addResult_28 : decode cX17_addResult 28 = .ok (.invokevirtual 36, 3) := dk_182 0 36 (dk_at dksX17_addResult_1 4 rfl rfl)
theorem dX17_addResult_31 : decode cX17_addResult 31 = .ok (.return_, 1) := dk_177 (dk_at dksX17_addResult_1 7 rfl rfl)
theorem dX17_addResult_32 : decode cX17_addResult 32 = .ok (.aload_n 0, 1) := dk_42 (dk_at dksX17_addResult_1 8 rfl rfl)
theorem dX17_addResult_33 : decode cX17_addResult 33 = .ok (.getfield 9, 3) := dk_180 0 9 (dk_at dksX17_addResult_1 9 rfl rfl)
theorem dX17_addResult_36 : decode cX17_addResult 36 = .ok (.tableswitch 150 (-1) 3 #[36, 90, 101, 112, 131], 36) := by decide +kernel
theorem dX17_addResult_72 : decode cX17_addResult 72 = .ok (.aload_n 1, 1) := dk_43 (dk_at dksX17_addResult_3 0 rfl rfl)
theorem dX17_addResult_73 : decode cX17_addResult 73 = .ok (.iconst (-1), 1) := dk_2 (dk_at dksX17_addResult_3 1 rfl rfl)
theorem dX17_addResult_74 : decode cX17_addResult 74 = .ok (.invokestatic 40, 3) := dk_184 0 40 (dk_at dksX17_addResult_3 2 rfl rfl)
theorem dX17_addResult_77 : decode cX17_addResult 77 = .ok (.invokeinterface 46 2, 5) := by decide +kernel
theorem dX17_addResult_82 : decode cX17_addResult 82 = .ok (.pop, 1) := dk_87 (dk_at dksX17_addResult_3 10 rfl rfl)
theorem dX17_addResult_83 : decode cX17_addResult 83 = .ok (.aload_n 0, 1) := dk_42 (dk_at dksX17_addResult_3 11 rfl rfl)
theorem dX17_addResult_84 : decode cX17_addResult 84 = .ok (.getfield 22, 3) := dk_180 0 22 (dk_at dksX17_addResult_3 12 rfl rfl)
theorem dX17_addResult_87 : decode cX17_addResult 87 = .ok (.aload_n 1, 1) := dk_43 (dk_at dksX17_addResult_3 15 rfl rfl)
theorem dX17_addResult_88 : decode cX17_addResult 88 = .ok (.invokevirtual 36, 3) := dk_182 0 36 (dk_at dksX17_addResult_3 16 rfl rfl)
theorem dX17_addResult_91 : decode cX17_addResult 91 = .ok (.aload_n 1, 1) := dk_43 (dk_at dksX17_addResult_3 19 rfl rfl)
theorem dX17_addResult_92 : decode cX17_addResult 92 = .ok (.bipush (-2), 2) := dk_16 254 (dk_at dksX17_addResult_3 20 rfl rfl)
theorem dX17_addResult_94 : decode cX17_addResult 94 = .ok (.invokestatic 40, 3) := dk_184 0 40 (dk_at dksX17_addResult_4 0 rfl rfl)
theorem dX17_addResult_97 : decode cX17_addResult 97 = .ok (.invokeinterface 46 2, 5) := by decide +kernel
theorem dX17_addResult_102 : decode cX17_addResult 102 = .ok (.pop, 1) := dk_87 (dk_at dksX17_addResult_4 8 rfl rfl)
theorem dX17_addResult_103 : decode cX17_addResult 103 = .ok (.aload_n 0, 1) := dk_42 (dk_at dksX17_addResult_4 9 rfl rfl)
theorem dX17_addResult_104 : decode cX17_addResult 104 = .ok (.getfield 25, 3) := dk_180 0 25 (dk_at dksX17_addResult_4 10 rfl rfl)
theorem dX17_addResult_107 : decode cX17_addResult 107 = .ok (.aload_n 1, 1) := dk_43 (dk_at dksX17_addResult_4 13 rfl rfl)
theorem dX17_addResult_108 : decode cX17_addResult 108 = .ok (.invokevirtual 36, 3) := dk_182 0 36 (dk_at dksX17_addResult_4 14 rfl rfl)
theorem dX17_addResult_111 : decode cX17_addResult 111 = .ok (.aload_n 1, 1) := dk_43 (dk_at dksX17_addResult_4 17 rfl rfl)
theorem dX17_addResult_112 : decode cX17_addResult 112 = .ok (.bipush (-3), 2) := dk_16 253 (dk_at dksX17_addResult_4 18 rfl rfl)
theorem dX17_addResult_114 : decode cX17_addResult 114 = .ok (.invokestatic 40, 3) := dk_184 0 40 (dk_at dksX17_addResult_4 20 rfl rfl)
theorem dX17_addResult_117 : decode cX17_addResult 117 = .ok (.invokeinterface 46 2, 5) := by decide +kernel
theorem dX17_addResult_122 : decode cX17_addResult 122 = .ok (.pop, 1) := dk_87 (dk_at dksX17_addResult_5 5 rfl rfl)
theorem dX17_addResult_123 : decode cX17_addResult 123 = .ok (.goto 71, 3) := dk_167 0 71 (dk_at dksX17_addResult_5 6 rfl rfl)
theorem dX17_addResult_126 : decode cX17_addResult 126 = .ok (.aload_n 0, 1) := dk_42 (dk_at dksX17_addResult_5 9 rfl rfl)
theorem dX17_addResult_127 : decode cX17_addResult 127 = .ok (.getfield 22, 3) := dk_180 0 22 (dk_at dksX17_addResult_5 10 rfl rfl)
theorem dX17_addResult_130 : decode cX17_addResult 130 = .ok (.aload_n 1, 1) := dk_43 (dk_at dksX17_addResult_5 13 rfl rfl)
theorem dX17_addResult_131 : decode cX17_addResult 131 = .ok (.invokevirtual 36, 3) := dk_182 0 36 (dk_at dksX17_addResult_5 14 rfl rfl)
theorem dX17_addResult_134 : decode cX17_addResult 134 = .ok (.goto 60, 3) := dk_167 0 60 (dk_at dksX17_addResult_5 17 rfl rfl)
theorem dX17_addResult_137 : decode cX17_addResult 137 = .ok (.aload_n 0, 1) := dk_42 (dk_at dksX17_addResult_5 20 rfl rfl)
theorem dX17_addResult_138 : decode cX17_addResult 138 = .ok (.getfield 25, 3) := dk_180 0 25 (dk_at dksX17_addResult_5 21 rfl rfl)
theorem dX17_addResult_141 : decode cX17_addResult 141 = .ok (.aload_n 1, 1) := dk_43 (dk_at dksX17_addResult_6 0 rfl rfl)
theorem dX17_addResult_142 : decode cX17_addResult 142 = .ok (.invokevirtual 36, 3) := dk_182 0 36 (dk_at dksX17_addResult_6 1 rfl rfl)
theorem dX17_addResult_145 : decode cX17_addResult 145 = .ok (.goto 49, 3) := dk_167 0 49 (dk_at dksX17_addResult_6 4 rfl rfl)
theorem dX17_addResult_148 : decode cX17_addResult 148 = .ok (.aload_n 0, 1) := dk_42 (dk_at dksX17_addResult_6 7 rfl rfl)
theorem dX17_addResult_149 : decode cX17_addResult 149 = .ok (.getfield 22, 3) := dk_180 0 22 (dk_at dksX17_addResult_6 8 rfl rfl)
theorem dX17_addResult_152 : decode cX17_addResult 152 = .ok (.aload_n 1, 1) := dk_43 (dk_at dksX17_addResult_6 11 rfl rfl)
theorem dX17_addResult_153 : decode cX17_addResult 153 = .ok (.invokevirtual 36, 3) := dk_182 0 36 (dk_at dksX17_addResult_6 12 rfl rfl)
theorem dX17_addResult_156 : decode cX17_addResult 156 = .ok (.aload_n 0, 1) := dk_42 (dk_at dksX17_addResult_6 15 rfl rfl)
theorem dX17_addResult_157 : decode cX17_addResult 157 = .ok (.getfield 25, 3) := dk_180 0 25 (dk_at dksX17_addResult_6 16 rfl rfl)
theorem dX17_addResult_160 : decode cX17_addResult 160 = .ok (.aload_n 1, 1) := dk_43 (dk_at dksX17_addResult_6 19 rfl rfl)
theorem dX17_addResult_161 : decode cX17_addResult 161 = .ok (.invokevirtual 36, 3) := dk_182 0 36 (dk_at dksX17_addResult_6 20 rfl rfl)
theorem dX17_addResult_164 : decode cX17_addResult 164 = .ok (.goto 30, 3) := dk_167 0 30 (dk_at dksX17_addResult_7 0 rfl rfl)
theorem dX17_addResult_167 : decode cX17_addResult 167 = .ok (.aload_n 0, 1) := dk_42 (dk_at dksX17_addResult_7 3 rfl rfl)
theorem dX17_addResult_168 : decode cX17_addResult 168 = .ok (.getfield 25, 3) := dk_180 0 25 (dk_at dksX17_addResult_7 4 rfl rfl)
theorem dX17_addResult_171 : decode cX17_addResult 171 = .ok (.aload_n 1, 1) := dk_43 (dk_at dksX17_addResult_7 7 rfl rfl)
theorem dX17_addResult_172 : decode cX17_addResult 172 = .ok (.invokevirtual 36, 3) := dk_182 0 36 (dk_at dksX17_addResult_7 8 rfl rfl)
theorem dX17_addResult_175 : decode cX17_addResult 175 = .ok (.aload_n 0, 1) := dk_42 (dk_at dksX17_addResult_7 11 rfl rfl)
theorem dX17_addResult_176 : decode cX17_addResult 176 = .ok (.getfield 22, 3) := dk_180 0 22 (dk_at dksX17_addResult_7 12 rfl rfl)
theorem dX17_addResult_179 : decode cX17_addResult 179 = .ok (.aload_n 1, 1) := dk_43 (dk_at dksX17_addResult_7 15 rfl rfl)
theorem dX17_addResult_180 : decode cX17_addResult 180 = .ok (.invokevirtual 36, 3) := dk_182 0 36 (dk_at dksX17_addResult_7 16 rfl rfl)
theorem dX17_addResult_183 : decode cX17_addResult 183 = .ok (.goto 11, 3) := dk_167 0 11 (dk_at dksX17_addResult_7 19 rfl rfl)
theorem dX17_addResult_186 : decode cX17_addResult 186 = .ok (.aload_n 0, 1) := dk_42 (dk_at dksX17_addResult_7 22 rfl rfl)
theorem dX17_addResult_187 : decode cX17_addResult 187 = .ok (.getfield 18, 3) := dk_180 0 18 (dk_at dksX17_addResult_8 0 rfl rfl)
theorem dX17_addResult_190 : decode cX17_addResult 190 = .ok (.aload_n 1, 1) := dk_43 (dk_at dksX17_addResult_8 3 rfl rfl)
theorem dX17_addResult_191 : decode cX17_addResult 191 = .ok (.invokevirtual 36, 3) := dk_182 0 36 (dk_at dksX17_addResult_8 4 rfl rfl)
theorem dX17_addResult_194 : decode cX17_addResult 194 = .ok (.return_, 1) := dk_177 (dk_at dksX17_addResult_8 7 rfl rfl)
abbrev cX17_isUnresolved : ByteArray := prog_5_method_3_code
def yX17_isUnresolved : MethodName := ⟨RX17, "isUnresolved", "()Z"⟩
def dkwX17_isUnresolved_0 : List UInt8 := [42, 180, 0, 15, 7, 160, 0, 14, 42, 180, 0, 9, 156, 0, 7, 4, 167, 0, 4, 3, 172]
abbrev dktX17_isUnresolved_0 : List UInt8 := dkwX17_isUnresolved_0 ++ []
theorem dksX17_isUnresolved_0 : cX17_isUnresolved.data.toList.drop 0 = dktX17_isUnresolved_0 := by decide +kernel
theorem dX17_isUnresolved_0 : decode cX17_isUnresolved 0 = .ok (.aload_n 0, 1) := dk_42 (dk_at dksX17_isUnresolved_0 0 rfl rfl)
theorem dX17_isUnresolved_1 : decode cX17_isUnresolved 1 = .ok (.getfield 15, 3) := dk_180 0 15 (dk_at dksX17_isUnresolved_0 1 rfl rfl)
theorem dX17_isUnresolved_4 : decode cX17_isUnresolved 4 = .ok (.iconst 4, 1) := dk_7 (dk_at dksX17_isUnresolved_0 4 rfl rfl)
theorem dX17_isUnresolved_5 : decode cX17_isUnresolved 5 = .ok (.if_icmp .ne 14, 3) := dk_160 0 14 (dk_at dksX17_isUnresolved_0 5 rfl rfl)
theorem dX17_isUnresolved_8 : decode cX17_isUnresolved 8 = .ok (.aload_n 0, 1) := dk_42 (dk_at dksX17_isUnresolved_0 8 rfl rfl)
theorem dX17_isUnresolved_9 : decode cX17_isUnresolved 9 = .ok (.getfield 9, 3) := dk_180 0 9 (dk_at dksX17_isUnresolved_0 9 rfl rfl)
theorem dX17_isUnresolved_12 : decode cX17_isUnresolved 12 = .ok (.ifCond .ge 7, 3) := dk_156 0 7 (dk_at dksX17_isUnresolved_0 12 rfl rfl)
theorem dX17_isUnresolved_15 : decode cX17_isUnresolved 15 = .ok (.iconst 1, 1) := dk_4 (dk_at dksX17_isUnresolved_0 15 rfl rfl)
theorem dX17_isUnresolved_16 : decode cX17_isUnresolved 16 = .ok (.goto 4, 3) := dk_167 0 4 (dk_at dksX17_isUnresolved_0 16 rfl rfl)
theorem dX17_isUnresolved_19 : decode cX17_isUnresolved 19 = .ok (.iconst 0, 1) := dk_3 (dk_at dksX17_isUnresolved_0 19 rfl rfl)
theorem dX17_isUnresolved_20 : decode cX17_isUnresolved 20 = .ok (.ireturn, 1) := dk_172 (dk_at dksX17_isUnresolved_0 20 rfl rfl)
theorem q147 : (Jvm.Cond.initialized "MergeWorkbench$Chunk") ∈ lw_all := lw_g (lw_at lw_m1 64 rfl) rfl
theorem q297 : (Jvm.Cond.selects "MergeWorkbench$Chunk" ({ cls := "java/lang/Object", name := "getClass", desc := "()Ljava/lang/Class;" } : Jvm.MethodName) ({ cls := "java/lang/Object", name := "getClass", desc := "()Ljava/lang/Class;" } : Jvm.MethodName)) ∈ lw_all := lw_g (lw_at lw_m1 214 rfl) rfl
theorem q1465 : (Jvm.Cond.selects "MergeWorkbench$Chunk" ({ cls := "java/lang/Object", name := "equals", desc := "(Ljava/lang/Object;)Z" } : Jvm.MethodName) ({ cls := "java/lang/Object", name := "equals", desc := "(Ljava/lang/Object;)Z" } : Jvm.MethodName)) ∈ lw_all := lw_g (lw_at lw_m6 182 rfl) rfl
theorem q2378 : (Jvm.Cond.fieldLinkNest "MergeWorkbench$Chunk" (28 : Nat) "MergeWorkbench$Part" "from" "I" "MergeWorkbench") ∈ lw_tbl := lw_at lw_m10 135 rfl
theorem q2386 : (Jvm.Cond.fieldLinkNest "MergeWorkbench$Chunk" (33 : Nat) "MergeWorkbench$Part" "to" "I" "MergeWorkbench") ∈ lw_tbl := lw_at lw_m10 143 rfl
theorem q2905 : (Jvm.Cond.instantiable "MergeWorkbench$Chunk" (5 : Nat)) ∈ lw_all := lw_g (lw_at lw_m12 182 rfl) rfl
theorem q2907 : (Jvm.Cond.instanceMethod ({ cls := "MergeWorkbench$Chunk", name := "<init>", desc := "(ILMergeWorkbench$Part;LMergeWorkbench$Part;LMergeWorkbench$Part;)V" } : Jvm.MethodName)) ∈ lw_all := lw_g (lw_at lw_m12 184 rfl) rfl
theorem q2908 : (Jvm.Cond.code ({ cls := "MergeWorkbench$Chunk", name := "<init>", desc := "(ILMergeWorkbench$Part;LMergeWorkbench$Part;LMergeWorkbench$Part;)V" } : Jvm.MethodName) prog_5_method_1_code (5 : Nat) (Option.none : Option Jvm.ClassFile.FieldType)) ∈ lw_all := lw_g (lw_at lw_m12 185 rfl) rfl
theorem q2909 : (Jvm.Cond.methodLink "MergeWorkbench$Chunk" (3 : Nat) ({ cls := "java/lang/Object", name := "<init>", desc := "()V" } : Jvm.MethodName)) ∈ lw_all := lw_g (lw_at lw_m12 186 rfl) rfl
theorem q2910 : (Jvm.Cond.fieldLink "MergeWorkbench$Chunk" (15 : Nat) "MergeWorkbench$Chunk" "kind" "I") ∈ lw_all := lw_g (lw_at lw_m12 187 rfl) rfl
theorem q2912 : (Jvm.Cond.fieldLink "MergeWorkbench$Chunk" (18 : Nat) "MergeWorkbench$Chunk" "base" "LMergeWorkbench$Part;") ∈ lw_all := lw_g (lw_at lw_m12 189 rfl) rfl
theorem q2914 : (Jvm.Cond.fieldLink "MergeWorkbench$Chunk" (22 : Nat) "MergeWorkbench$Chunk" "left" "LMergeWorkbench$Part;") ∈ lw_all := lw_g (lw_at lw_m12 191 rfl) rfl
theorem q2916 : (Jvm.Cond.fieldLink "MergeWorkbench$Chunk" (25 : Nat) "MergeWorkbench$Chunk" "right" "LMergeWorkbench$Part;") ∈ lw_all := lw_g (lw_at lw_m12 193 rfl) rfl
theorem q2918 : (Jvm.Cond.fieldLink "MergeWorkbench$Chunk" (9 : Nat) "MergeWorkbench$Chunk" "choice" "I") ∈ lw_all := lw_g (lw_at lw_m12 195 rfl) rfl
theorem q2920 : (Jvm.Cond.laysFinal "MergeWorkbench$Chunk" "MergeWorkbench$Chunk" "kind" "I") ∈ lw_all := lw_g (lw_at lw_m12 197 rfl) rfl
theorem q2921 : (Jvm.Cond.soleField "MergeWorkbench$Chunk" "kind") ∈ lw_all := lw_g (lw_at lw_m12 198 rfl) rfl
theorem q2922 : (Jvm.Cond.laysFinal "MergeWorkbench$Chunk" "MergeWorkbench$Chunk" "base" "LMergeWorkbench$Part;") ∈ lw_all := lw_g (lw_at lw_m12 199 rfl) rfl
theorem q2923 : (Jvm.Cond.soleField "MergeWorkbench$Chunk" "base") ∈ lw_all := lw_g (lw_at lw_m12 200 rfl) rfl
theorem q2924 : (Jvm.Cond.laysFinal "MergeWorkbench$Chunk" "MergeWorkbench$Chunk" "left" "LMergeWorkbench$Part;") ∈ lw_all := lw_g (lw_at lw_m12 201 rfl) rfl
theorem q2925 : (Jvm.Cond.soleField "MergeWorkbench$Chunk" "left") ∈ lw_all := lw_g (lw_at lw_m12 202 rfl) rfl
theorem q2926 : (Jvm.Cond.laysFinal "MergeWorkbench$Chunk" "MergeWorkbench$Chunk" "right" "LMergeWorkbench$Part;") ∈ lw_all := lw_g (lw_at lw_m12 203 rfl) rfl
theorem q2927 : (Jvm.Cond.soleField "MergeWorkbench$Chunk" "right") ∈ lw_all := lw_g (lw_at lw_m12 204 rfl) rfl
theorem q2928 : (Jvm.Cond.lays "MergeWorkbench$Chunk" "MergeWorkbench$Chunk" "choice" "I") ∈ lw_all := lw_g (lw_at lw_m12 205 rfl) rfl
theorem q2929 : (Jvm.Cond.soleField "MergeWorkbench$Chunk" "choice") ∈ lw_all := lw_g (lw_at lw_m12 206 rfl) rfl
theorem q2930 : (Jvm.Cond.superclass "MergeWorkbench$Chunk" "java/lang/Object") ∈ lw_all := lw_g (lw_at lw_m12 207 rfl) rfl
theorem q3014 : (Jvm.Cond.instanceMethod ({ cls := "MergeWorkbench$Chunk", name := "property", desc := "(I)I" } : Jvm.MethodName)) ∈ lw_all := lw_g (lw_at lw_m13 51 rfl) rfl
theorem q3015 : (Jvm.Cond.selects "MergeWorkbench$Chunk" ({ cls := "MergeWorkbench$Chunk", name := "property", desc := "(I)I" } : Jvm.MethodName) ({ cls := "MergeWorkbench$Chunk", name := "property", desc := "(I)I" } : Jvm.MethodName)) ∈ lw_all := lw_g (lw_at lw_m13 52 rfl) rfl
theorem q3016 : (Jvm.Cond.code ({ cls := "MergeWorkbench$Chunk", name := "property", desc := "(I)I" } : Jvm.MethodName) prog_5_method_2_code (2 : Nat) (Option.some Jvm.ClassFile.FieldType.int)) ∈ lw_all := lw_g (lw_at lw_m13 53 rfl) rfl
theorem q3025 : (Jvm.Cond.instanceMethod ({ cls := "MergeWorkbench$Chunk", name := "addResult", desc := "(Ljava/util/List;)V" } : Jvm.MethodName)) ∈ lw_all := lw_g (lw_at lw_m13 62 rfl) rfl
theorem q3026 : (Jvm.Cond.selects "MergeWorkbench$Chunk" ({ cls := "MergeWorkbench$Chunk", name := "addResult", desc := "(Ljava/util/List;)V" } : Jvm.MethodName) ({ cls := "MergeWorkbench$Chunk", name := "addResult", desc := "(Ljava/util/List;)V" } : Jvm.MethodName)) ∈ lw_all := lw_g (lw_at lw_m13 63 rfl) rfl
theorem q3027 : (Jvm.Cond.code ({ cls := "MergeWorkbench$Chunk", name := "addResult", desc := "(Ljava/util/List;)V" } : Jvm.MethodName) prog_5_method_4_code (2 : Nat) (Option.none : Option Jvm.ClassFile.FieldType)) ∈ lw_all := lw_g (lw_at lw_m13 64 rfl) rfl
theorem q3028 : (Jvm.Cond.methodLink "MergeWorkbench$Chunk" (36 : Nat) ({ cls := "MergeWorkbench$Part", name := "addTo", desc := "(Ljava/util/List;)V" } : Jvm.MethodName)) ∈ lw_all := lw_g (lw_at lw_m13 65 rfl) rfl
theorem q3034 : (Jvm.Cond.methodLink "MergeWorkbench$Chunk" (40 : Nat) ({ cls := "java/lang/Integer", name := "valueOf", desc := "(I)Ljava/lang/Integer;" } : Jvm.MethodName)) ∈ lw_all := lw_g (lw_at lw_m13 71 rfl) rfl
theorem q3035 : (Jvm.Cond.interfaceEntry "MergeWorkbench$Chunk" (46 : Nat)) ∈ lw_tbl := lw_at lw_m13 72 rfl
theorem q3036 : (Jvm.Cond.methodLink "MergeWorkbench$Chunk" (46 : Nat) ({ cls := "java/util/List", name := "add", desc := "(Ljava/lang/Object;)Z" } : Jvm.MethodName)) ∈ lw_all := lw_g (lw_at lw_m13 73 rfl) rfl
theorem q3055 : (Jvm.Cond.instanceMethod ({ cls := "MergeWorkbench$Chunk", name := "isUnresolved", desc := "()Z" } : Jvm.MethodName)) ∈ lw_all := lw_g (lw_at lw_m13 92 rfl) rfl
theorem q3056 : (Jvm.Cond.selects "MergeWorkbench$Chunk" ({ cls := "MergeWorkbench$Chunk", name := "isUnresolved", desc := "()Z" } : Jvm.MethodName) ({ cls := "MergeWorkbench$Chunk", name := "isUnresolved", desc := "()Z" } : Jvm.MethodName)) ∈ lw_all := lw_g (lw_at lw_m13 93 rfl) rfl
theorem q3057 : (Jvm.Cond.code ({ cls := "MergeWorkbench$Chunk", name := "isUnresolved", desc := "()Z" } : Jvm.MethodName) prog_5_method_3_code (1 : Nat) (Option.some Jvm.ClassFile.FieldType.boolean)) ∈ lw_all := lw_g (lw_at lw_m13 94 rfl) rfl
theorem q3944 : (Jvm.Cond.castable "MergeWorkbench$Chunk" "java/lang/Object") ∈ lw_tbl := lw_at lw_m17 21 rfl
theorem in_X17 : ∀ w ∈ wsX170, w ∈ lw_all := lw_in wsX170 [2920, 2922, 2924, 2926, 2928] (by decide +kernel) (by decide +kernel)

/-! MergeWorkbench$Patch -/
set_option maxRecDepth 100000
def RX18 : String := "MergeWorkbench$Patch"
def TX18 : u_T := fun k => match k with
  | 0 => ("MergeWorkbench$Patch", "hunks", "Ljava/util/List;", true)
  | _ => ("MergeWorkbench$Patch", "outcomes", "Ljava/util/List;", false)
def tyX18 : Nat → FieldType := fun k => match k with
  | 0 => .object "java/util/List"
  | _ => .object "java/util/List"
abbrev wsX180 : List Cond := u_ws RX18 TX18 2
theorem nmX18 : ∀ a, a < 2 → ∀ b, b < 2 → a ≠ b → (TX18 a).2.1 ≠ (TX18 b).2.1 := by decide +kernel
theorem tyX18_ok : ∀ k, k < 2 → parseFieldDescriptor (TX18 k).2.2.1 = some (tyX18 k) := by decide +kernel
abbrev cX18_init : ByteArray := prog_18_method_1_code
def yX18_init : MethodName := ⟨RX18, "<init>", "(LMergeWorkbench$Comparison;I)V"⟩
def dkwX18_init_6 : List UInt8 := [21, 5, 4, 96, 54, 4, 132, 5, 1, 167, 255, 131, 177]
abbrev dktX18_init_6 : List UInt8 := dkwX18_init_6 ++ []
def dkwX18_init_5 : List UInt8 := [192, 0, 31, 45, 21, 5, 185, 0, 27, 2, 0, 192, 0, 31, 28, 184, 0, 46, 185, 0, 50, 2, 0, 87]
abbrev dktX18_init_5 : List UInt8 := dkwX18_init_5 ++ dktX18_init_6
def dkwX18_init_4 : List UInt8 := [167, 0, 4, 3, 54, 6, 21, 6, 153, 0, 46, 42, 180, 0, 10, 43, 45, 21, 4, 185, 0, 27, 2, 0]
abbrev dktX18_init_4 : List UInt8 := dkwX18_init_4 ++ dktX18_init_5
def dkwX18_init_3 : List UInt8 := [21, 5, 185, 0, 27, 2, 0, 192, 0, 31, 180, 0, 33, 180, 0, 43, 100, 5, 28, 104, 164, 0, 7, 4]
abbrev dktX18_init_3 : List UInt8 := dkwX18_init_3 ++ dktX18_init_4
def dkwX18_init_2 : List UInt8 := [159, 0, 46, 45, 21, 5, 4, 96, 185, 0, 27, 2, 0, 192, 0, 31, 180, 0, 33, 180, 0, 37, 45]
abbrev dktX18_init_2 : List UInt8 := dkwX18_init_2 ++ dktX18_init_3
def dkwX18_init_1 : List UInt8 := [54, 5, 21, 5, 45, 185, 0, 21, 1, 0, 162, 0, 120, 21, 5, 4, 96, 45, 185, 0, 21, 1, 0]
abbrev dktX18_init_1 : List UInt8 := dkwX18_init_1 ++ dktX18_init_2
def dkwX18_init_0 : List UInt8 := [42, 183, 0, 1, 42, 187, 0, 7, 89, 183, 0, 9, 181, 0, 10, 43, 180, 0, 16, 78, 3, 54, 4, 3]
abbrev dktX18_init_0 : List UInt8 := dkwX18_init_0 ++ dktX18_init_1
theorem dksX18_init_0 : cX18_init.data.toList.drop 0 = dktX18_init_0 := by decide +kernel
theorem dksX18_init_1 : cX18_init.data.toList.drop 24 = dktX18_init_1 := dk_seg dksX18_init_0 24 rfl rfl
theorem dksX18_init_2 : cX18_init.data.toList.drop 47 = dktX18_init_2 := dk_seg dksX18_init_1 23 rfl rfl
theorem dksX18_init_3 : cX18_init.data.toList.drop 70 = dktX18_init_3 := dk_seg dksX18_init_2 23 rfl rfl
theorem dksX18_init_4 : cX18_init.data.toList.drop 94 = dktX18_init_4 := dk_seg dksX18_init_3 24 rfl rfl
theorem dksX18_init_5 : cX18_init.data.toList.drop 118 = dktX18_init_5 := dk_seg dksX18_init_4 24 rfl rfl
theorem dksX18_init_6 : cX18_init.data.toList.drop 142 = dktX18_init_6 := dk_seg dksX18_init_5 24 rfl rfl
theorem dX18_init_0 : decode cX18_init 0 = .ok (.aload_n 0, 1) := dk_42 (dk_at dksX18_init_0 0 rfl rfl)
theorem dX18_init_1 : decode cX18_init 1 = .ok (.invokespecial 1, 3) := dk_183 0 1 (dk_at dksX18_init_0 1 rfl rfl)
theorem dX18_init_4 : decode cX18_init 4 = .ok (.aload_n 0, 1) := dk_42 (dk_at dksX18_init_0 4 rfl rfl)
theorem dX18_init_5 : decode cX18_init 5 = .ok (.new 7, 3) := dk_187 0 7 (dk_at dksX18_init_0 5 rfl rfl)
theorem dX18_init_8 : decode cX18_init 8 = .ok (.dup, 1) := dk_89 (dk_at dksX18_init_0 8 rfl rfl)
theorem dX18_init_9 : decode cX18_init 9 = .ok (.invokespecial 9, 3) := dk_183 0 9 (dk_at dksX18_init_0 9 rfl rfl)
theorem dX18_init_12 : decode cX18_init 12 = .ok (.putfield 10, 3) := dk_181 0 10 (dk_at dksX18_init_0 12 rfl rfl)
theorem dX18_init_15 : decode cX18_init 15 = .ok (.aload_n 1, 1) := dk_43 (dk_at dksX18_init_0 15 rfl rfl)
theorem dX18_init_16 : decode cX18_init 16 = .ok (.getfield 16, 3) := dk_180 0 16 (dk_at dksX18_init_0 16 rfl rfl)
theorem dX18_init_19 : decode cX18_init 19 = .ok (.astore_n 3, 1) := dk_78 (dk_at dksX18_init_0 19 rfl rfl)
theorem dX18_init_20 : decode cX18_init 20 = .ok (.iconst 0, 1) := dk_3 (dk_at dksX18_init_0 20 rfl rfl)
theorem dX18_init_21 : decode cX18_init 21 = .ok (.istore 4, 2) := dk_54 4 (dk_at dksX18_init_0 21 rfl rfl)
theorem dX18_init_23 : decode cX18_init 23 = .ok (.iconst 0, 1) := dk_3 (dk_at dksX18_init_0 23 rfl rfl)
theorem dX18_init_24 : decode cX18_init 24 = .ok (.istore 5, 2) := dk_54 5 (dk_at dksX18_init_1 0 rfl rfl)
theorem dX18_init_26 : decode cX18_init 26 = .ok (.iload 5, 2) := dk_21 5 (dk_at dksX18_init_1 2 rfl rfl)
theorem dX18_init_28 : decode cX18_init 28 = .ok (.aload_n 3, 1) := dk_45 (dk_at dksX18_init_1 4 rfl rfl)
theorem dX18_init_29 : decode cX18_init 29 = .ok (.invokeinterface 21 1, 5) := by decide +kernel
theorem dX18_init_34 : decode cX18_init 34 = .ok (.if_icmp .ge 120, 3) := dk_162 0 120 (dk_at dksX18_init_1 10 rfl rfl)
theorem dX18_init_37 : decode cX18_init 37 = .ok (.iload 5, 2) := dk_21 5 (dk_at dksX18_init_1 13 rfl rfl)
theorem dX18_init_39 : decode cX18_init 39 = .ok (.iconst 1, 1) := dk_4 (dk_at dksX18_init_1 15 rfl rfl)
theorem dX18_init_40 : decode cX18_init 40 = .ok (.iadd, 1) := dk_96 (dk_at dksX18_init_1 16 rfl rfl)
theorem dX18_init_41 : decode cX18_init 41 = .ok (.aload_n 3, 1) := dk_45 (dk_at dksX18_init_1 17 rfl rfl)
theorem dX18_init_42 : decode cX18_init 42 = .ok (.invokeinterface 21 1, 5) := by decide +kernel
theorem dX18_init_47 : decode cX18_init 47 = .ok (.if_icmp .eq 46, 3) := dk_159 0 46 (dk_at dksX18_init_2 0 rfl rfl)
theorem dX18_init_50 : decode cX18_init 50 = .ok (.aload_n 3, 1) := dk_45 (dk_at dksX18_init_2 3 rfl rfl)
theorem dX18_init_51 : decode cX18_init 51 = .ok (.iload 5, 2) := dk_21 5 (dk_at dksX18_init_2 4 rfl rfl)
theorem dX18_init_53 : decode cX18_init 53 = .ok (.iconst 1, 1) := dk_4 (dk_at dksX18_init_2 6 rfl rfl)
theorem dX18_init_54 : decode cX18_init 54 = .ok (.iadd, 1) := dk_96 (dk_at dksX18_init_2 7 rfl rfl)
theorem dX18_init_55 : decode cX18_init 55 = .ok (.invokeinterface 27 2, 5) := by decide +kernel
theorem dX18_init_60 : decode cX18_init 60 = .ok (.checkcast 31, 3) := dk_192 0 31 (dk_at dksX18_init_2 13 rfl rfl)
theorem dX18_init_63 : decode cX18_init 63 = .ok (.getfield 33, 3) := dk_180 0 33 (dk_at dksX18_init_2 16 rfl rfl)
theorem dX18_init_66 : decode cX18_init 66 = .ok (.getfield 37, 3) := dk_180 0 37 (dk_at dksX18_init_2 19 rfl rfl)
theorem dX18_init_69 : decode cX18_init 69 = .ok (.aload_n 3, 1) := dk_45 (dk_at dksX18_init_2 22 rfl rfl)
theorem dX18_init_70 : decode cX18_init 70 = .ok (.iload 5, 2) := dk_21 5 (dk_at dksX18_init_3 0 rfl rfl)
theorem dX18_init_72 : decode cX18_init 72 = .ok (.invokeinterface 27 2, 5) := by decide +kernel
theorem dX18_init_77 : decode cX18_init 77 = .ok (.checkcast 31, 3) := dk_192 0 31 (dk_at dksX18_init_3 7 rfl rfl)
theorem dX18_init_80 : decode cX18_init 80 = .ok (.getfield 33, 3) := dk_180 0 33 (dk_at dksX18_init_3 10 rfl rfl)
theorem dX18_init_83 : decode cX18_init 83 = .ok (.getfield 43, 3) := dk_180 0 43 (dk_at dksX18_init_3 13 rfl rfl)
theorem dX18_init_86 : decode cX18_init 86 = .ok (.isub, 1) := dk_100 (dk_at dksX18_init_3 16 rfl rfl)
theorem dX18_init_87 : decode cX18_init 87 = .ok (.iconst 2, 1) := dk_5 (dk_at dksX18_init_3 17 rfl rfl)
theorem dX18_init_88 : decode cX18_init 88 = .ok (.iload_n 2, 1) := dk_28 (dk_at dksX18_init_3 18 rfl rfl)
theorem dX18_init_89 : decode cX18_init 89 = .ok (.imul, 1) := dk_104 (dk_at dksX18_init_3 19 rfl rfl)
theorem dX18_init_90 : decode cX18_init 90 = .ok (.if_icmp .le 7, 3) := dk_164 0 7 (dk_at dksX18_init_3 20 rfl rfl)
theorem dX18_init_93 : decode cX18_init 93 = .ok (.iconst 1, 1) := dk_4 (dk_at dksX18_init_3 23 rfl rfl)
theorem dX18_init_94 : decode cX18_init 94 = .ok (.goto 4, 3) := dk_167 0 4 (dk_at dksX18_init_4 0 rfl rfl)
theorem dX18_init_97 : decode cX18_init 97 = .ok (.iconst 0, 1) := dk_3 (dk_at dksX18_init_4 3 rfl rfl)
theorem dX18_init_98 : decode cX18_init 98 = .ok (.istore 6, 2) := dk_54 6 (dk_at dksX18_init_4 4 rfl rfl)
theorem dX18_init_100 : decode cX18_init 100 = .ok (.iload 6, 2) := dk_21 6 (dk_at dksX18_init_4 6 rfl rfl)
theorem dX18_init_102 : decode cX18_init 102 = .ok (.ifCond .eq 46, 3) := dk_153 0 46 (dk_at dksX18_init_4 8 rfl rfl)
theorem dX18_init_105 : decode cX18_init 105 = .ok (.aload_n 0, 1) := dk_42 (dk_at dksX18_init_4 11 rfl rfl)
theorem dX18_init_106 : decode cX18_init 106 = .ok (.getfield 10, 3) := dk_180 0 10 (dk_at dksX18_init_4 12 rfl rfl)
theorem dX18_init_109 : decode cX18_init 109 = .ok (.aload_n 1, 1) := dk_43 (dk_at dksX18_init_4 15 rfl rfl)
theorem dX18_init_110 : decode cX18_init 110 = .ok (.aload_n 3, 1) := dk_45 (dk_at dksX18_init_4 16 rfl rfl)
theorem dX18_init_111 : decode cX18_init 111 = .ok (.iload 4, 2) := dk_21 4 (dk_at dksX18_init_4 17 rfl rfl)
theorem dX18_init_113 : decode cX18_init 113 = .ok (.invokeinterface 27 2, 5) := by decide +kernel
theorem dX18_init_118 : decode cX18_init 118 = .ok (.checkcast 31, 3) := dk_192 0 31 (dk_at dksX18_init_5 0 rfl rfl)
theorem dX18_init_121 : decode cX18_init 121 = .ok (.aload_n 3, 1) := dk_45 (dk_at dksX18_init_5 3 rfl rfl)
theorem dX18_init_122 : decode cX18_init 122 = .ok (.iload 5, 2) := dk_21 5 (dk_at dksX18_init_5 4 rfl rfl)
theorem dX18_init_124 : decode cX18_init 124 = .ok (.invokeinterface 27 2, 5) := by decide +kernel
theorem dX18_init_129 : decode cX18_init 129 = .ok (.checkcast 31, 3) := dk_192 0 31 (dk_at dksX18_init_5 11 rfl rfl)
theorem dX18_init_132 : decode cX18_init 132 = .ok (.iload_n 2, 1) := dk_28 (dk_at dksX18_init_5 14 rfl rfl)
theorem dX18_init_133 : decode cX18_init 133 = .ok (.invokestatic 46, 3) := dk_184 0 46 (dk_at dksX18_init_5 15 rfl rfl)
theorem dX18_init_136 : decode cX18_init 136 = .ok (.invokeinterface 50 2, 5) := by decide +kernel
theorem dX18_init_141 : decode cX18_init 141 = .ok (.pop, 1) := dk_87 (dk_at dksX18_init_5 23 rfl rfl)
theorem dX18_init_142 : decode cX18_init 142 = .ok (.iload 5, 2) := dk_21 5 (dk_at dksX18_init_6 0 rfl rfl)
theorem dX18_init_144 : decode cX18_init 144 = .ok (.iconst 1, 1) := dk_4 (dk_at dksX18_init_6 2 rfl rfl)
theorem dX18_init_145 : decode cX18_init 145 = .ok (.iadd, 1) := dk_96 (dk_at dksX18_init_6 3 rfl rfl)
theorem dX18_init_146 : decode cX18_init 146 = .ok (.istore 4, 2) := dk_54 4 (dk_at dksX18_init_6 4 rfl rfl)
theorem dX18_init_148 : decode cX18_init 148 = .ok (.iinc 5 1, 3) := dk_132 5 1 (dk_at dksX18_init_6 6 rfl rfl)
theorem dX18_init_151 : decode cX18_init 151 = .ok (.goto (-125), 3) := dk_167 255 131 (dk_at dksX18_init_6 9 rfl rfl)
theorem dX18_init_154 : decode cX18_init 154 = .ok (.return_, 1) := dk_177 (dk_at dksX18_init_6 12 rfl rfl)
abbrev cX18_hunk : ByteArray := prog_18_method_2_code
def yX18_hunk : MethodName := ⟨RX18, "hunk", "(LMergeWorkbench$Comparison;LMergeWorkbench$Difference;LMergeWorkbench$Difference;I)LMergeWorkbench$Hunk;"⟩
def dkwX18_hunk_4 : List UInt8 := [96, 183, 0, 63, 58, 7, 187, 0, 72, 89, 25, 6, 25, 7, 21, 4, 21, 5, 183, 0, 74, 176]
abbrev dktX18_hunk_4 : List UInt8 := dkwX18_hunk_4 ++ []
def dkwX18_hunk_3 : List UInt8 := [89, 42, 180, 0, 66, 43, 180, 0, 69, 180, 0, 37, 21, 4, 100, 44, 180, 0, 69, 180, 0, 43, 21, 5]
abbrev dktX18_hunk_3 : List UInt8 := dkwX18_hunk_3 ++ dktX18_hunk_4
def dkwX18_hunk_2 : List UInt8 := [180, 0, 37, 21, 4, 100, 44, 180, 0, 33, 180, 0, 43, 21, 5, 96, 183, 0, 63, 58, 6, 187, 0, 38]
abbrev dktX18_hunk_2 : List UInt8 := dkwX18_hunk_2 ++ dktX18_hunk_3
def dkwX18_hunk_1 : List UInt8 := [180, 0, 33, 180, 0, 43, 100, 184, 0, 54, 54, 5, 187, 0, 38, 89, 42, 180, 0, 60, 43, 180, 0, 33]
abbrev dktX18_hunk_1 : List UInt8 := dkwX18_hunk_1 ++ dktX18_hunk_2
def dkwX18_hunk_0 : List UInt8 := [29, 43, 180, 0, 33, 180, 0, 37, 184, 0, 54, 54, 4, 29, 42, 180, 0, 60, 185, 0, 21, 1, 0, 44]
abbrev dktX18_hunk_0 : List UInt8 := dkwX18_hunk_0 ++ dktX18_hunk_1
theorem dksX18_hunk_0 : cX18_hunk.data.toList.drop 0 = dktX18_hunk_0 := by decide +kernel
theorem dksX18_hunk_1 : cX18_hunk.data.toList.drop 24 = dktX18_hunk_1 := dk_seg dksX18_hunk_0 24 rfl rfl
theorem dksX18_hunk_2 : cX18_hunk.data.toList.drop 48 = dktX18_hunk_2 := dk_seg dksX18_hunk_1 24 rfl rfl
theorem dksX18_hunk_3 : cX18_hunk.data.toList.drop 72 = dktX18_hunk_3 := dk_seg dksX18_hunk_2 24 rfl rfl
theorem dksX18_hunk_4 : cX18_hunk.data.toList.drop 96 = dktX18_hunk_4 := dk_seg dksX18_hunk_3 24 rfl rfl
theorem dX18_hunk_0 : decode cX18_hunk 0 = .ok (.iload_n 3, 1) := dk_29 (dk_at dksX18_hunk_0 0 rfl rfl)
theorem dX18_hunk_1 : decode cX18_hunk 1 = .ok (.aload_n 1, 1) := dk_43 (dk_at dksX18_hunk_0 1 rfl rfl)
theorem dX18_hunk_2 : decode cX18_hunk 2 = .ok (.getfield 33, 3) := dk_180 0 33 (dk_at dksX18_hunk_0 2 rfl rfl)
theorem dX18_hunk_5 : decode cX18_hunk 5 = .ok (.getfield 37, 3) := dk_180 0 37 (dk_at dksX18_hunk_0 5 rfl rfl)
theorem dX18_hunk_8 : decode cX18_hunk 8 = .ok (.invokestatic 54, 3) := dk_184 0 54 (dk_at dksX18_hunk_0 8 rfl rfl)
theorem dX18_hunk_11 : decode cX18_hunk 11 = .ok (.istore 4, 2) := dk_54 4 (dk_at dksX18_hunk_0 11 rfl rfl)
theorem dX18_hunk_13 : decode cX18_hunk 13 = .ok (.iload_n 3, 1) := dk_29 (dk_at dksX18_hunk_0 13 rfl rfl)
theorem dX18_hunk_14 : decode cX18_hunk 14 = .ok (.aload_n 0, 1) := dk_42 (dk_at dksX18_hunk_0 14 rfl rfl)
theorem dX18_hunk_15 : decode cX18_hunk 15 = .ok (.getfield 60, 3) := dk_180 0 60 (dk_at dksX18_hunk_0 15 rfl rfl)
theorem dX18_hunk_18 : decode cX18_hunk 18 = .ok (.invokeinterface 21 1, 5) := by decide +kernel
theorem dX18_hunk_23 : decode cX18_hunk 23 = .ok (.aload_n 2, 1) := dk_44 (dk_at dksX18_hunk_0 23 rfl rfl)
theorem dX18_hunk_24 : decode cX18_hunk 24 = .ok (.getfield 33, 3) := dk_180 0 33 (dk_at dksX18_hunk_1 0 rfl rfl)
theorem dX18_hunk_27 : decode cX18_hunk 27 = .ok (.getfield 43, 3) := dk_180 0 43 (dk_at dksX18_hunk_1 3 rfl rfl)
theorem dX18_hunk_30 : decode cX18_hunk 30 = .ok (.isub, 1) := dk_100 (dk_at dksX18_hunk_1 6 rfl rfl)
theorem dX18_hunk_31 : decode cX18_hunk 31 = .ok (.invokestatic 54, 3) := dk_184 0 54 (dk_at dksX18_hunk_1 7 rfl rfl)
theorem dX18_hunk_34 : decode cX18_hunk 34 = .ok (.istore 5, 2) := dk_54 5 (dk_at dksX18_hunk_1 10 rfl rfl)
theorem dX18_hunk_36 : decode cX18_hunk 36 = .ok (.new 38, 3) := dk_187 0 38 (dk_at dksX18_hunk_1 12 rfl rfl)
theorem dX18_hunk_39 : decode cX18_hunk 39 = .ok (.dup, 1) := dk_89 (dk_at dksX18_hunk_1 15 rfl rfl)
theorem dX18_hunk_40 : decode cX18_hunk 40 = .ok (.aload_n 0, 1) := dk_42 (dk_at dksX18_hunk_1 16 rfl rfl)
theorem dX18_hunk_41 : decode cX18_hunk 41 = .ok (.getfield 60, 3) := dk_180 0 60 (dk_at dksX18_hunk_1 17 rfl rfl)
theorem dX18_hunk_44 : decode cX18_hunk 44 = .ok (.aload_n 1, 1) := dk_43 (dk_at dksX18_hunk_1 20 rfl rfl)
theorem dX18_hunk_45 : decode cX18_hunk 45 = .ok (.getfield 33, 3) := dk_180 0 33 (dk_at dksX18_hunk_1 21 rfl rfl)
theorem dX18_hunk_48 : decode cX18_hunk 48 = .ok (.getfield 37, 3) := dk_180 0 37 (dk_at dksX18_hunk_2 0 rfl rfl)
theorem dX18_hunk_51 : decode cX18_hunk 51 = .ok (.iload 4, 2) := dk_21 4 (dk_at dksX18_hunk_2 3 rfl rfl)
theorem dX18_hunk_53 : decode cX18_hunk 53 = .ok (.isub, 1) := dk_100 (dk_at dksX18_hunk_2 5 rfl rfl)
theorem dX18_hunk_54 : decode cX18_hunk 54 = .ok (.aload_n 2, 1) := dk_44 (dk_at dksX18_hunk_2 6 rfl rfl)
theorem dX18_hunk_55 : decode cX18_hunk 55 = .ok (.getfield 33, 3) := dk_180 0 33 (dk_at dksX18_hunk_2 7 rfl rfl)
theorem dX18_hunk_58 : decode cX18_hunk 58 = .ok (.getfield 43, 3) := dk_180 0 43 (dk_at dksX18_hunk_2 10 rfl rfl)
theorem dX18_hunk_61 : decode cX18_hunk 61 = .ok (.iload 5, 2) := dk_21 5 (dk_at dksX18_hunk_2 13 rfl rfl)
theorem dX18_hunk_63 : decode cX18_hunk 63 = .ok (.iadd, 1) := dk_96 (dk_at dksX18_hunk_2 15 rfl rfl)
theorem dX18_hunk_64 : decode cX18_hunk 64 = .ok (.invokespecial 63, 3) := dk_183 0 63 (dk_at dksX18_hunk_2 16 rfl rfl)
theorem dX18_hunk_67 : decode cX18_hunk 67 = .ok (.astore 6, 2) := dk_58 6 (dk_at dksX18_hunk_2 19 rfl rfl)
theorem dX18_hunk_69 : decode cX18_hunk 69 = .ok (.new 38, 3) := dk_187 0 38 (dk_at dksX18_hunk_2 21 rfl rfl)
theorem dX18_hunk_72 : decode cX18_hunk 72 = .ok (.dup, 1) := dk_89 (dk_at dksX18_hunk_3 0 rfl rfl)
theorem dX18_hunk_73 : decode cX18_hunk 73 = .ok (.aload_n 0, 1) := dk_42 (dk_at dksX18_hunk_3 1 rfl rfl)
theorem dX18_hunk_74 : decode cX18_hunk 74 = .ok (.getfield 66, 3) := dk_180 0 66 (dk_at dksX18_hunk_3 2 rfl rfl)
theorem dX18_hunk_77 : decode cX18_hunk 77 = .ok (.aload_n 1, 1) := dk_43 (dk_at dksX18_hunk_3 5 rfl rfl)
theorem dX18_hunk_78 : decode cX18_hunk 78 = .ok (.getfield 69, 3) := dk_180 0 69 (dk_at dksX18_hunk_3 6 rfl rfl)
theorem dX18_hunk_81 : decode cX18_hunk 81 = .ok (.getfield 37, 3) := dk_180 0 37 (dk_at dksX18_hunk_3 9 rfl rfl)
theorem dX18_hunk_84 : decode cX18_hunk 84 = .ok (.iload 4, 2) := dk_21 4 (dk_at dksX18_hunk_3 12 rfl rfl)
theorem dX18_hunk_86 : decode cX18_hunk 86 = .ok (.isub, 1) := dk_100 (dk_at dksX18_hunk_3 14 rfl rfl)
theorem dX18_hunk_87 : decode cX18_hunk 87 = .ok (.aload_n 2, 1) := dk_44 (dk_at dksX18_hunk_3 15 rfl rfl)
theorem dX18_hunk_88 : decode cX18_hunk 88 = .ok (.getfield 69, 3) := dk_180 0 69 (dk_at dksX18_hunk_3 16 rfl rfl)
theorem dX18_hunk_91 : decode cX18_hunk 91 = .ok (.getfield 43, 3) := dk_180 0 43 (dk_at dksX18_hunk_3 19 rfl rfl)
theorem dX18_hunk_94 : decode cX18_hunk 94 = .ok (.iload 5, 2) := dk_21 5 (dk_at dksX18_hunk_3 22 rfl rfl)
theorem dX18_hunk_96 : decode cX18_hunk 96 = .ok (.iadd, 1) := dk_96 (dk_at dksX18_hunk_4 0 rfl rfl)
theorem dX18_hunk_97 : decode cX18_hunk 97 = .ok (.invokespecial 63, 3) := dk_183 0 63 (dk_at dksX18_hunk_4 1 rfl rfl)
theorem dX18_hunk_100 : decode cX18_hunk 100 = .ok (.astore 7, 2) := dk_58 7 (dk_at dksX18_hunk_4 4 rfl rfl)
theorem dX18_hunk_102 : decode cX18_hunk 102 = .ok (.new 72, 3) := dk_187 0 72 (dk_at dksX18_hunk_4 6 rfl rfl)
theorem dX18_hunk_105 : decode cX18_hunk 105 = .ok (.dup, 1) := dk_89 (dk_at dksX18_hunk_4 9 rfl rfl)
theorem dX18_hunk_106 : decode cX18_hunk 106 = .ok (.aload 6, 2) := dk_25 6 (dk_at dksX18_hunk_4 10 rfl rfl)
theorem dX18_hunk_108 : decode cX18_hunk 108 = .ok (.aload 7, 2) := dk_25 7 (dk_at dksX18_hunk_4 12 rfl rfl)
theorem dX18_hunk_110 : decode cX18_hunk 110 = .ok (.iload 4, 2) := dk_21 4 (dk_at dksX18_hunk_4 14 rfl rfl)
theorem dX18_hunk_112 : decode cX18_hunk 112 = .ok (.iload 5, 2) := dk_21 5 (dk_at dksX18_hunk_4 16 rfl rfl)
theorem dX18_hunk_114 : decode cX18_hunk 114 = .ok (.invokespecial 74, 3) := dk_183 0 74 (dk_at dksX18_hunk_4 18 rfl rfl)
theorem dX18_hunk_117 : decode cX18_hunk 117 = .ok (.areturn, 1) := dk_176 (dk_at dksX18_hunk_4 21 rfl rfl)
theorem q148 : (Jvm.Cond.initialized "MergeWorkbench$Patch") ∈ lw_all := lw_g (lw_at lw_m1 65 rfl) rfl
theorem q310 : (Jvm.Cond.selects "MergeWorkbench$Patch" ({ cls := "java/lang/Object", name := "getClass", desc := "()Ljava/lang/Class;" } : Jvm.MethodName) ({ cls := "java/lang/Object", name := "getClass", desc := "()Ljava/lang/Class;" } : Jvm.MethodName)) ∈ lw_all := lw_g (lw_at lw_m1 227 rfl) rfl
theorem q1478 : (Jvm.Cond.selects "MergeWorkbench$Patch" ({ cls := "java/lang/Object", name := "equals", desc := "(Ljava/lang/Object;)Z" } : Jvm.MethodName) ({ cls := "java/lang/Object", name := "equals", desc := "(Ljava/lang/Object;)Z" } : Jvm.MethodName)) ∈ lw_all := lw_g (lw_at lw_m6 195 rfl) rfl
theorem q2375 : (Jvm.Cond.fieldLinkNest "MergeWorkbench$Patch" (37 : Nat) "MergeWorkbench$Part" "from" "I" "MergeWorkbench") ∈ lw_tbl := lw_at lw_m10 132 rfl
theorem q2383 : (Jvm.Cond.fieldLinkNest "MergeWorkbench$Patch" (43 : Nat) "MergeWorkbench$Part" "to" "I" "MergeWorkbench") ∈ lw_tbl := lw_at lw_m10 140 rfl
theorem q2399 : (Jvm.Cond.fieldLinkNest "MergeWorkbench$Patch" (33 : Nat) "MergeWorkbench$Difference" "old" "LMergeWorkbench$Part;" "MergeWorkbench") ∈ lw_tbl := lw_at lw_m10 156 rfl
theorem q2403 : (Jvm.Cond.fieldLinkNest "MergeWorkbench$Patch" (69 : Nat) "MergeWorkbench$Difference" "now" "LMergeWorkbench$Part;" "MergeWorkbench") ∈ lw_tbl := lw_at lw_m10 160 rfl
theorem q2416 : (Jvm.Cond.fieldLinkNest "MergeWorkbench$Patch" (60 : Nat) "MergeWorkbench$Comparison" "a" "Ljava/util/List;" "MergeWorkbench") ∈ lw_tbl := lw_at lw_m10 173 rfl
theorem q2422 : (Jvm.Cond.fieldLinkNest "MergeWorkbench$Patch" (66 : Nat) "MergeWorkbench$Comparison" "b" "Ljava/util/List;" "MergeWorkbench") ∈ lw_tbl := lw_at lw_m10 179 rfl
theorem q2431 : (Jvm.Cond.fieldLinkNest "MergeWorkbench$Patch" (16 : Nat) "MergeWorkbench$Comparison" "differences" "Ljava/util/List;" "MergeWorkbench") ∈ lw_tbl := lw_at lw_m10 188 rfl
theorem q3095 : (Jvm.Cond.instantiable "MergeWorkbench$Patch" (2 : Nat)) ∈ lw_all := lw_g (lw_at lw_m13 132 rfl) rfl
theorem q3097 : (Jvm.Cond.instanceMethod ({ cls := "MergeWorkbench$Patch", name := "<init>", desc := "(LMergeWorkbench$Comparison;I)V" } : Jvm.MethodName)) ∈ lw_all := lw_g (lw_at lw_m13 134 rfl) rfl
theorem q3098 : (Jvm.Cond.code ({ cls := "MergeWorkbench$Patch", name := "<init>", desc := "(LMergeWorkbench$Comparison;I)V" } : Jvm.MethodName) prog_18_method_1_code (7 : Nat) (Option.none : Option Jvm.ClassFile.FieldType)) ∈ lw_all := lw_g (lw_at lw_m13 135 rfl) rfl
theorem q3099 : (Jvm.Cond.methodLink "MergeWorkbench$Patch" (1 : Nat) ({ cls := "java/lang/Object", name := "<init>", desc := "()V" } : Jvm.MethodName)) ∈ lw_all := lw_g (lw_at lw_m13 136 rfl) rfl
theorem q3100 : (Jvm.Cond.classLink "MergeWorkbench$Patch" (7 : Nat) "java/util/ArrayList") ∈ lw_all := lw_g (lw_at lw_m13 137 rfl) rfl
theorem q3101 : (Jvm.Cond.methodLink "MergeWorkbench$Patch" (9 : Nat) ({ cls := "java/util/ArrayList", name := "<init>", desc := "()V" } : Jvm.MethodName)) ∈ lw_all := lw_g (lw_at lw_m13 138 rfl) rfl
theorem q3102 : (Jvm.Cond.interfaceEntry "MergeWorkbench$Patch" (21 : Nat)) ∈ lw_tbl := lw_at lw_m13 139 rfl
theorem q3103 : (Jvm.Cond.methodLink "MergeWorkbench$Patch" (21 : Nat) ({ cls := "java/util/List", name := "size", desc := "()I" } : Jvm.MethodName)) ∈ lw_all := lw_g (lw_at lw_m13 140 rfl) rfl
theorem q3104 : (Jvm.Cond.interfaceEntry "MergeWorkbench$Patch" (27 : Nat)) ∈ lw_tbl := lw_at lw_m13 141 rfl
theorem q3105 : (Jvm.Cond.methodLink "MergeWorkbench$Patch" (27 : Nat) ({ cls := "java/util/List", name := "get", desc := "(I)Ljava/lang/Object;" } : Jvm.MethodName)) ∈ lw_all := lw_g (lw_at lw_m13 142 rfl) rfl
theorem q3106 : (Jvm.Cond.classLink "MergeWorkbench$Patch" (31 : Nat) "MergeWorkbench$Difference") ∈ lw_all := lw_g (lw_at lw_m13 143 rfl) rfl
theorem q3107 : (Jvm.Cond.methodLink "MergeWorkbench$Patch" (46 : Nat) ({ cls := "MergeWorkbench$Patch", name := "hunk", desc := "(LMergeWorkbench$Comparison;LMergeWorkbench$Difference;LMergeWorkbench$Difference;I)LMergeWorkbench$Hunk;" } : Jvm.MethodName)) ∈ lw_all := lw_g (lw_at lw_m13 144 rfl) rfl
theorem q3108 : (Jvm.Cond.static ({ cls := "MergeWorkbench$Patch", name := "hunk", desc := "(LMergeWorkbench$Comparison;LMergeWorkbench$Difference;LMergeWorkbench$Difference;I)LMergeWorkbench$Hunk;" } : Jvm.MethodName)) ∈ lw_all := lw_g (lw_at lw_m13 145 rfl) rfl
theorem q3109 : (Jvm.Cond.code ({ cls := "MergeWorkbench$Patch", name := "hunk", desc := "(LMergeWorkbench$Comparison;LMergeWorkbench$Difference;LMergeWorkbench$Difference;I)LMergeWorkbench$Hunk;" } : Jvm.MethodName) prog_18_method_2_code (8 : Nat) (Option.some (Jvm.ClassFile.FieldType.object "MergeWorkbench$Hunk"))) ∈ lw_all := lw_g (lw_at lw_m13 146 rfl) rfl
theorem q3110 : (Jvm.Cond.methodLink "MergeWorkbench$Patch" (54 : Nat) ({ cls := "java/lang/Math", name := "min", desc := "(II)I" } : Jvm.MethodName)) ∈ lw_all := lw_g (lw_at lw_m13 147 rfl) rfl
theorem q3111 : (Jvm.Cond.classLink "MergeWorkbench$Patch" (38 : Nat) "MergeWorkbench$Part") ∈ lw_all := lw_g (lw_at lw_m13 148 rfl) rfl
theorem q3112 : (Jvm.Cond.methodLink "MergeWorkbench$Patch" (63 : Nat) ({ cls := "MergeWorkbench$Part", name := "<init>", desc := "(Ljava/util/List;II)V" } : Jvm.MethodName)) ∈ lw_all := lw_g (lw_at lw_m13 149 rfl) rfl
theorem q3113 : (Jvm.Cond.classLink "MergeWorkbench$Patch" (72 : Nat) "MergeWorkbench$Hunk") ∈ lw_all := lw_g (lw_at lw_m13 150 rfl) rfl
theorem q3115 : (Jvm.Cond.methodLink "MergeWorkbench$Patch" (74 : Nat) ({ cls := "MergeWorkbench$Hunk", name := "<init>", desc := "(LMergeWorkbench$Part;LMergeWorkbench$Part;II)V" } : Jvm.MethodName)) ∈ lw_all := lw_g (lw_at lw_m13 152 rfl) rfl
theorem q3134 : (Jvm.Cond.interfaceEntry "MergeWorkbench$Patch" (50 : Nat)) ∈ lw_tbl := lw_at lw_m13 171 rfl
theorem q3135 : (Jvm.Cond.methodLink "MergeWorkbench$Patch" (50 : Nat) ({ cls := "java/util/List", name := "add", desc := "(Ljava/lang/Object;)Z" } : Jvm.MethodName)) ∈ lw_all := lw_g (lw_at lw_m13 172 rfl) rfl
theorem q3136 : (Jvm.Cond.fieldLink "MergeWorkbench$Patch" (10 : Nat) "MergeWorkbench$Patch" "hunks" "Ljava/util/List;") ∈ lw_all := lw_g (lw_at lw_m13 173 rfl) rfl
theorem q3140 : (Jvm.Cond.laysFinal "MergeWorkbench$Patch" "MergeWorkbench$Patch" "hunks" "Ljava/util/List;") ∈ lw_all := lw_g (lw_at lw_m13 177 rfl) rfl
theorem q3141 : (Jvm.Cond.soleField "MergeWorkbench$Patch" "hunks") ∈ lw_all := lw_g (lw_at lw_m13 178 rfl) rfl
theorem q3142 : (Jvm.Cond.lays "MergeWorkbench$Patch" "MergeWorkbench$Patch" "outcomes" "Ljava/util/List;") ∈ lw_all := lw_g (lw_at lw_m13 179 rfl) rfl
theorem q3143 : (Jvm.Cond.soleField "MergeWorkbench$Patch" "outcomes") ∈ lw_all := lw_g (lw_at lw_m13 180 rfl) rfl
theorem q3144 : (Jvm.Cond.superclass "MergeWorkbench$Patch" "java/lang/Object") ∈ lw_all := lw_g (lw_at lw_m13 181 rfl) rfl
theorem q3945 : (Jvm.Cond.castable "MergeWorkbench$Patch" "java/lang/Object") ∈ lw_tbl := lw_at lw_m17 22 rfl
theorem in_X18 : ∀ w ∈ wsX180, w ∈ lw_all := lw_in wsX180 [3140, 3142] (by decide +kernel) (by decide +kernel)

/-! MergeWorkbench$Hunk -/
set_option maxRecDepth 100000
def RX19 : String := "MergeWorkbench$Hunk"
def TX19 : u_T := fun k => match k with
  | 0 => ("MergeWorkbench$Hunk", "old", "LMergeWorkbench$Part;", true)
  | 1 => ("MergeWorkbench$Hunk", "now", "LMergeWorkbench$Part;", true)
  | 2 => ("MergeWorkbench$Hunk", "leading", "I", true)
  | _ => ("MergeWorkbench$Hunk", "trailing", "I", true)
def tyX19 : Nat → FieldType := fun k => match k with
  | 0 => .object "MergeWorkbench$Part"
  | 1 => .object "MergeWorkbench$Part"
  | 2 => .int
  | _ => .int
abbrev wsX190 : List Cond := u_ws RX19 TX19 4
theorem nmX19 : ∀ a, a < 4 → ∀ b, b < 4 → a ≠ b → (TX19 a).2.1 ≠ (TX19 b).2.1 := by decide +kernel
theorem tyX19_ok : ∀ k, k < 4 → parseFieldDescriptor (TX19 k).2.2.1 = some (tyX19 k) := by decide +kernel
abbrev cX19_init : ByteArray := prog_11_method_1_code
def yX19_init : MethodName := ⟨RX19, "<init>", "(LMergeWorkbench$Part;LMergeWorkbench$Part;II)V"⟩
def dkwX19_init_1 : List UInt8 := [181, 0, 20, 177]
abbrev dktX19_init_1 : List UInt8 := dkwX19_init_1 ++ []
def dkwX19_init_0 : List UInt8 := [42, 183, 0, 1, 42, 43, 181, 0, 7, 42, 44, 181, 0, 13, 42, 29, 181, 0, 16, 42, 21, 4]
abbrev dktX19_init_0 : List UInt8 := dkwX19_init_0 ++ dktX19_init_1
theorem dksX19_init_0 : cX19_init.data.toList.drop 0 = dktX19_init_0 := by decide +kernel
theorem dksX19_init_1 : cX19_init.data.toList.drop 22 = dktX19_init_1 := dk_seg dksX19_init_0 22 rfl rfl
theorem dX19_init_0 : decode cX19_init 0 = .ok (.aload_n 0, 1) := dk_42 (dk_at dksX19_init_0 0 rfl rfl)
theorem dX19_init_1 : decode cX19_init 1 = .ok (.invokespecial 1, 3) := dk_183 0 1 (dk_at dksX19_init_0 1 rfl rfl)
theorem dX19_init_4 : decode cX19_init 4 = .ok (.aload_n 0, 1) := dk_42 (dk_at dksX19_init_0 4 rfl rfl)
theorem dX19_init_5 : decode cX19_init 5 = .ok (.aload_n 1, 1) := dk_43 (dk_at dksX19_init_0 5 rfl rfl)
theorem dX19_init_6 : decode cX19_init 6 = .ok (.putfield 7, 3) := dk_181 0 7 (dk_at dksX19_init_0 6 rfl rfl)
theorem dX19_init_9 : decode cX19_init 9 = .ok (.aload_n 0, 1) := dk_42 (dk_at dksX19_init_0 9 rfl rfl)
theorem dX19_init_10 : decode cX19_init 10 = .ok (.aload_n 2, 1) := dk_44 (dk_at dksX19_init_0 10 rfl rfl)
theorem dX19_init_11 : decode cX19_init 11 = .ok (.putfield 13, 3) := dk_181 0 13 (dk_at dksX19_init_0 11 rfl rfl)
theorem dX19_init_14 : decode cX19_init 14 = .ok (.aload_n 0, 1) := dk_42 (dk_at dksX19_init_0 14 rfl rfl)
theorem dX19_init_15 : decode cX19_init 15 = .ok (.iload_n 3, 1) := dk_29 (dk_at dksX19_init_0 15 rfl rfl)
theorem dX19_init_16 : decode cX19_init 16 = .ok (.putfield 16, 3) := dk_181 0 16 (dk_at dksX19_init_0 16 rfl rfl)
theorem dX19_init_19 : decode cX19_init 19 = .ok (.aload_n 0, 1) := dk_42 (dk_at dksX19_init_0 19 rfl rfl)
theorem dX19_init_20 : decode cX19_init 20 = .ok (.iload 4, 2) := dk_21 4 (dk_at dksX19_init_0 20 rfl rfl)
theorem dX19_init_22 : decode cX19_init 22 = .ok (.putfield 20, 3) := dk_181 0 20 (dk_at dksX19_init_1 0 rfl rfl)
theorem dX19_init_25 : decode cX19_init 25 = .ok (.return_, 1) := dk_177 (dk_at dksX19_init_1 3 rfl rfl)
abbrev cX19_property : ByteArray := prog_11_method_4_code
def yX19_property : MethodName := ⟨RX19, "property", "(I)I"⟩
def dkwX19_property_3 : List UInt8 := [42, 180, 0, 13, 182, 0, 41, 172, 42, 180, 0, 16, 172, 42, 180, 0, 20, 172]
abbrev dktX19_property_3 : List UInt8 := dkwX19_property_3 ++ []
def dkwX19_property_2 : List UInt8 := [42, 180, 0, 7, 180, 0, 38, 172, 42, 180, 0, 7, 182, 0, 41, 172, 42, 180, 0, 13, 180, 0, 38, 172]
abbrev dktX19_property_2 : List UInt8 := dkwX19_property_2 ++ dktX19_property_3
def dkwX19_property_1 : List UInt8 := [170, 0, 0, 0, 0, 0, 72, 0, 0, 0, 0, 0, 0, 0, 4, 0, 0, 0, 35, 0, 0, 0, 43, 0, 0, 0, 51, 0, 0, 0, 59, 0, 0, 0, 67]
abbrev dktX19_property_1 : List UInt8 := dkwX19_property_1 ++ dktX19_property_2
def dkwX19_property_0 : List UInt8 := [27]
abbrev dktX19_property_0 : List UInt8 := dkwX19_property_0 ++ dktX19_property_1
theorem dksX19_property_0 : cX19_property.data.toList.drop 0 = dktX19_property_0 := by decide +kernel
theorem dksX19_property_1 : cX19_property.data.toList.drop 1 = dktX19_property_1 := dk_seg dksX19_property_0 1 rfl rfl
theorem dksX19_property_2 : cX19_property.data.toList.drop 36 = dktX19_property_2 := dk_seg dksX19_property_1 35 rfl rfl
theorem dksX19_property_3 : cX19_property.data.toList.drop 60 = dktX19_property_3 := dk_seg dksX19_property_2 24 rfl rfl
theorem dX19_property_0 : decode cX19_property 0 = .ok (.iload_n 1, 1) := dk_27 (dk_at dksX19_property_0 0 rfl rfl)
theorem dX19_property_1 : decode cX19_property 1 = .ok (.tableswitch 72 0 4 #[35, 43, 51, 59, 67], 35) := by decide +kernel
theorem dX19_property_36 : decode cX19_property 36 = .ok (.aload_n 0, 1) := dk_42 (dk_at dksX19_property_2 0 rfl rfl)
theorem dX19_property_37 : decode cX19_property 37 = .ok (.getfield 7, 3) := dk_180 0 7 (dk_at dksX19_property_2 1 rfl rfl)
theorem dX19_property_40 : decode cX19_property 40 = .ok (.getfield 38, 3) := dk_180 0 38 (dk_at dksX19_property_2 4 rfl rfl)
theorem dX19_property_43 : decode cX19_property 43 = .ok (.ireturn, 1) := dk_172 (dk_at dksX19_property_2 7 rfl rfl)
theorem dX19_property_44 : decode cX19_property 44 = .ok (.aload_n 0, 1) := dk_42 (dk_at dksX19_property_2 8 rfl rfl)
theorem dX19_property_45 : decode cX19_property 45 = .ok (.getfield 7, 3) := dk_180 0 7 (dk_at dksX19_property_2 9 rfl rfl)
theorem dX19_property_48 : decode cX19_property 48 = .ok (.invokevirtual 41, 3) := dk_182 0 41 (dk_at dksX19_property_2 12 rfl rfl)
theorem dX19_property_51 : decode cX19_property 51 = .ok (.ireturn, 1) := dk_172 (dk_at dksX19_property_2 15 rfl rfl)
theorem dX19_property_52 : decode cX19_property 52 = .ok (.aload_n 0, 1) := dk_42 (dk_at dksX19_property_2 16 rfl rfl)
theorem dX19_property_53 : decode cX19_property 53 = .ok (.getfield 13, 3) := dk_180 0 13 (dk_at dksX19_property_2 17 rfl rfl)
theorem dX19_property_56 : decode cX19_property 56 = .ok (.getfield 38, 3) := dk_180 0 38 (dk_at dksX19_property_2 20 rfl rfl)
theorem dX19_property_59 : decode cX19_property 59 = .ok (.ireturn, 1) := dk_172 (dk_at dksX19_property_2 23 rfl rfl)
theorem dX19_property_60 : decode cX19_property 60 = .ok (.aload_n 0, 1) := dk_42 (dk_at dksX19_property_3 0 rfl rfl)
theorem dX19_property_61 : decode cX19_property 61 = .ok (.getfield 13, 3) := dk_180 0 13 (dk_at dksX19_property_3 1 rfl rfl)
theorem dX19_property_64 : decode cX19_property 64 = .ok (.invokevirtual 41, 3) := dk_182 0 41 (dk_at dksX19_property_3 4 rfl rfl)
theorem dX19_property_67 : decode cX19_property 67 = .ok (.ireturn, 1) := dk_172 (dk_at dksX19_property_3 7 rfl rfl)
theorem dX19_property_68 : decode cX19_property 68 = .ok (.aload_n 0, 1) := dk_42 (dk_at dksX19_property_3 8 rfl rfl)
theorem dX19_property_69 : decode cX19_property 69 = .ok (.getfield 16, 3) := dk_180 0 16 (dk_at dksX19_property_3 9 rfl rfl)
theorem dX19_property_72 : decode cX19_property 72 = .ok (.ireturn, 1) := dk_172 (dk_at dksX19_property_3 12 rfl rfl)
theorem dX19_property_73 : decode cX19_property 73 = .ok (.aload_n 0, 1) := dk_42 (dk_at dksX19_property_3 13 rfl rfl)
theorem dX19_property_74 : decode cX19_property 74 = .ok (.getfield 20, 3) := dk_180 0 20 (dk_at dksX19_property_3 14 rfl rfl)
theorem dX19_property_77 : decode cX19_property 77 = .ok (.ireturn, 1) := dk_172 (dk_at dksX19_property_3 17 rfl rfl)
abbrev cX19_reversed : ByteArray := prog_11_method_2_code
def yX19_reversed : MethodName := ⟨RX19, "reversed", "()LMergeWorkbench$Hunk;"⟩
def dkwX19_reversed_0 : List UInt8 := [187, 0, 8, 89, 42, 180, 0, 13, 42, 180, 0, 7, 42, 180, 0, 16, 42, 180, 0, 20, 183, 0, 23, 176]
abbrev dktX19_reversed_0 : List UInt8 := dkwX19_reversed_0 ++ []
theorem dksX19_reversed_0 : cX19_reversed.data.toList.drop 0 = dktX19_reversed_0 := by decide +kernel
theorem dX19_reversed_0 : decode cX19_reversed 0 = .ok (.new 8, 3) := dk_187 0 8 (dk_at dksX19_reversed_0 0 rfl rfl)
theorem dX19_reversed_3 : decode cX19_reversed 3 = .ok (.dup, 1) := dk_89 (dk_at dksX19_reversed_0 3 rfl rfl)
theorem dX19_reversed_4 : decode cX19_reversed 4 = .ok (.aload_n 0, 1) := dk_42 (dk_at dksX19_reversed_0 4 rfl rfl)
theorem dX19_reversed_5 : decode cX19_reversed 5 = .ok (.getfield 13, 3) := dk_180 0 13 (dk_at dksX19_reversed_0 5 rfl rfl)
theorem dX19_reversed_8 : decode cX19_reversed 8 = .ok (.aload_n 0, 1) := dk_42 (dk_at dksX19_reversed_0 8 rfl rfl)
theorem dX19_reversed_9 : decode cX19_reversed 9 = .ok (.getfield 7, 3) := dk_180 0 7 (dk_at dksX19_reversed_0 9 rfl rfl)
theorem dX19_reversed_12 : decode cX19_reversed 12 = .ok (.aload_n 0, 1) := dk_42 (dk_at dksX19_reversed_0 12 rfl rfl)
theorem dX19_reversed_13 : decode cX19_reversed 13 = .ok (.getfield 16, 3) := dk_180 0 16 (dk_at dksX19_reversed_0 13 rfl rfl)
theorem dX19_reversed_16 : decode cX19_reversed 16 = .ok (.aload_n 0, 1) := dk_42 (dk_at dksX19_reversed_0 16 rfl rfl)
theorem dX19_reversed_17 : decode cX19_reversed 17 = .ok (.getfield 20, 3) := dk_180 0 20 (dk_at dksX19_reversed_0 17 rfl rfl)
theorem dX19_reversed_20 : decode cX19_reversed 20 = .ok (.invokespecial 23, 3) := dk_183 0 23 (dk_at dksX19_reversed_0 20 rfl rfl)
theorem dX19_reversed_23 : decode cX19_reversed 23 = .ok (.areturn, 1) := dk_176 (dk_at dksX19_reversed_0 23 rfl rfl)
abbrev cX19_fuzzed : ByteArray := prog_11_method_3_code
def yX19_fuzzed : MethodName := ⟨RX19, "fuzzed", "(I)LMergeWorkbench$Hunk;"⟩
def dkwX19_fuzzed_2 : List UInt8 := [180, 0, 20, 29, 100, 183, 0, 23, 176]
abbrev dktX19_fuzzed_2 : List UInt8 := dkwX19_fuzzed_2 ++ []
def dkwX19_fuzzed_1 : List UInt8 := [180, 0, 7, 28, 29, 182, 0, 32, 42, 180, 0, 13, 28, 29, 182, 0, 32, 42, 180, 0, 16, 28, 100, 42]
abbrev dktX19_fuzzed_1 : List UInt8 := dkwX19_fuzzed_1 ++ dktX19_fuzzed_2
def dkwX19_fuzzed_0 : List UInt8 := [27, 42, 180, 0, 16, 184, 0, 26, 61, 27, 42, 180, 0, 20, 184, 0, 26, 62, 187, 0, 8, 89, 42]
abbrev dktX19_fuzzed_0 : List UInt8 := dkwX19_fuzzed_0 ++ dktX19_fuzzed_1
theorem dksX19_fuzzed_0 : cX19_fuzzed.data.toList.drop 0 = dktX19_fuzzed_0 := by decide +kernel
theorem dksX19_fuzzed_1 : cX19_fuzzed.data.toList.drop 23 = dktX19_fuzzed_1 := dk_seg dksX19_fuzzed_0 23 rfl rfl
theorem dksX19_fuzzed_2 : cX19_fuzzed.data.toList.drop 47 = dktX19_fuzzed_2 := dk_seg dksX19_fuzzed_1 24 rfl rfl
theorem dX19_fuzzed_0 : decode cX19_fuzzed 0 = .ok (.iload_n 1, 1) := dk_27 (dk_at dksX19_fuzzed_0 0 rfl rfl)
theorem dX19_fuzzed_1 : decode cX19_fuzzed 1 = .ok (.aload_n 0, 1) := dk_42 (dk_at dksX19_fuzzed_0 1 rfl rfl)
theorem dX19_fuzzed_2 : decode cX19_fuzzed 2 = .ok (.getfield 16, 3) := dk_180 0 16 (dk_at dksX19_fuzzed_0 2 rfl rfl)
theorem dX19_fuzzed_5 : decode cX19_fuzzed 5 = .ok (.invokestatic 26, 3) := dk_184 0 26 (dk_at dksX19_fuzzed_0 5 rfl rfl)
theorem dX19_fuzzed_8 : decode cX19_fuzzed 8 = .ok (.istore_n 2, 1) := dk_61 (dk_at dksX19_fuzzed_0 8 rfl rfl)
theorem dX19_fuzzed_9 : decode cX19_fuzzed 9 = .ok (.iload_n 1, 1) := dk_27 (dk_at dksX19_fuzzed_0 9 rfl rfl)
theorem dX19_fuzzed_10 : decode cX19_fuzzed 10 = .ok (.aload_n 0, 1) := dk_42 (dk_at dksX19_fuzzed_0 10 rfl rfl)
theorem dX19_fuzzed_11 : decode cX19_fuzzed 11 = .ok (.getfield 20, 3) := dk_180 0 20 (dk_at dksX19_fuzzed_0 11 rfl rfl)
theorem dX19_fuzzed_14 : decode cX19_fuzzed 14 = .ok (.invokestatic 26, 3) := dk_184 0 26 (dk_at dksX19_fuzzed_0 14 rfl rfl)
theorem dX19_fuzzed_17 : decode cX19_fuzzed 17 = .ok (.istore_n 3, 1) := dk_62 (dk_at dksX19_fuzzed_0 17 rfl rfl)
theorem dX19_fuzzed_18 : decode cX19_fuzzed 18 = .ok (.new 8, 3) := dk_187 0 8 (dk_at dksX19_fuzzed_0 18 rfl rfl)
theorem dX19_fuzzed_21 : decode cX19_fuzzed 21 = .ok (.dup, 1) := dk_89 (dk_at dksX19_fuzzed_0 21 rfl rfl)
theorem dX19_fuzzed_22 : decode cX19_fuzzed 22 = .ok (.aload_n 0, 1) := dk_42 (dk_at dksX19_fuzzed_0 22 rfl rfl)
theorem dX19_fuzzed_23 : decode cX19_fuzzed 23 = .ok (.getfield 7, 3) := dk_180 0 7 (dk_at dksX19_fuzzed_1 0 rfl rfl)
theorem dX19_fuzzed_26 : decode cX19_fuzzed 26 = .ok (.iload_n 2, 1) := dk_28 (dk_at dksX19_fuzzed_1 3 rfl rfl)
theorem dX19_fuzzed_27 : decode cX19_fuzzed 27 = .ok (.iload_n 3, 1) := dk_29 (dk_at dksX19_fuzzed_1 4 rfl rfl)
theorem dX19_fuzzed_28 : decode cX19_fuzzed 28 = .ok (.invokevirtual 32, 3) := dk_182 0 32 (dk_at dksX19_fuzzed_1 5 rfl rfl)
theorem dX19_fuzzed_31 : decode cX19_fuzzed 31 = .ok (.aload_n 0, 1) := dk_42 (dk_at dksX19_fuzzed_1 8 rfl rfl)
theorem dX19_fuzzed_32 : decode cX19_fuzzed 32 = .ok (.getfield 13, 3) := dk_180 0 13 (dk_at dksX19_fuzzed_1 9 rfl rfl)
theorem dX19_fuzzed_35 : decode cX19_fuzzed 35 = .ok (.iload_n 2, 1) := dk_28 (dk_at dksX19_fuzzed_1 12 rfl rfl)
theorem dX19_fuzzed_36 : decode cX19_fuzzed 36 = .ok (.iload_n 3, 1) := dk_29 (dk_at dksX19_fuzzed_1 13 rfl rfl)
theorem dX19_fuzzed_37 : decode cX19_fuzzed 37 = .ok (.invokevirtual 32, 3) := dk_182 0 32 (dk_at dksX19_fuzzed_1 14 rfl rfl)
theorem dX19_fuzzed_40 : decode cX19_fuzzed 40 = .ok (.aload_n 0, 1) := dk_42 (dk_at dksX19_fuzzed_1 17 rfl rfl)
theorem dX19_fuzzed_41 : decode cX19_fuzzed 41 = .ok (.getfield 16, 3) := dk_180 0 16 (dk_at dksX19_fuzzed_1 18 rfl rfl)
theorem dX19_fuzzed_44 : decode cX19_fuzzed 44 = .ok (.iload_n 2, 1) := dk_28 (dk_at dksX19_fuzzed_1 21 rfl rfl)
theorem dX19_fuzzed_45 : decode cX19_fuzzed 45 = .ok (.isub, 1) := dk_100 (dk_at dksX19_fuzzed_1 22 rfl rfl)
theorem dX19_fuzzed_46 : decode cX19_fuzzed 46 = .ok (.aload_n 0, 1) := dk_42 (dk_at dksX19_fuzzed_1 23 rfl rfl)
theorem dX19_fuzzed_47 : decode cX19_fuzzed 47 = .ok (.getfield 20, 3) := dk_180 0 20 (dk_at dksX19_fuzzed_2 0 rfl rfl)
theorem dX19_fuzzed_50 : decode cX19_fuzzed 50 = .ok (.iload_n 3, 1) := dk_29 (dk_at dksX19_fuzzed_2 3 rfl rfl)
theorem dX19_fuzzed_51 : decode cX19_fuzzed 51 = .ok (.isub, 1) := dk_100 (dk_at dksX19_fuzzed_2 4 rfl rfl)
theorem dX19_fuzzed_52 : decode cX19_fuzzed 52 = .ok (.invokespecial 23, 3) := dk_183 0 23 (dk_at dksX19_fuzzed_2 5 rfl rfl)
theorem dX19_fuzzed_55 : decode cX19_fuzzed 55 = .ok (.areturn, 1) := dk_176 (dk_at dksX19_fuzzed_2 8 rfl rfl)
abbrev cX19_fits : ByteArray := prog_11_method_5_code
def yX19_fits : MethodName := ⟨RX19, "fits", "(Ljava/util/List;I)Z"⟩
def dkwX19_fits_2 : List UInt8 := [153, 0, 7, 4, 167, 0, 4, 3, 172]
abbrev dktX19_fits_2 : List UInt8 := dkwX19_fits_2 ++ []
def dkwX19_fits_1 : List UInt8 := [180, 0, 7, 187, 0, 33, 89, 43, 28, 28, 42, 180, 0, 7, 182, 0, 41, 96, 183, 0, 50, 182, 0, 53]
abbrev dktX19_fits_1 : List UInt8 := dkwX19_fits_1 ++ dktX19_fits_2
def dkwX19_fits_0 : List UInt8 := [28, 155, 0, 53, 28, 42, 180, 0, 7, 182, 0, 41, 96, 43, 185, 0, 45, 1, 0, 163, 0, 35, 42]
abbrev dktX19_fits_0 : List UInt8 := dkwX19_fits_0 ++ dktX19_fits_1
theorem dksX19_fits_0 : cX19_fits.data.toList.drop 0 = dktX19_fits_0 := by decide +kernel
theorem dksX19_fits_1 : cX19_fits.data.toList.drop 23 = dktX19_fits_1 := dk_seg dksX19_fits_0 23 rfl rfl
theorem dksX19_fits_2 : cX19_fits.data.toList.drop 47 = dktX19_fits_2 := dk_seg dksX19_fits_1 24 rfl rfl
theorem dX19_fits_0 : decode cX19_fits 0 = .ok (.iload_n 2, 1) := dk_28 (dk_at dksX19_fits_0 0 rfl rfl)
theorem dX19_fits_1 : decode cX19_fits 1 = .ok (.ifCond .lt 53, 3) := dk_155 0 53 (dk_at dksX19_fits_0 1 rfl rfl)
theorem dX19_fits_4 : decode cX19_fits 4 = .ok (.iload_n 2, 1) := dk_28 (dk_at dksX19_fits_0 4 rfl rfl)
theorem dX19_fits_5 : decode cX19_fits 5 = .ok (.aload_n 0, 1) := dk_42 (dk_at dksX19_fits_0 5 rfl rfl)
theorem dX19_fits_6 : decode cX19_fits 6 = .ok (.getfield 7, 3) := dk_180 0 7 (dk_at dksX19_fits_0 6 rfl rfl)
theorem dX19_fits_9 : decode cX19_fits 9 = .ok (.invokevirtual 41, 3) := dk_182 0 41 (dk_at dksX19_fits_0 9 rfl rfl)
theorem dX19_fits_12 : decode cX19_fits 12 = .ok (.iadd, 1) := dk_96 (dk_at dksX19_fits_0 12 rfl rfl)
theorem dX19_fits_13 : decode cX19_fits 13 = .ok (.aload_n 1, 1) := dk_43 (dk_at dksX19_fits_0 13 rfl rfl)
theorem dX19_fits_14 : decode cX19_fits 14 = .ok (.invokeinterface 45 1, 5) := by decide +kernel
theorem dX19_fits_19 : decode cX19_fits 19 = .ok (.if_icmp .gt 35, 3) := dk_163 0 35 (dk_at dksX19_fits_0 19 rfl rfl)
theorem dX19_fits_22 : decode cX19_fits 22 = .ok (.aload_n 0, 1) := dk_42 (dk_at dksX19_fits_0 22 rfl rfl)
theorem dX19_fits_23 : decode cX19_fits 23 = .ok (.getfield 7, 3) := dk_180 0 7 (dk_at dksX19_fits_1 0 rfl rfl)
theorem dX19_fits_26 : decode cX19_fits 26 = .ok (.new 33, 3) := dk_187 0 33 (dk_at dksX19_fits_1 3 rfl rfl)
theorem dX19_fits_29 : decode cX19_fits 29 = .ok (.dup, 1) := dk_89 (dk_at dksX19_fits_1 6 rfl rfl)
theorem dX19_fits_30 : decode cX19_fits 30 = .ok (.aload_n 1, 1) := dk_43 (dk_at dksX19_fits_1 7 rfl rfl)
theorem dX19_fits_31 : decode cX19_fits 31 = .ok (.iload_n 2, 1) := dk_28 (dk_at dksX19_fits_1 8 rfl rfl)
theorem dX19_fits_32 : decode cX19_fits 32 = .ok (.iload_n 2, 1) := dk_28 (dk_at dksX19_fits_1 9 rfl rfl)
theorem dX19_fits_33 : decode cX19_fits 33 = .ok (.aload_n 0, 1) := dk_42 (dk_at dksX19_fits_1 10 rfl rfl)
theorem dX19_fits_34 : decode cX19_fits 34 = .ok (.getfield 7, 3) := dk_180 0 7 (dk_at dksX19_fits_1 11 rfl rfl)
theorem dX19_fits_37 : decode cX19_fits 37 = .ok (.invokevirtual 41, 3) := dk_182 0 41 (dk_at dksX19_fits_1 14 rfl rfl)
theorem dX19_fits_40 : decode cX19_fits 40 = .ok (.iadd, 1) := dk_96 (dk_at dksX19_fits_1 17 rfl rfl)
theorem dX19_fits_41 : decode cX19_fits 41 = .ok (.invokespecial 50, 3) := dk_183 0 50 (dk_at dksX19_fits_1 18 rfl rfl)
theorem dX19_fits_44 : decode cX19_fits 44 = .ok (.invokevirtual 53, 3) := dk_182 0 53 (dk_at dksX19_fits_1 21 rfl rfl)
theorem dX19_fits_47 : decode cX19_fits 47 = .ok (.ifCond .eq 7, 3) := dk_153 0 7 (dk_at dksX19_fits_2 0 rfl rfl)
theorem dX19_fits_50 : decode cX19_fits 50 = .ok (.iconst 1, 1) := dk_4 (dk_at dksX19_fits_2 3 rfl rfl)
theorem dX19_fits_51 : decode cX19_fits 51 = .ok (.goto 4, 3) := dk_167 0 4 (dk_at dksX19_fits_2 4 rfl rfl)
theorem dX19_fits_54 : decode cX19_fits 54 = .ok (.iconst 0, 1) := dk_3 (dk_at dksX19_fits_2 7 rfl rfl)
theorem dX19_fits_55 : decode cX19_fits 55 = .ok (.ireturn, 1) := dk_172 (dk_at dksX19_fits_2 8 rfl rfl)
theorem q149 : (Jvm.Cond.initialized "MergeWorkbench$Hunk") ∈ lw_all := lw_g (lw_at lw_m1 66 rfl) rfl
theorem q303 : (Jvm.Cond.selects "MergeWorkbench$Hunk" ({ cls := "java/lang/Object", name := "getClass", desc := "()Ljava/lang/Class;" } : Jvm.MethodName) ({ cls := "java/lang/Object", name := "getClass", desc := "()Ljava/lang/Class;" } : Jvm.MethodName)) ∈ lw_all := lw_g (lw_at lw_m1 220 rfl) rfl
theorem q1471 : (Jvm.Cond.selects "MergeWorkbench$Hunk" ({ cls := "java/lang/Object", name := "equals", desc := "(Ljava/lang/Object;)Z" } : Jvm.MethodName) ({ cls := "java/lang/Object", name := "equals", desc := "(Ljava/lang/Object;)Z" } : Jvm.MethodName)) ∈ lw_all := lw_g (lw_at lw_m6 188 rfl) rfl
theorem q2381 : (Jvm.Cond.fieldLinkNest "MergeWorkbench$Hunk" (38 : Nat) "MergeWorkbench$Part" "from" "I" "MergeWorkbench") ∈ lw_tbl := lw_at lw_m10 138 rfl
theorem q3114 : (Jvm.Cond.instantiable "MergeWorkbench$Hunk" (4 : Nat)) ∈ lw_all := lw_g (lw_at lw_m13 151 rfl) rfl
theorem q3116 : (Jvm.Cond.instanceMethod ({ cls := "MergeWorkbench$Hunk", name := "<init>", desc := "(LMergeWorkbench$Part;LMergeWorkbench$Part;II)V" } : Jvm.MethodName)) ∈ lw_all := lw_g (lw_at lw_m13 153 rfl) rfl
theorem q3117 : (Jvm.Cond.code ({ cls := "MergeWorkbench$Hunk", name := "<init>", desc := "(LMergeWorkbench$Part;LMergeWorkbench$Part;II)V" } : Jvm.MethodName) prog_11_method_1_code (5 : Nat) (Option.none : Option Jvm.ClassFile.FieldType)) ∈ lw_all := lw_g (lw_at lw_m13 154 rfl) rfl
theorem q3118 : (Jvm.Cond.methodLink "MergeWorkbench$Hunk" (1 : Nat) ({ cls := "java/lang/Object", name := "<init>", desc := "()V" } : Jvm.MethodName)) ∈ lw_all := lw_g (lw_at lw_m13 155 rfl) rfl
theorem q3119 : (Jvm.Cond.fieldLink "MergeWorkbench$Hunk" (7 : Nat) "MergeWorkbench$Hunk" "old" "LMergeWorkbench$Part;") ∈ lw_all := lw_g (lw_at lw_m13 156 rfl) rfl
theorem q3121 : (Jvm.Cond.fieldLink "MergeWorkbench$Hunk" (13 : Nat) "MergeWorkbench$Hunk" "now" "LMergeWorkbench$Part;") ∈ lw_all := lw_g (lw_at lw_m13 158 rfl) rfl
theorem q3123 : (Jvm.Cond.fieldLink "MergeWorkbench$Hunk" (16 : Nat) "MergeWorkbench$Hunk" "leading" "I") ∈ lw_all := lw_g (lw_at lw_m13 160 rfl) rfl
theorem q3124 : (Jvm.Cond.fieldLink "MergeWorkbench$Hunk" (20 : Nat) "MergeWorkbench$Hunk" "trailing" "I") ∈ lw_all := lw_g (lw_at lw_m13 161 rfl) rfl
theorem q3125 : (Jvm.Cond.laysFinal "MergeWorkbench$Hunk" "MergeWorkbench$Hunk" "old" "LMergeWorkbench$Part;") ∈ lw_all := lw_g (lw_at lw_m13 162 rfl) rfl
theorem q3126 : (Jvm.Cond.soleField "MergeWorkbench$Hunk" "old") ∈ lw_all := lw_g (lw_at lw_m13 163 rfl) rfl
theorem q3127 : (Jvm.Cond.laysFinal "MergeWorkbench$Hunk" "MergeWorkbench$Hunk" "now" "LMergeWorkbench$Part;") ∈ lw_all := lw_g (lw_at lw_m13 164 rfl) rfl
theorem q3128 : (Jvm.Cond.soleField "MergeWorkbench$Hunk" "now") ∈ lw_all := lw_g (lw_at lw_m13 165 rfl) rfl
theorem q3129 : (Jvm.Cond.laysFinal "MergeWorkbench$Hunk" "MergeWorkbench$Hunk" "leading" "I") ∈ lw_all := lw_g (lw_at lw_m13 166 rfl) rfl
theorem q3130 : (Jvm.Cond.soleField "MergeWorkbench$Hunk" "leading") ∈ lw_all := lw_g (lw_at lw_m13 167 rfl) rfl
theorem q3131 : (Jvm.Cond.laysFinal "MergeWorkbench$Hunk" "MergeWorkbench$Hunk" "trailing" "I") ∈ lw_all := lw_g (lw_at lw_m13 168 rfl) rfl
theorem q3132 : (Jvm.Cond.soleField "MergeWorkbench$Hunk" "trailing") ∈ lw_all := lw_g (lw_at lw_m13 169 rfl) rfl
theorem q3133 : (Jvm.Cond.superclass "MergeWorkbench$Hunk" "java/lang/Object") ∈ lw_all := lw_g (lw_at lw_m13 170 rfl) rfl
theorem q3158 : (Jvm.Cond.instanceMethod ({ cls := "MergeWorkbench$Hunk", name := "property", desc := "(I)I" } : Jvm.MethodName)) ∈ lw_all := lw_g (lw_at lw_m13 195 rfl) rfl
theorem q3159 : (Jvm.Cond.selects "MergeWorkbench$Hunk" ({ cls := "MergeWorkbench$Hunk", name := "property", desc := "(I)I" } : Jvm.MethodName) ({ cls := "MergeWorkbench$Hunk", name := "property", desc := "(I)I" } : Jvm.MethodName)) ∈ lw_all := lw_g (lw_at lw_m13 196 rfl) rfl
theorem q3160 : (Jvm.Cond.code ({ cls := "MergeWorkbench$Hunk", name := "property", desc := "(I)I" } : Jvm.MethodName) prog_11_method_4_code (2 : Nat) (Option.some Jvm.ClassFile.FieldType.int)) ∈ lw_all := lw_g (lw_at lw_m13 197 rfl) rfl
theorem q3161 : (Jvm.Cond.methodLink "MergeWorkbench$Hunk" (41 : Nat) ({ cls := "MergeWorkbench$Part", name := "length", desc := "()I" } : Jvm.MethodName)) ∈ lw_all := lw_g (lw_at lw_m13 198 rfl) rfl
theorem q3185 : (Jvm.Cond.instanceMethod ({ cls := "MergeWorkbench$Hunk", name := "reversed", desc := "()LMergeWorkbench$Hunk;" } : Jvm.MethodName)) ∈ lw_all := lw_g (lw_at lw_m13 222 rfl) rfl
theorem q3186 : (Jvm.Cond.selects "MergeWorkbench$Hunk" ({ cls := "MergeWorkbench$Hunk", name := "reversed", desc := "()LMergeWorkbench$Hunk;" } : Jvm.MethodName) ({ cls := "MergeWorkbench$Hunk", name := "reversed", desc := "()LMergeWorkbench$Hunk;" } : Jvm.MethodName)) ∈ lw_all := lw_g (lw_at lw_m13 223 rfl) rfl
theorem q3187 : (Jvm.Cond.code ({ cls := "MergeWorkbench$Hunk", name := "reversed", desc := "()LMergeWorkbench$Hunk;" } : Jvm.MethodName) prog_11_method_2_code (1 : Nat) (Option.some (Jvm.ClassFile.FieldType.object "MergeWorkbench$Hunk"))) ∈ lw_all := lw_g (lw_at lw_m13 224 rfl) rfl
theorem q3188 : (Jvm.Cond.classLink "MergeWorkbench$Hunk" (8 : Nat) "MergeWorkbench$Hunk") ∈ lw_all := lw_g (lw_at lw_m13 225 rfl) rfl
theorem q3189 : (Jvm.Cond.methodLink "MergeWorkbench$Hunk" (23 : Nat) ({ cls := "MergeWorkbench$Hunk", name := "<init>", desc := "(LMergeWorkbench$Part;LMergeWorkbench$Part;II)V" } : Jvm.MethodName)) ∈ lw_all := lw_g (lw_at lw_m13 226 rfl) rfl
theorem q3195 : (Jvm.Cond.instanceMethod ({ cls := "MergeWorkbench$Hunk", name := "fuzzed", desc := "(I)LMergeWorkbench$Hunk;" } : Jvm.MethodName)) ∈ lw_all := lw_g (lw_at lw_m13 232 rfl) rfl
theorem q3196 : (Jvm.Cond.selects "MergeWorkbench$Hunk" ({ cls := "MergeWorkbench$Hunk", name := "fuzzed", desc := "(I)LMergeWorkbench$Hunk;" } : Jvm.MethodName) ({ cls := "MergeWorkbench$Hunk", name := "fuzzed", desc := "(I)LMergeWorkbench$Hunk;" } : Jvm.MethodName)) ∈ lw_all := lw_g (lw_at lw_m13 233 rfl) rfl
theorem q3197 : (Jvm.Cond.code ({ cls := "MergeWorkbench$Hunk", name := "fuzzed", desc := "(I)LMergeWorkbench$Hunk;" } : Jvm.MethodName) prog_11_method_3_code (4 : Nat) (Option.some (Jvm.ClassFile.FieldType.object "MergeWorkbench$Hunk"))) ∈ lw_all := lw_g (lw_at lw_m13 234 rfl) rfl
theorem q3198 : (Jvm.Cond.methodLink "MergeWorkbench$Hunk" (26 : Nat) ({ cls := "java/lang/Math", name := "min", desc := "(II)I" } : Jvm.MethodName)) ∈ lw_all := lw_g (lw_at lw_m13 235 rfl) rfl
theorem q3199 : (Jvm.Cond.methodLink "MergeWorkbench$Hunk" (32 : Nat) ({ cls := "MergeWorkbench$Part", name := "without", desc := "(II)LMergeWorkbench$Part;" } : Jvm.MethodName)) ∈ lw_all := lw_g (lw_at lw_m13 236 rfl) rfl
theorem q3209 : (Jvm.Cond.instanceMethod ({ cls := "MergeWorkbench$Hunk", name := "fits", desc := "(Ljava/util/List;I)Z" } : Jvm.MethodName)) ∈ lw_all := lw_g (lw_at lw_m14 6 rfl) rfl
theorem q3210 : (Jvm.Cond.selects "MergeWorkbench$Hunk" ({ cls := "MergeWorkbench$Hunk", name := "fits", desc := "(Ljava/util/List;I)Z" } : Jvm.MethodName) ({ cls := "MergeWorkbench$Hunk", name := "fits", desc := "(Ljava/util/List;I)Z" } : Jvm.MethodName)) ∈ lw_all := lw_g (lw_at lw_m14 7 rfl) rfl
theorem q3211 : (Jvm.Cond.code ({ cls := "MergeWorkbench$Hunk", name := "fits", desc := "(Ljava/util/List;I)Z" } : Jvm.MethodName) prog_11_method_5_code (3 : Nat) (Option.some Jvm.ClassFile.FieldType.boolean)) ∈ lw_all := lw_g (lw_at lw_m14 8 rfl) rfl
theorem q3212 : (Jvm.Cond.interfaceEntry "MergeWorkbench$Hunk" (45 : Nat)) ∈ lw_tbl := lw_at lw_m14 9 rfl
theorem q3213 : (Jvm.Cond.methodLink "MergeWorkbench$Hunk" (45 : Nat) ({ cls := "java/util/List", name := "size", desc := "()I" } : Jvm.MethodName)) ∈ lw_all := lw_g (lw_at lw_m14 10 rfl) rfl
theorem q3214 : (Jvm.Cond.classLink "MergeWorkbench$Hunk" (33 : Nat) "MergeWorkbench$Part") ∈ lw_all := lw_g (lw_at lw_m14 11 rfl) rfl
theorem q3215 : (Jvm.Cond.methodLink "MergeWorkbench$Hunk" (50 : Nat) ({ cls := "MergeWorkbench$Part", name := "<init>", desc := "(Ljava/util/List;II)V" } : Jvm.MethodName)) ∈ lw_all := lw_g (lw_at lw_m14 12 rfl) rfl
theorem q3216 : (Jvm.Cond.methodLink "MergeWorkbench$Hunk" (53 : Nat) ({ cls := "MergeWorkbench$Part", name := "isLike", desc := "(LMergeWorkbench$Part;)Z" } : Jvm.MethodName)) ∈ lw_all := lw_g (lw_at lw_m14 13 rfl) rfl
theorem q3946 : (Jvm.Cond.castable "MergeWorkbench$Hunk" "java/lang/Object") ∈ lw_tbl := lw_at lw_m17 23 rfl
theorem in_X19 : ∀ w ∈ wsX190, w ∈ lw_all := lw_in wsX190 [3125, 3127, 3129, 3131] (by decide +kernel) (by decide +kernel)

/-! MergeWorkbench$Application -/
set_option maxRecDepth 100000
def RX20 : String := "MergeWorkbench$Application"
def TX20 : u_T := fun k => match k with
  | 0 => ("MergeWorkbench$Application", "lines", "Ljava/util/List;", true)
  | 1 => ("MergeWorkbench$Application", "fuzz", "I", true)
  | 2 => ("MergeWorkbench$Application", "result", "Ljava/util/List;", true)
  | 3 => ("MergeWorkbench$Application", "outcomes", "Ljava/util/List;", true)
  | 4 => ("MergeWorkbench$Application", "end", "I", false)
  | 5 => ("MergeWorkbench$Application", "shift", "I", false)
  | _ => ("MergeWorkbench$Application", "applied", "I", false)
def tyX20 : Nat → FieldType := fun k => match k with
  | 0 => .object "java/util/List"
  | 1 => .int
  | 2 => .object "java/util/List"
  | 3 => .object "java/util/List"
  | 4 => .int
  | 5 => .int
  | _ => .int
abbrev wsX200 : List Cond := u_ws RX20 TX20 7
theorem nmX20 : ∀ a, a < 7 → ∀ b, b < 7 → a ≠ b → (TX20 a).2.1 ≠ (TX20 b).2.1 := by decide +kernel
theorem tyX20_ok : ∀ k, k < 7 → parseFieldDescriptor (TX20 k).2.2.1 = some (tyX20 k) := by decide +kernel
abbrev cX20_init : ByteArray := prog_3_method_1_code
def yX20_init : MethodName := ⟨RX20, "<init>", "(LMergeWorkbench$Patch;Ljava/util/List;IZ)V"⟩
def dkwX20_init_6 : List UInt8 := [185, 0, 74, 1, 0, 183, 0, 78, 42, 180, 0, 12, 182, 0, 81, 177]
abbrev dktX20_init_6 : List UInt8 := dkwX20_init_6 ++ []
def dkwX20_init_5 : List UInt8 := [167, 0, 4, 3, 96, 181, 0, 63, 167, 255, 179, 187, 0, 69, 89, 44, 42, 180, 0, 71, 44]
abbrev dktX20_init_5 : List UInt8 := dkwX20_init_5 ++ dktX20_init_6
def dkwX20_init_4 : List UInt8 := [25, 7, 185, 0, 59, 2, 0, 87, 42, 89, 180, 0, 63, 25, 7, 180, 0, 66, 155, 0, 7, 4]
abbrev dktX20_init_4 : List UInt8 := dkwX20_init_4 ++ dktX20_init_5
def dkwX20_init_3 : List UInt8 := [21, 4, 153, 0, 11, 25, 6, 182, 0, 51, 167, 0, 5, 25, 6, 182, 0, 55, 58, 7, 42, 180, 0, 18]
abbrev dktX20_init_3 : List UInt8 := dkwX20_init_3 ++ dktX20_init_4
def dkwX20_init_2 : List UInt8 := [25, 5, 185, 0, 39, 1, 0, 153, 0, 73, 25, 5, 185, 0, 45, 1, 0, 192, 0, 49, 58, 6, 42]
abbrev dktX20_init_2 : List UInt8 := dkwX20_init_2 ++ dktX20_init_3
def dkwX20_init_1 : List UInt8 := [181, 0, 18, 42, 44, 181, 0, 21, 42, 29, 181, 0, 24, 43, 180, 0, 28, 185, 0, 33, 1, 0, 58, 5]
abbrev dktX20_init_1 : List UInt8 := dkwX20_init_1 ++ dktX20_init_2
def dkwX20_init_0 : List UInt8 := [42, 183, 0, 3, 42, 187, 0, 9, 89, 183, 0, 11, 181, 0, 12, 42, 187, 0, 9, 89, 183, 0, 11]
abbrev dktX20_init_0 : List UInt8 := dkwX20_init_0 ++ dktX20_init_1
theorem dksX20_init_0 : cX20_init.data.toList.drop 0 = dktX20_init_0 := by decide +kernel
theorem dksX20_init_1 : cX20_init.data.toList.drop 23 = dktX20_init_1 := dk_seg dksX20_init_0 23 rfl rfl
theorem dksX20_init_2 : cX20_init.data.toList.drop 47 = dktX20_init_2 := dk_seg dksX20_init_1 24 rfl rfl
theorem dksX20_init_3 : cX20_init.data.toList.drop 70 = dktX20_init_3 := dk_seg dksX20_init_2 23 rfl rfl
theorem dksX20_init_4 : cX20_init.data.toList.drop 94 = dktX20_init_4 := dk_seg dksX20_init_3 24 rfl rfl
theorem dksX20_init_5 : cX20_init.data.toList.drop 116 = dktX20_init_5 := dk_seg dksX20_init_4 22 rfl rfl
theorem dksX20_init_6 : cX20_init.data.toList.drop 137 = dktX20_init_6 := dk_seg dksX20_init_5 21 rfl rfl
theorem dX20_init_0 : decode cX20_init 0 = .ok (.aload_n 0, 1) := dk_42 (dk_at dksX20_init_0 0 rfl rfl)
theorem dX20_init_1 : decode cX20_init 1 = .ok (.invokespecial 3, 3) := dk_183 0 3 (dk_at dksX20_init_0 1 rfl rfl)
theorem dX20_init_4 : decode cX20_init 4 = .ok (.aload_n 0, 1) := dk_42 (dk_at dksX20_init_0 4 rfl rfl)
theorem dX20_init_5 : decode cX20_init 5 = .ok (.new 9, 3) := dk_187 0 9 (dk_at dksX20_init_0 5 rfl rfl)
theorem dX20_init_8 : decode cX20_init 8 = .ok (.dup, 1) := dk_89 (dk_at dksX20_init_0 8 rfl rfl)
theorem dX20_init_9 : decode cX20_init 9 = .ok (.invokespecial 11, 3) := dk_183 0 11 (dk_at dksX20_init_0 9 rfl rfl)
theorem dX20_init_12 : decode cX20_init 12 = .ok (.putfield 12, 3) := dk_181 0 12 (dk_at dksX20_init_0 12 rfl rfl)
theorem dX20_init_15 : decode cX20_init 15 = .ok (.aload_n 0, 1) := dk_42 (dk_at dksX20_init_0 15 rfl rfl)
theorem dX20_init_16 : decode cX20_init 16 = .ok (.new 9, 3) := dk_187 0 9 (dk_at dksX20_init_0 16 rfl rfl)
theorem dX20_init_19 : decode cX20_init 19 = .ok (.dup, 1) := dk_89 (dk_at dksX20_init_0 19 rfl rfl)
theorem dX20_init_20 : decode cX20_init 20 = .ok (.invokespecial 11, 3) := dk_183 0 11 (dk_at dksX20_init_0 20 rfl rfl)
theorem dX20_init_23 : decode cX20_init 23 = .ok (.putfield 18, 3) := dk_181 0 18 (dk_at dksX20_init_1 0 rfl rfl)
theorem dX20_init_26 : decode cX20_init 26 = .ok (.aload_n 0, 1) := dk_42 (dk_at dksX20_init_1 3 rfl rfl)
theorem dX20_init_27 : decode cX20_init 27 = .ok (.aload_n 2, 1) := dk_44 (dk_at dksX20_init_1 4 rfl rfl)
theorem dX20_init_28 : decode cX20_init 28 = .ok (.putfield 21, 3) := dk_181 0 21 (dk_at dksX20_init_1 5 rfl rfl)
theorem dX20_init_31 : decode cX20_init 31 = .ok (.aload_n 0, 1) := dk_42 (dk_at dksX20_init_1 8 rfl rfl)
theorem dX20_init_32 : decode cX20_init 32 = .ok (.iload_n 3, 1) := dk_29 (dk_at dksX20_init_1 9 rfl rfl)
theorem dX20_init_33 : decode cX20_init 33 = .ok (.putfield 24, 3) := dk_181 0 24 (dk_at dksX20_init_1 10 rfl rfl)
theorem dX20_init_36 : decode cX20_init 36 = .ok (.aload_n 1, 1) := dk_43 (dk_at dksX20_init_1 13 rfl rfl)
theorem dX20_init_37 : decode cX20_init 37 = .ok (.getfield 28, 3) := dk_180 0 28 (dk_at dksX20_init_1 14 rfl rfl)
theorem dX20_init_40 : decode cX20_init 40 = .ok (.invokeinterface 33 1, 5) := by decide +kernel
theorem dX20_init_45 : decode cX20_init 45 = .ok (.astore 5, 2) := dk_58 5 (dk_at dksX20_init_1 22 rfl rfl)
theorem dX20_init_47 : decode cX20_init 47 = .ok (.aload 5, 2) := dk_25 5 (dk_at dksX20_init_2 0 rfl rfl)
theorem dX20_init_49 : decode cX20_init 49 = .ok (.invokeinterface 39 1, 5) := by decide +kernel
theorem dX20_init_54 : decode cX20_init 54 = .ok (.ifCond .eq 73, 3) := dk_153 0 73 (dk_at dksX20_init_2 7 rfl rfl)
theorem dX20_init_57 : decode cX20_init 57 = .ok (.aload 5, 2) := dk_25 5 (dk_at dksX20_init_2 10 rfl rfl)
theorem dX20_init_59 : decode cX20_init 59 = .ok (.invokeinterface 45 1, 5) := by decide +kernel
theorem dX20_init_64 : decode cX20_init 64 = .ok (.checkcast 49, 3) := dk_192 0 49 (dk_at dksX20_init_2 17 rfl rfl)
theorem dX20_init_67 : decode cX20_init 67 = .ok (.astore 6, 2) := dk_58 6 (dk_at dksX20_init_2 20 rfl rfl)
theorem dX20_init_69 : decode cX20_init 69 = .ok (.aload_n 0, 1) := dk_42 (dk_at dksX20_init_2 22 rfl rfl)
theorem dX20_init_70 : decode cX20_init 70 = .ok (.iload 4, 2) := dk_21 4 (dk_at dksX20_init_3 0 rfl rfl)
theorem dX20_init_72 : decode cX20_init 72 = .ok (.ifCond .eq 11, 3) := dk_153 0 11 (dk_at dksX20_init_3 2 rfl rfl)
theorem dX20_init_75 : decode cX20_init 75 = .ok (.aload 6, 2) := dk_25 6 (dk_at dksX20_init_3 5 rfl rfl)
theorem dX20_init_77 : decode cX20_init 77 = .ok (.invokevirtual 51, 3) := dk_182 0 51 (dk_at dksX20_init_3 7 rfl rfl)
theorem dX20_init_80 : decode cX20_init 80 = .ok (.goto 5, 3) := dk_167 0 5 (dk_at dksX20_init_3 10 rfl rfl)
theorem dX20_init_83 : decode cX20_init 83 = .ok (.aload 6, 2) := dk_25 6 (dk_at dksX20_init_3 13 rfl rfl)
theorem dX20_init_85 : decode cX20_init 85 = .ok (.invokevirtual 55, 3) := dk_182 0 55 (dk_at dksX20_init_3 15 rfl rfl)
theorem dX20_init_88 : decode cX20_init 88 = .ok (.astore 7, 2) := dk_58 7 (dk_at dksX20_init_3 18 rfl rfl)
theorem dX20_init_90 : decode cX20_init 90 = .ok (.aload_n 0, 1) := dk_42 (dk_at dksX20_init_3 20 rfl rfl)
theorem dX20_init_91 : decode cX20_init 91 = .ok (.getfield 18, 3) := dk_180 0 18 (dk_at dksX20_init_3 21 rfl rfl)
theorem dX20_init_94 : decode cX20_init 94 = .ok (.aload 7, 2) := dk_25 7 (dk_at dksX20_init_4 0 rfl rfl)
theorem dX20_init_96 : decode cX20_init 96 = .ok (.invokeinterface 59 2, 5) := by decide +kernel
theorem dX20_init_101 : decode cX20_init 101 = .ok (.pop, 1) := dk_87 (dk_at dksX20_init_4 7 rfl rfl)
theorem dX20_init_102 : decode cX20_init 102 = .ok (.aload_n 0, 1) := dk_42 (dk_at dksX20_init_4 8 rfl rfl)
theorem dX20_init_103 : decode cX20_init 103 = .ok (.dup, 1) := dk_89 (dk_at dksX20_init_4 9 rfl rfl)
theorem dX20_init_104 : decode cX20_init 104 = .ok (.getfield 63, 3) := dk_180 0 63 (dk_at dksX20_init_4 10 rfl rfl)
theorem dX20_init_107 : decode cX20_init 107 = .ok (.aload 7, 2) := dk_25 7 (dk_at dksX20_init_4 13 rfl rfl)
theorem dX20_init_109 : decode cX20_init 109 = .ok (.getfield 66, 3) := dk_180 0 66 (dk_at dksX20_init_4 15 rfl rfl)
theorem dX20_init_112 : decode cX20_init 112 = .ok (.ifCond .lt 7, 3) := dk_155 0 7 (dk_at dksX20_init_4 18 rfl rfl)
theorem dX20_init_115 : decode cX20_init 115 = .ok (.iconst 1, 1) := dk_4 (dk_at dksX20_init_4 21 rfl rfl)
theorem dX20_init_116 : decode cX20_init 116 = .ok (.goto 4, 3) := dk_167 0 4 (dk_at dksX20_init_5 0 rfl rfl)
theorem dX20_init_119 : decode cX20_init 119 = .ok (.iconst 0, 1) := dk_3 (dk_at dksX20_init_5 3 rfl rfl)
theorem dX20_init_120 : decode cX20_init 120 = .ok (.iadd, 1) := dk_96 (dk_at dksX20_init_5 4 rfl rfl)
theorem dX20_init_121 : decode cX20_init 121 = .ok (.putfield 63, 3) := dk_181 0 63 (dk_at dksX20_init_5 5 rfl rfl)
theorem dX20_init_124 : decode cX20_init 124 = .ok (.goto (-77), 3) := dk_167 255 179 (dk_at dksX20_init_5 8 rfl rfl)
theorem dX20_init_127 : decode cX20_init 127 = .ok (.new 69, 3) := dk_187 0 69 (dk_at dksX20_init_5 11 rfl rfl)
theorem dX20_init_130 : decode cX20_init 130 = .ok (.dup, 1) := dk_89 (dk_at dksX20_init_5 14 rfl rfl)
theorem dX20_init_131 : decode cX20_init 131 = .ok (.aload_n 2, 1) := dk_44 (dk_at dksX20_init_5 15 rfl rfl)
theorem dX20_init_132 : decode cX20_init 132 = .ok (.aload_n 0, 1) := dk_42 (dk_at dksX20_init_5 16 rfl rfl)
theorem dX20_init_133 : decode cX20_init 133 = .ok (.getfield 71, 3) := dk_180 0 71 (dk_at dksX20_init_5 17 rfl rfl)
theorem dX20_init_136 : decode cX20_init 136 = .ok (.aload_n 2, 1) := dk_44 (dk_at dksX20_init_5 20 rfl rfl)
theorem dX20_init_137 : decode cX20_init 137 = .ok (.invokeinterface 74 1, 5) := by decide +kernel
theorem dX20_init_142 : decode cX20_init 142 = .ok (.invokespecial 78, 3) := dk_183 0 78 (dk_at dksX20_init_6 5 rfl rfl)
theorem dX20_init_145 : decode cX20_init 145 = .ok (.aload_n 0, 1) := dk_42 (dk_at dksX20_init_6 8 rfl rfl)
theorem dX20_init_146 : decode cX20_init 146 = .ok (.getfield 12, 3) := dk_180 0 12 (dk_at dksX20_init_6 9 rfl rfl)
theorem dX20_init_149 : decode cX20_init 149 = .ok (.invokevirtual 81, 3) := dk_182 0 81 (dk_at dksX20_init_6 12 rfl rfl)
theorem dX20_init_152 : decode cX20_init 152 = .ok (.return_, 1) := dk_177 (dk_at dksX20_init_6 15 rfl rfl)
abbrev cX20_apply : ByteArray := prog_3_method_2_code
def yX20_apply : MethodName := ⟨RX20, "apply", "(LMergeWorkbench$Hunk;)LMergeWorkbench$Outcome;"⟩
def dkwX20_apply_4 : List UInt8 := [89, 21, 4, 28, 183, 0, 109, 176, 132, 2, 1, 167, 255, 153, 187, 0, 67, 89, 2, 2, 183, 0, 109, 176]
abbrev dktX20_apply_4 : List UInt8 := dkwX20_apply_4 ++ []
def dkwX20_apply_3 : List UInt8 := [182, 0, 100, 96, 181, 0, 71, 42, 21, 4, 45, 180, 0, 97, 180, 0, 103, 100, 181, 0, 106, 187, 0, 67]
abbrev dktX20_apply_3 : List UInt8 := dkwX20_apply_3 ++ dktX20_apply_4
def dkwX20_apply_2 : List UInt8 := [180, 0, 12, 182, 0, 81, 45, 180, 0, 93, 42, 180, 0, 12, 182, 0, 81, 42, 21, 4, 45, 180, 0, 97]
abbrev dktX20_apply_2 : List UInt8 := dkwX20_apply_2 ++ dktX20_apply_3
def dkwX20_apply_1 : List UInt8 := [21, 4, 155, 0, 77, 187, 0, 69, 89, 42, 180, 0, 21, 42, 180, 0, 71, 21, 4, 183, 0, 78, 42]
abbrev dktX20_apply_1 : List UInt8 := dkwX20_apply_1 ++ dktX20_apply_2
def dkwX20_apply_0 : List UInt8 := [3, 61, 28, 42, 180, 0, 24, 163, 0, 101, 43, 28, 182, 0, 85, 78, 42, 45, 182, 0, 89, 54, 4]
abbrev dktX20_apply_0 : List UInt8 := dkwX20_apply_0 ++ dktX20_apply_1
theorem dksX20_apply_0 : cX20_apply.data.toList.drop 0 = dktX20_apply_0 := by decide +kernel
theorem dksX20_apply_1 : cX20_apply.data.toList.drop 23 = dktX20_apply_1 := dk_seg dksX20_apply_0 23 rfl rfl
theorem dksX20_apply_2 : cX20_apply.data.toList.drop 46 = dktX20_apply_2 := dk_seg dksX20_apply_1 23 rfl rfl
theorem dksX20_apply_3 : cX20_apply.data.toList.drop 70 = dktX20_apply_3 := dk_seg dksX20_apply_2 24 rfl rfl
theorem dksX20_apply_4 : cX20_apply.data.toList.drop 94 = dktX20_apply_4 := dk_seg dksX20_apply_3 24 rfl rfl
theorem dX20_apply_0 : decode cX20_apply 0 = .ok (.iconst 0, 1) := dk_3 (dk_at dksX20_apply_0 0 rfl rfl)
theorem dX20_apply_1 : decode cX20_apply 1 = .ok (.istore_n 2, 1) := dk_61 (dk_at dksX20_apply_0 1 rfl rfl)
theorem dX20_apply_2 : decode cX20_apply 2 = .ok (.iload_n 2, 1) := dk_28 (dk_at dksX20_apply_0 2 rfl rfl)
theorem dX20_apply_3 : decode cX20_apply 3 = .ok (.aload_n 0, 1) := dk_42 (dk_at dksX20_apply_0 3 rfl rfl)
theorem dX20_apply_4 : decode cX20_apply 4 = .ok (.getfield 24, 3) := dk_180 0 24 (dk_at dksX20_apply_0 4 rfl rfl)
theorem dX20_apply_7 : decode cX20_apply 7 = .ok (.if_icmp .gt 101, 3) := dk_163 0 101 (dk_at dksX20_apply_0 7 rfl rfl)
theorem dX20_apply_10 : decode cX20_apply 10 = .ok (.aload_n 1, 1) := dk_43 (dk_at dksX20_apply_0 10 rfl rfl)
theorem dX20_apply_11 : decode cX20_apply 11 = .ok (.iload_n 2, 1) := dk_28 (dk_at dksX20_apply_0 11 rfl rfl)
theorem dX20_apply_12 : decode cX20_apply 12 = .ok (.invokevirtual 85, 3) := dk_182 0 85 (dk_at dksX20_apply_0 12 rfl rfl)
theorem dX20_apply_15 : decode cX20_apply 15 = .ok (.astore_n 3, 1) := dk_78 (dk_at dksX20_apply_0 15 rfl rfl)
theorem dX20_apply_16 : decode cX20_apply 16 = .ok (.aload_n 0, 1) := dk_42 (dk_at dksX20_apply_0 16 rfl rfl)
theorem dX20_apply_17 : decode cX20_apply 17 = .ok (.aload_n 3, 1) := dk_45 (dk_at dksX20_apply_0 17 rfl rfl)
theorem dX20_apply_18 : decode cX20_apply 18 = .ok (.invokevirtual 89, 3) := dk_182 0 89 (dk_at dksX20_apply_0 18 rfl rfl)
theorem dX20_apply_21 : decode cX20_apply 21 = .ok (.istore 4, 2) := dk_54 4 (dk_at dksX20_apply_0 21 rfl rfl)
theorem dX20_apply_23 : decode cX20_apply 23 = .ok (.iload 4, 2) := dk_21 4 (dk_at dksX20_apply_1 0 rfl rfl)
theorem dX20_apply_25 : decode cX20_apply 25 = .ok (.ifCond .lt 77, 3) := dk_155 0 77 (dk_at dksX20_apply_1 2 rfl rfl)
theorem dX20_apply_28 : decode cX20_apply 28 = .ok (.new 69, 3) := dk_187 0 69 (dk_at dksX20_apply_1 5 rfl rfl)
theorem dX20_apply_31 : decode cX20_apply 31 = .ok (.dup, 1) := dk_89 (dk_at dksX20_apply_1 8 rfl rfl)
theorem dX20_apply_32 : decode cX20_apply 32 = .ok (.aload_n 0, 1) := dk_42 (dk_at dksX20_apply_1 9 rfl rfl)
theorem dX20_apply_33 : decode cX20_apply 33 = .ok (.getfield 21, 3) := dk_180 0 21 (dk_at dksX20_apply_1 10 rfl rfl)
theorem dX20_apply_36 : decode cX20_apply 36 = .ok (.aload_n 0, 1) := dk_42 (dk_at dksX20_apply_1 13 rfl rfl)
theorem dX20_apply_37 : decode cX20_apply 37 = .ok (.getfield 71, 3) := dk_180 0 71 (dk_at dksX20_apply_1 14 rfl rfl)
theorem dX20_apply_40 : decode cX20_apply 40 = .ok (.iload 4, 2) := dk_21 4 (dk_at dksX20_apply_1 17 rfl rfl)
theorem dX20_apply_42 : decode cX20_apply 42 = .ok (.invokespecial 78, 3) := dk_183 0 78 (dk_at dksX20_apply_1 19 rfl rfl)
theorem dX20_apply_45 : decode cX20_apply 45 = .ok (.aload_n 0, 1) := dk_42 (dk_at dksX20_apply_1 22 rfl rfl)
theorem dX20_apply_46 : decode cX20_apply 46 = .ok (.getfield 12, 3) := dk_180 0 12 (dk_at dksX20_apply_2 0 rfl rfl)
theorem dX20_apply_49 : decode cX20_apply 49 = .ok (.invokevirtual 81, 3) := dk_182 0 81 (dk_at dksX20_apply_2 3 rfl rfl)
theorem dX20_apply_52 : decode cX20_apply 52 = .ok (.aload_n 3, 1) := dk_45 (dk_at dksX20_apply_2 6 rfl rfl)
theorem dX20_apply_53 : decode cX20_apply 53 = .ok (.getfield 93, 3) := dk_180 0 93 (dk_at dksX20_apply_2 7 rfl rfl)
theorem dX20_apply_56 : decode cX20_apply 56 = .ok (.aload_n 0, 1) := dk_42 (dk_at dksX20_apply_2 10 rfl rfl)
theorem dX20_apply_57 : decode cX20_apply 57 = .ok (.getfield 12, 3) := dk_180 0 12 (dk_at dksX20_apply_2 11 rfl rfl)
theorem dX20_apply_60 : decode cX20_apply 60 = .ok (.invokevirtual 81, 3) := dk_182 0 81 (dk_at dksX20_apply_2 14 rfl rfl)
theorem dX20_apply_63 : decode cX20_apply 63 = .ok (.aload_n 0, 1) := dk_42 (dk_at dksX20_apply_2 17 rfl rfl)
theorem dX20_apply_64 : decode cX20_apply 64 = .ok (.iload 4, 2) := dk_21 4 (dk_at dksX20_apply_2 18 rfl rfl)
theorem dX20_apply_66 : decode cX20_apply 66 = .ok (.aload_n 3, 1) := dk_45 (dk_at dksX20_apply_2 20 rfl rfl)
theorem dX20_apply_67 : decode cX20_apply 67 = .ok (.getfield 97, 3) := dk_180 0 97 (dk_at dksX20_apply_2 21 rfl rfl)
theorem dX20_apply_70 : decode cX20_apply 70 = .ok (.invokevirtual 100, 3) := dk_182 0 100 (dk_at dksX20_apply_3 0 rfl rfl)
theorem dX20_apply_73 : decode cX20_apply 73 = .ok (.iadd, 1) := dk_96 (dk_at dksX20_apply_3 3 rfl rfl)
theorem dX20_apply_74 : decode cX20_apply 74 = .ok (.putfield 71, 3) := dk_181 0 71 (dk_at dksX20_apply_3 4 rfl rfl)
theorem dX20_apply_77 : decode cX20_apply 77 = .ok (.aload_n 0, 1) := dk_42 (dk_at dksX20_apply_3 7 rfl rfl)
theorem dX20_apply_78 : decode cX20_apply 78 = .ok (.iload 4, 2) := dk_21 4 (dk_at dksX20_apply_3 8 rfl rfl)
theorem dX20_apply_80 : decode cX20_apply 80 = .ok (.aload_n 3, 1) := dk_45 (dk_at dksX20_apply_3 10 rfl rfl)
theorem dX20_apply_81 : decode cX20_apply 81 = .ok (.getfield 97, 3) := dk_180 0 97 (dk_at dksX20_apply_3 11 rfl rfl)
theorem dX20_apply_84 : decode cX20_apply 84 = .ok (.getfield 103, 3) := dk_180 0 103 (dk_at dksX20_apply_3 14 rfl rfl)
theorem dX20_apply_87 : decode cX20_apply 87 = .ok (.isub, 1) := dk_100 (dk_at dksX20_apply_3 17 rfl rfl)
theorem dX20_apply_88 : decode cX20_apply 88 = .ok (.putfield 106, 3) := dk_181 0 106 (dk_at dksX20_apply_3 18 rfl rfl)
theorem dX20_apply_91 : decode cX20_apply 91 = .ok (.new 67, 3) := dk_187 0 67 (dk_at dksX20_apply_3 21 rfl rfl)
theorem dX20_apply_94 : decode cX20_apply 94 = .ok (.dup, 1) := dk_89 (dk_at dksX20_apply_4 0 rfl rfl)
theorem dX20_apply_95 : decode cX20_apply 95 = .ok (.iload 4, 2) := dk_21 4 (dk_at dksX20_apply_4 1 rfl rfl)
theorem dX20_apply_97 : decode cX20_apply 97 = .ok (.iload_n 2, 1) := dk_28 (dk_at dksX20_apply_4 3 rfl rfl)
theorem dX20_apply_98 : decode cX20_apply 98 = .ok (.invokespecial 109, 3) := dk_183 0 109 (dk_at dksX20_apply_4 4 rfl rfl)
theorem dX20_apply_101 : decode cX20_apply 101 = .ok (.areturn, 1) := dk_176 (dk_at dksX20_apply_4 7 rfl rfl)
theorem dX20_apply_102 : decode cX20_apply 102 = .ok (.iinc 2 1, 3) := dk_132 2 1 (dk_at dksX20_apply_4 8 rfl rfl)
theorem dX20_apply_105 : decode cX20_apply 105 = .ok (.goto (-103), 3) := dk_167 255 153 (dk_at dksX20_apply_4 11 rfl rfl)
theorem dX20_apply_108 : decode cX20_apply 108 = .ok (.new 67, 3) := dk_187 0 67 (dk_at dksX20_apply_4 14 rfl rfl)
theorem dX20_apply_111 : decode cX20_apply 111 = .ok (.dup, 1) := dk_89 (dk_at dksX20_apply_4 17 rfl rfl)
theorem dX20_apply_112 : decode cX20_apply 112 = .ok (.iconst (-1), 1) := dk_2 (dk_at dksX20_apply_4 18 rfl rfl)
theorem dX20_apply_113 : decode cX20_apply 113 = .ok (.iconst (-1), 1) := dk_2 (dk_at dksX20_apply_4 19 rfl rfl)
theorem dX20_apply_114 : decode cX20_apply 114 = .ok (.invokespecial 109, 3) := dk_183 0 109 (dk_at dksX20_apply_4 20 rfl rfl)
theorem dX20_apply_117 : decode cX20_apply 117 = .ok (.areturn, 1) := dk_176 (dk_at dksX20_apply_4 23 rfl rfl)
abbrev cX20_find : ByteArray := prog_3_method_3_code
def yX20_find : MethodName := ⟨RX20, "find", "(LMergeWorkbench$Hunk;)I"⟩
def dkwX20_find_2 : List UInt8 := [29, 100, 172, 132, 3, 1, 167, 255, 217, 2, 172]
abbrev dktX20_find_2 : List UInt8 := dkwX20_find_2 ++ []
def dkwX20_find_1 : List UInt8 := [29, 96, 182, 0, 112, 153, 0, 7, 28, 29, 96, 172, 42, 43, 28, 29, 100, 182, 0, 112, 153, 0, 7, 28]
abbrev dktX20_find_1 : List UInt8 := dkwX20_find_1 ++ dktX20_find_2
def dkwX20_find_0 : List UInt8 := [43, 180, 0, 97, 180, 0, 103, 42, 180, 0, 106, 96, 61, 3, 62, 29, 16, 10, 163, 0, 39, 42, 43, 28]
abbrev dktX20_find_0 : List UInt8 := dkwX20_find_0 ++ dktX20_find_1
theorem dksX20_find_0 : cX20_find.data.toList.drop 0 = dktX20_find_0 := by decide +kernel
theorem dksX20_find_1 : cX20_find.data.toList.drop 24 = dktX20_find_1 := dk_seg dksX20_find_0 24 rfl rfl
theorem dksX20_find_2 : cX20_find.data.toList.drop 48 = dktX20_find_2 := dk_seg dksX20_find_1 24 rfl rfl
theorem dX20_find_0 : decode cX20_find 0 = .ok (.aload_n 1, 1) := dk_43 (dk_at dksX20_find_0 0 rfl rfl)
theorem dX20_find_1 : decode cX20_find 1 = .ok (.getfield 97, 3) := dk_180 0 97 (dk_at dksX20_find_0 1 rfl rfl)
theorem dX20_find_4 : decode cX20_find 4 = .ok (.getfield 103, 3) := dk_180 0 103 (dk_at dksX20_find_0 4 rfl rfl)
theorem dX20_find_7 : decode cX20_find 7 = .ok (.aload_n 0, 1) := dk_42 (dk_at dksX20_find_0 7 rfl rfl)
theorem dX20_find_8 : decode cX20_find 8 = .ok (.getfield 106, 3) := dk_180 0 106 (dk_at dksX20_find_0 8 rfl rfl)
theorem dX20_find_11 : decode cX20_find 11 = .ok (.iadd, 1) := dk_96 (dk_at dksX20_find_0 11 rfl rfl)
theorem dX20_find_12 : decode cX20_find 12 = .ok (.istore_n 2, 1) := dk_61 (dk_at dksX20_find_0 12 rfl rfl)
theorem dX20_find_13 : decode cX20_find 13 = .ok (.iconst 0, 1) := dk_3 (dk_at dksX20_find_0 13 rfl rfl)
theorem dX20_find_14 : decode cX20_find 14 = .ok (.istore_n 3, 1) := dk_62 (dk_at dksX20_find_0 14 rfl rfl)
theorem dX20_find_15 : decode cX20_find 15 = .ok (.iload_n 3, 1) := dk_29 (dk_at dksX20_find_0 15 rfl rfl)
theorem dX20_find_16 : decode cX20_find 16 = .ok (.bipush 10, 2) := dk_16 10 (dk_at dksX20_find_0 16 rfl rfl)
theorem dX20_find_18 : decode cX20_find 18 = .ok (.if_icmp .gt 39, 3) := dk_163 0 39 (dk_at dksX20_find_0 18 rfl rfl)
theorem dX20_find_21 : decode cX20_find 21 = .ok (.aload_n 0, 1) := dk_42 (dk_at dksX20_find_0 21 rfl rfl)
theorem dX20_find_22 : decode cX20_find 22 = .ok (.aload_n 1, 1) := dk_43 (dk_at dksX20_find_0 22 rfl rfl)
theorem dX20_find_23 : decode cX20_find 23 = .ok (.iload_n 2, 1) := dk_28 (dk_at dksX20_find_0 23 rfl rfl)
theorem dX20_find_24 : decode cX20_find 24 = .ok (.iload_n 3, 1) := dk_29 (dk_at dksX20_find_1 0 rfl rfl)
theorem dX20_find_25 : decode cX20_find 25 = .ok (.iadd, 1) := dk_96 (dk_at dksX20_find_1 1 rfl rfl)
theorem dX20_find_26 : decode cX20_find 26 = .ok (.invokevirtual 112, 3) := dk_182 0 112 (dk_at dksX20_find_1 2 rfl rfl)
theorem dX20_find_29 : decode cX20_find 29 = .ok (.ifCond .eq 7, 3) := dk_153 0 7 (dk_at dksX20_find_1 5 rfl rfl)
theorem dX20_find_32 : decode cX20_find 32 = .ok (.iload_n 2, 1) := dk_28 (dk_at dksX20_find_1 8 rfl rfl)
theorem dX20_find_33 : decode cX20_find 33 = .ok (.iload_n 3, 1) := dk_29 (dk_at dksX20_find_1 9 rfl rfl)
theorem dX20_find_34 : decode cX20_find 34 = .ok (.iadd, 1) := dk_96 (dk_at dksX20_find_1 10 rfl rfl)
theorem dX20_find_35 : decode cX20_find 35 = .ok (.ireturn, 1) := dk_172 (dk_at dksX20_find_1 11 rfl rfl)
theorem dX20_find_36 : decode cX20_find 36 = .ok (.aload_n 0, 1) := dk_42 (dk_at dksX20_find_1 12 rfl rfl)
theorem dX20_find_37 : decode cX20_find 37 = .ok (.aload_n 1, 1) := dk_43 (dk_at dksX20_find_1 13 rfl rfl)
theorem dX20_find_38 : decode cX20_find 38 = .ok (.iload_n 2, 1) := dk_28 (dk_at dksX20_find_1 14 rfl rfl)
theorem dX20_find_39 : decode cX20_find 39 = .ok (.iload_n 3, 1) := dk_29 (dk_at dksX20_find_1 15 rfl rfl)
theorem dX20_find_40 : decode cX20_find 40 = .ok (.isub, 1) := dk_100 (dk_at dksX20_find_1 16 rfl rfl)
theorem dX20_find_41 : decode cX20_find 41 = .ok (.invokevirtual 112, 3) := dk_182 0 112 (dk_at dksX20_find_1 17 rfl rfl)
theorem dX20_find_44 : decode cX20_find 44 = .ok (.ifCond .eq 7, 3) := dk_153 0 7 (dk_at dksX20_find_1 20 rfl rfl)
theorem dX20_find_47 : decode cX20_find 47 = .ok (.iload_n 2, 1) := dk_28 (dk_at dksX20_find_1 23 rfl rfl)
theorem dX20_find_48 : decode cX20_find 48 = .ok (.iload_n 3, 1) := dk_29 (dk_at dksX20_find_2 0 rfl rfl)
theorem dX20_find_49 : decode cX20_find 49 = .ok (.isub, 1) := dk_100 (dk_at dksX20_find_2 1 rfl rfl)
theorem dX20_find_50 : decode cX20_find 50 = .ok (.ireturn, 1) := dk_172 (dk_at dksX20_find_2 2 rfl rfl)
theorem dX20_find_51 : decode cX20_find 51 = .ok (.iinc 3 1, 3) := dk_132 3 1 (dk_at dksX20_find_2 3 rfl rfl)
theorem dX20_find_54 : decode cX20_find 54 = .ok (.goto (-39), 3) := dk_167 255 217 (dk_at dksX20_find_2 6 rfl rfl)
theorem dX20_find_57 : decode cX20_find 57 = .ok (.iconst (-1), 1) := dk_2 (dk_at dksX20_find_2 9 rfl rfl)
theorem dX20_find_58 : decode cX20_find 58 = .ok (.ireturn, 1) := dk_172 (dk_at dksX20_find_2 10 rfl rfl)
abbrev cX20_canStand : ByteArray := prog_3_method_4_code
def yX20_canStand : MethodName := ⟨RX20, "canStand", "(LMergeWorkbench$Hunk;I)Z"⟩
def dkwX20_canStand_1 : List UInt8 := [3, 172]
abbrev dktX20_canStand_1 : List UInt8 := dkwX20_canStand_1 ++ []
def dkwX20_canStand_0 : List UInt8 := [28, 42, 180, 0, 71, 161, 0, 19, 43, 42, 180, 0, 21, 28, 182, 0, 116, 153, 0, 7, 4, 167, 0, 4]
abbrev dktX20_canStand_0 : List UInt8 := dkwX20_canStand_0 ++ dktX20_canStand_1
theorem dksX20_canStand_0 : cX20_canStand.data.toList.drop 0 = dktX20_canStand_0 := by decide +kernel
theorem dksX20_canStand_1 : cX20_canStand.data.toList.drop 24 = dktX20_canStand_1 := dk_seg dksX20_canStand_0 24 rfl rfl
theorem dX20_canStand_0 : decode cX20_canStand 0 = .ok (.iload_n 2, 1) := dk_28 (dk_at dksX20_canStand_0 0 rfl rfl)
theorem dX20_canStand_1 : decode cX20_canStand 1 = .ok (.aload_n 0, 1) := dk_42 (dk_at dksX20_canStand_0 1 rfl rfl)
theorem dX20_canStand_2 : decode cX20_canStand 2 = .ok (.getfield 71, 3) := dk_180 0 71 (dk_at dksX20_canStand_0 2 rfl rfl)
theorem dX20_canStand_5 : decode cX20_canStand 5 = .ok (.if_icmp .lt 19, 3) := dk_161 0 19 (dk_at dksX20_canStand_0 5 rfl rfl)
theorem dX20_canStand_8 : decode cX20_canStand 8 = .ok (.aload_n 1, 1) := dk_43 (dk_at dksX20_canStand_0 8 rfl rfl)
theorem dX20_canStand_9 : decode cX20_canStand 9 = .ok (.aload_n 0, 1) := dk_42 (dk_at dksX20_canStand_0 9 rfl rfl)
theorem dX20_canStand_10 : decode cX20_canStand 10 = .ok (.getfield 21, 3) := dk_180 0 21 (dk_at dksX20_canStand_0 10 rfl rfl)
theorem dX20_canStand_13 : decode cX20_canStand 13 = .ok (.iload_n 2, 1) := dk_28 (dk_at dksX20_canStand_0 13 rfl rfl)
theorem dX20_canStand_14 : decode cX20_canStand 14 = .ok (.invokevirtual 116, 3) := dk_182 0 116 (dk_at dksX20_canStand_0 14 rfl rfl)
theorem dX20_canStand_17 : decode cX20_canStand 17 = .ok (.ifCond .eq 7, 3) := dk_153 0 7 (dk_at dksX20_canStand_0 17 rfl rfl)
theorem dX20_canStand_20 : decode cX20_canStand 20 = .ok (.iconst 1, 1) := dk_4 (dk_at dksX20_canStand_0 20 rfl rfl)
theorem dX20_canStand_21 : decode cX20_canStand 21 = .ok (.goto 4, 3) := dk_167 0 4 (dk_at dksX20_canStand_0 21 rfl rfl)
theorem dX20_canStand_24 : decode cX20_canStand 24 = .ok (.iconst 0, 1) := dk_3 (dk_at dksX20_canStand_1 0 rfl rfl)
theorem dX20_canStand_25 : decode cX20_canStand 25 = .ok (.ireturn, 1) := dk_172 (dk_at dksX20_canStand_1 1 rfl rfl)
theorem q150 : (Jvm.Cond.initialized "MergeWorkbench$Application") ∈ lw_all := lw_g (lw_at lw_m1 67 rfl) rfl
theorem q295 : (Jvm.Cond.selects "MergeWorkbench$Application" ({ cls := "java/lang/Object", name := "getClass", desc := "()Ljava/lang/Class;" } : Jvm.MethodName) ({ cls := "java/lang/Object", name := "getClass", desc := "()Ljava/lang/Class;" } : Jvm.MethodName)) ∈ lw_all := lw_g (lw_at lw_m1 212 rfl) rfl
theorem q1463 : (Jvm.Cond.selects "MergeWorkbench$Application" ({ cls := "java/lang/Object", name := "equals", desc := "(Ljava/lang/Object;)Z" } : Jvm.MethodName) ({ cls := "java/lang/Object", name := "equals", desc := "(Ljava/lang/Object;)Z" } : Jvm.MethodName)) ∈ lw_all := lw_g (lw_at lw_m6 180 rfl) rfl
theorem q2379 : (Jvm.Cond.fieldLinkNest "MergeWorkbench$Application" (103 : Nat) "MergeWorkbench$Part" "from" "I" "MergeWorkbench") ∈ lw_tbl := lw_at lw_m10 136 rfl
theorem q3120 : (Jvm.Cond.fieldLinkNest "MergeWorkbench$Application" (97 : Nat) "MergeWorkbench$Hunk" "old" "LMergeWorkbench$Part;" "MergeWorkbench") ∈ lw_tbl := lw_at lw_m13 157 rfl
theorem q3122 : (Jvm.Cond.fieldLinkNest "MergeWorkbench$Application" (93 : Nat) "MergeWorkbench$Hunk" "now" "LMergeWorkbench$Part;" "MergeWorkbench") ∈ lw_tbl := lw_at lw_m13 159 rfl
theorem q3137 : (Jvm.Cond.fieldLinkNest "MergeWorkbench$Application" (28 : Nat) "MergeWorkbench$Patch" "hunks" "Ljava/util/List;" "MergeWorkbench") ∈ lw_tbl := lw_at lw_m13 174 rfl
theorem q3170 : (Jvm.Cond.instantiable "MergeWorkbench$Application" (7 : Nat)) ∈ lw_all := lw_g (lw_at lw_m13 207 rfl) rfl
theorem q3172 : (Jvm.Cond.instanceMethod ({ cls := "MergeWorkbench$Application", name := "<init>", desc := "(LMergeWorkbench$Patch;Ljava/util/List;IZ)V" } : Jvm.MethodName)) ∈ lw_all := lw_g (lw_at lw_m13 209 rfl) rfl
theorem q3173 : (Jvm.Cond.code ({ cls := "MergeWorkbench$Application", name := "<init>", desc := "(LMergeWorkbench$Patch;Ljava/util/List;IZ)V" } : Jvm.MethodName) prog_3_method_1_code (8 : Nat) (Option.none : Option Jvm.ClassFile.FieldType)) ∈ lw_all := lw_g (lw_at lw_m13 210 rfl) rfl
theorem q3174 : (Jvm.Cond.methodLink "MergeWorkbench$Application" (3 : Nat) ({ cls := "java/lang/Object", name := "<init>", desc := "()V" } : Jvm.MethodName)) ∈ lw_all := lw_g (lw_at lw_m13 211 rfl) rfl
theorem q3175 : (Jvm.Cond.classLink "MergeWorkbench$Application" (9 : Nat) "java/util/ArrayList") ∈ lw_all := lw_g (lw_at lw_m13 212 rfl) rfl
theorem q3176 : (Jvm.Cond.methodLink "MergeWorkbench$Application" (11 : Nat) ({ cls := "java/util/ArrayList", name := "<init>", desc := "()V" } : Jvm.MethodName)) ∈ lw_all := lw_g (lw_at lw_m13 213 rfl) rfl
theorem q3177 : (Jvm.Cond.interfaceEntry "MergeWorkbench$Application" (33 : Nat)) ∈ lw_tbl := lw_at lw_m13 214 rfl
theorem q3178 : (Jvm.Cond.methodLink "MergeWorkbench$Application" (33 : Nat) ({ cls := "java/util/List", name := "iterator", desc := "()Ljava/util/Iterator;" } : Jvm.MethodName)) ∈ lw_all := lw_g (lw_at lw_m13 215 rfl) rfl
theorem q3179 : (Jvm.Cond.interfaceEntry "MergeWorkbench$Application" (39 : Nat)) ∈ lw_tbl := lw_at lw_m13 216 rfl
theorem q3180 : (Jvm.Cond.methodLink "MergeWorkbench$Application" (39 : Nat) ({ cls := "java/util/Iterator", name := "hasNext", desc := "()Z" } : Jvm.MethodName)) ∈ lw_all := lw_g (lw_at lw_m13 217 rfl) rfl
theorem q3181 : (Jvm.Cond.interfaceEntry "MergeWorkbench$Application" (45 : Nat)) ∈ lw_tbl := lw_at lw_m13 218 rfl
theorem q3182 : (Jvm.Cond.methodLink "MergeWorkbench$Application" (45 : Nat) ({ cls := "java/util/Iterator", name := "next", desc := "()Ljava/lang/Object;" } : Jvm.MethodName)) ∈ lw_all := lw_g (lw_at lw_m13 219 rfl) rfl
theorem q3183 : (Jvm.Cond.classLink "MergeWorkbench$Application" (49 : Nat) "MergeWorkbench$Hunk") ∈ lw_all := lw_g (lw_at lw_m13 220 rfl) rfl
theorem q3184 : (Jvm.Cond.methodLink "MergeWorkbench$Application" (51 : Nat) ({ cls := "MergeWorkbench$Hunk", name := "reversed", desc := "()LMergeWorkbench$Hunk;" } : Jvm.MethodName)) ∈ lw_all := lw_g (lw_at lw_m13 221 rfl) rfl
theorem q3190 : (Jvm.Cond.methodLink "MergeWorkbench$Application" (55 : Nat) ({ cls := "MergeWorkbench$Application", name := "apply", desc := "(LMergeWorkbench$Hunk;)LMergeWorkbench$Outcome;" } : Jvm.MethodName)) ∈ lw_all := lw_g (lw_at lw_m13 227 rfl) rfl
theorem q3191 : (Jvm.Cond.privateMethod ({ cls := "MergeWorkbench$Application", name := "apply", desc := "(LMergeWorkbench$Hunk;)LMergeWorkbench$Outcome;" } : Jvm.MethodName)) ∈ lw_tbl := lw_at lw_m13 228 rfl
theorem q3192 : (Jvm.Cond.instanceMethod ({ cls := "MergeWorkbench$Application", name := "apply", desc := "(LMergeWorkbench$Hunk;)LMergeWorkbench$Outcome;" } : Jvm.MethodName)) ∈ lw_all := lw_g (lw_at lw_m13 229 rfl) rfl
theorem q3193 : (Jvm.Cond.code ({ cls := "MergeWorkbench$Application", name := "apply", desc := "(LMergeWorkbench$Hunk;)LMergeWorkbench$Outcome;" } : Jvm.MethodName) prog_3_method_2_code (5 : Nat) (Option.some (Jvm.ClassFile.FieldType.object "MergeWorkbench$Outcome"))) ∈ lw_all := lw_g (lw_at lw_m13 230 rfl) rfl
theorem q3194 : (Jvm.Cond.methodLink "MergeWorkbench$Application" (85 : Nat) ({ cls := "MergeWorkbench$Hunk", name := "fuzzed", desc := "(I)LMergeWorkbench$Hunk;" } : Jvm.MethodName)) ∈ lw_all := lw_g (lw_at lw_m13 231 rfl) rfl
theorem q3200 : (Jvm.Cond.methodLink "MergeWorkbench$Application" (89 : Nat) ({ cls := "MergeWorkbench$Application", name := "find", desc := "(LMergeWorkbench$Hunk;)I" } : Jvm.MethodName)) ∈ lw_all := lw_g (lw_at lw_m13 237 rfl) rfl
theorem q3201 : (Jvm.Cond.privateMethod ({ cls := "MergeWorkbench$Application", name := "find", desc := "(LMergeWorkbench$Hunk;)I" } : Jvm.MethodName)) ∈ lw_tbl := lw_at lw_m13 238 rfl
theorem q3202 : (Jvm.Cond.instanceMethod ({ cls := "MergeWorkbench$Application", name := "find", desc := "(LMergeWorkbench$Hunk;)I" } : Jvm.MethodName)) ∈ lw_all := lw_g (lw_at lw_m13 239 rfl) rfl
theorem q3203 : (Jvm.Cond.code ({ cls := "MergeWorkbench$Application", name := "find", desc := "(LMergeWorkbench$Hunk;)I" } : Jvm.MethodName) prog_3_method_3_code (4 : Nat) (Option.some Jvm.ClassFile.FieldType.int)) ∈ lw_all := lw_g (lw_at lw_m14 0 rfl) rfl
theorem q3204 : (Jvm.Cond.methodLink "MergeWorkbench$Application" (112 : Nat) ({ cls := "MergeWorkbench$Application", name := "canStand", desc := "(LMergeWorkbench$Hunk;I)Z" } : Jvm.MethodName)) ∈ lw_all := lw_g (lw_at lw_m14 1 rfl) rfl
theorem q3205 : (Jvm.Cond.privateMethod ({ cls := "MergeWorkbench$Application", name := "canStand", desc := "(LMergeWorkbench$Hunk;I)Z" } : Jvm.MethodName)) ∈ lw_tbl := lw_at lw_m14 2 rfl
theorem q3206 : (Jvm.Cond.instanceMethod ({ cls := "MergeWorkbench$Application", name := "canStand", desc := "(LMergeWorkbench$Hunk;I)Z" } : Jvm.MethodName)) ∈ lw_all := lw_g (lw_at lw_m14 3 rfl) rfl
theorem q3207 : (Jvm.Cond.code ({ cls := "MergeWorkbench$Application", name := "canStand", desc := "(LMergeWorkbench$Hunk;I)Z" } : Jvm.MethodName) prog_3_method_4_code (3 : Nat) (Option.some Jvm.ClassFile.FieldType.boolean)) ∈ lw_all := lw_g (lw_at lw_m14 4 rfl) rfl
theorem q3208 : (Jvm.Cond.methodLink "MergeWorkbench$Application" (116 : Nat) ({ cls := "MergeWorkbench$Hunk", name := "fits", desc := "(Ljava/util/List;I)Z" } : Jvm.MethodName)) ∈ lw_all := lw_g (lw_at lw_m14 5 rfl) rfl
theorem q3217 : (Jvm.Cond.classLink "MergeWorkbench$Application" (69 : Nat) "MergeWorkbench$Part") ∈ lw_all := lw_g (lw_at lw_m14 14 rfl) rfl
theorem q3218 : (Jvm.Cond.methodLink "MergeWorkbench$Application" (78 : Nat) ({ cls := "MergeWorkbench$Part", name := "<init>", desc := "(Ljava/util/List;II)V" } : Jvm.MethodName)) ∈ lw_all := lw_g (lw_at lw_m14 15 rfl) rfl
theorem q3219 : (Jvm.Cond.methodLink "MergeWorkbench$Application" (81 : Nat) ({ cls := "MergeWorkbench$Part", name := "addTo", desc := "(Ljava/util/List;)V" } : Jvm.MethodName)) ∈ lw_all := lw_g (lw_at lw_m14 16 rfl) rfl
theorem q3220 : (Jvm.Cond.methodLink "MergeWorkbench$Application" (100 : Nat) ({ cls := "MergeWorkbench$Part", name := "length", desc := "()I" } : Jvm.MethodName)) ∈ lw_all := lw_g (lw_at lw_m14 17 rfl) rfl
theorem q3221 : (Jvm.Cond.classLink "MergeWorkbench$Application" (67 : Nat) "MergeWorkbench$Outcome") ∈ lw_all := lw_g (lw_at lw_m14 18 rfl) rfl
theorem q3223 : (Jvm.Cond.methodLink "MergeWorkbench$Application" (109 : Nat) ({ cls := "MergeWorkbench$Outcome", name := "<init>", desc := "(II)V" } : Jvm.MethodName)) ∈ lw_all := lw_g (lw_at lw_m14 20 rfl) rfl
theorem q3230 : (Jvm.Cond.fieldLinkNest "MergeWorkbench$Application" (66 : Nat) "MergeWorkbench$Outcome" "fuzz" "I" "MergeWorkbench") ∈ lw_tbl := lw_at lw_m14 27 rfl
theorem q3237 : (Jvm.Cond.interfaceEntry "MergeWorkbench$Application" (59 : Nat)) ∈ lw_tbl := lw_at lw_m14 34 rfl
theorem q3238 : (Jvm.Cond.methodLink "MergeWorkbench$Application" (59 : Nat) ({ cls := "java/util/List", name := "add", desc := "(Ljava/lang/Object;)Z" } : Jvm.MethodName)) ∈ lw_all := lw_g (lw_at lw_m14 35 rfl) rfl
theorem q3239 : (Jvm.Cond.interfaceEntry "MergeWorkbench$Application" (74 : Nat)) ∈ lw_tbl := lw_at lw_m14 36 rfl
theorem q3240 : (Jvm.Cond.methodLink "MergeWorkbench$Application" (74 : Nat) ({ cls := "java/util/List", name := "size", desc := "()I" } : Jvm.MethodName)) ∈ lw_all := lw_g (lw_at lw_m14 37 rfl) rfl
theorem q3241 : (Jvm.Cond.fieldLink "MergeWorkbench$Application" (21 : Nat) "MergeWorkbench$Application" "lines" "Ljava/util/List;") ∈ lw_all := lw_g (lw_at lw_m14 38 rfl) rfl
theorem q3242 : (Jvm.Cond.fieldLink "MergeWorkbench$Application" (24 : Nat) "MergeWorkbench$Application" "fuzz" "I") ∈ lw_all := lw_g (lw_at lw_m14 39 rfl) rfl
theorem q3243 : (Jvm.Cond.fieldLink "MergeWorkbench$Application" (12 : Nat) "MergeWorkbench$Application" "result" "Ljava/util/List;") ∈ lw_all := lw_g (lw_at lw_m14 40 rfl) rfl
theorem q3245 : (Jvm.Cond.fieldLink "MergeWorkbench$Application" (18 : Nat) "MergeWorkbench$Application" "outcomes" "Ljava/util/List;") ∈ lw_all := lw_g (lw_at lw_m14 42 rfl) rfl
theorem q3247 : (Jvm.Cond.fieldLink "MergeWorkbench$Application" (71 : Nat) "MergeWorkbench$Application" "end" "I") ∈ lw_all := lw_g (lw_at lw_m14 44 rfl) rfl
theorem q3248 : (Jvm.Cond.fieldLink "MergeWorkbench$Application" (106 : Nat) "MergeWorkbench$Application" "shift" "I") ∈ lw_all := lw_g (lw_at lw_m14 45 rfl) rfl
theorem q3249 : (Jvm.Cond.fieldLink "MergeWorkbench$Application" (63 : Nat) "MergeWorkbench$Application" "applied" "I") ∈ lw_all := lw_g (lw_at lw_m14 46 rfl) rfl
theorem q3251 : (Jvm.Cond.laysFinal "MergeWorkbench$Application" "MergeWorkbench$Application" "lines" "Ljava/util/List;") ∈ lw_all := lw_g (lw_at lw_m14 48 rfl) rfl
theorem q3252 : (Jvm.Cond.soleField "MergeWorkbench$Application" "lines") ∈ lw_all := lw_g (lw_at lw_m14 49 rfl) rfl
theorem q3253 : (Jvm.Cond.laysFinal "MergeWorkbench$Application" "MergeWorkbench$Application" "fuzz" "I") ∈ lw_all := lw_g (lw_at lw_m14 50 rfl) rfl
theorem q3254 : (Jvm.Cond.soleField "MergeWorkbench$Application" "fuzz") ∈ lw_all := lw_g (lw_at lw_m14 51 rfl) rfl
theorem q3255 : (Jvm.Cond.laysFinal "MergeWorkbench$Application" "MergeWorkbench$Application" "result" "Ljava/util/List;") ∈ lw_all := lw_g (lw_at lw_m14 52 rfl) rfl
theorem q3256 : (Jvm.Cond.soleField "MergeWorkbench$Application" "result") ∈ lw_all := lw_g (lw_at lw_m14 53 rfl) rfl
theorem q3257 : (Jvm.Cond.laysFinal "MergeWorkbench$Application" "MergeWorkbench$Application" "outcomes" "Ljava/util/List;") ∈ lw_all := lw_g (lw_at lw_m14 54 rfl) rfl
theorem q3258 : (Jvm.Cond.soleField "MergeWorkbench$Application" "outcomes") ∈ lw_all := lw_g (lw_at lw_m14 55 rfl) rfl
theorem q3259 : (Jvm.Cond.lays "MergeWorkbench$Application" "MergeWorkbench$Application" "end" "I") ∈ lw_all := lw_g (lw_at lw_m14 56 rfl) rfl
theorem q3260 : (Jvm.Cond.soleField "MergeWorkbench$Application" "end") ∈ lw_all := lw_g (lw_at lw_m14 57 rfl) rfl
theorem q3261 : (Jvm.Cond.lays "MergeWorkbench$Application" "MergeWorkbench$Application" "shift" "I") ∈ lw_all := lw_g (lw_at lw_m14 58 rfl) rfl
theorem q3262 : (Jvm.Cond.soleField "MergeWorkbench$Application" "shift") ∈ lw_all := lw_g (lw_at lw_m14 59 rfl) rfl
theorem q3263 : (Jvm.Cond.lays "MergeWorkbench$Application" "MergeWorkbench$Application" "applied" "I") ∈ lw_all := lw_g (lw_at lw_m14 60 rfl) rfl
theorem q3264 : (Jvm.Cond.soleField "MergeWorkbench$Application" "applied") ∈ lw_all := lw_g (lw_at lw_m14 61 rfl) rfl
theorem q3265 : (Jvm.Cond.superclass "MergeWorkbench$Application" "java/lang/Object") ∈ lw_all := lw_g (lw_at lw_m14 62 rfl) rfl
theorem q3947 : (Jvm.Cond.castable "MergeWorkbench$Application" "java/lang/Object") ∈ lw_tbl := lw_at lw_m17 24 rfl
theorem in_X20 : ∀ w ∈ wsX200, w ∈ lw_all := lw_in wsX200 [3251, 3253, 3255, 3257, 3259, 3261, 3263] (by decide +kernel) (by decide +kernel)

/-! MergeWorkbench$Outcome -/
set_option maxRecDepth 100000
def RX21 : String := "MergeWorkbench$Outcome"
def TX21 : u_T := fun k => match k with
  | 0 => ("MergeWorkbench$Outcome", "position", "I", true)
  | _ => ("MergeWorkbench$Outcome", "fuzz", "I", true)
def tyX21 : Nat → FieldType := fun k => match k with
  | 0 => .int
  | _ => .int
abbrev wsX210 : List Cond := u_ws RX21 TX21 2
theorem nmX21 : ∀ a, a < 2 → ∀ b, b < 2 → a ≠ b → (TX21 a).2.1 ≠ (TX21 b).2.1 := by decide +kernel
theorem tyX21_ok : ∀ k, k < 2 → parseFieldDescriptor (TX21 k).2.2.1 = some (tyX21 k) := by decide +kernel
abbrev cX21_init : ByteArray := prog_16_method_1_code
def yX21_init : MethodName := ⟨RX21, "<init>", "(II)V"⟩
def dkwX21_init_0 : List UInt8 := [42, 183, 0, 1, 42, 27, 181, 0, 7, 42, 28, 181, 0, 13, 177]
abbrev dktX21_init_0 : List UInt8 := dkwX21_init_0 ++ []
theorem dksX21_init_0 : cX21_init.data.toList.drop 0 = dktX21_init_0 := by decide +kernel
theorem dX21_init_0 : decode cX21_init 0 = .ok (.aload_n 0, 1) := dk_42 (dk_at dksX21_init_0 0 rfl rfl)
theorem dX21_init_1 : decode cX21_init 1 = .ok (.invokespecial 1, 3) := dk_183 0 1 (dk_at dksX21_init_0 1 rfl rfl)
theorem dX21_init_4 : decode cX21_init 4 = .ok (.aload_n 0, 1) := dk_42 (dk_at dksX21_init_0 4 rfl rfl)
theorem dX21_init_5 : decode cX21_init 5 = .ok (.iload_n 1, 1) := dk_27 (dk_at dksX21_init_0 5 rfl rfl)
theorem dX21_init_6 : decode cX21_init 6 = .ok (.putfield 7, 3) := dk_181 0 7 (dk_at dksX21_init_0 6 rfl rfl)
theorem dX21_init_9 : decode cX21_init 9 = .ok (.aload_n 0, 1) := dk_42 (dk_at dksX21_init_0 9 rfl rfl)
theorem dX21_init_10 : decode cX21_init 10 = .ok (.iload_n 2, 1) := dk_28 (dk_at dksX21_init_0 10 rfl rfl)
theorem dX21_init_11 : decode cX21_init 11 = .ok (.putfield 13, 3) := dk_181 0 13 (dk_at dksX21_init_0 11 rfl rfl)
theorem dX21_init_14 : decode cX21_init 14 = .ok (.return_, 1) := dk_177 (dk_at dksX21_init_0 14 rfl rfl)
theorem q151 : (Jvm.Cond.initialized "MergeWorkbench$Outcome") ∈ lw_all := lw_g (lw_at lw_m1 68 rfl) rfl
theorem q308 : (Jvm.Cond.selects "MergeWorkbench$Outcome" ({ cls := "java/lang/Object", name := "getClass", desc := "()Ljava/lang/Class;" } : Jvm.MethodName) ({ cls := "java/lang/Object", name := "getClass", desc := "()Ljava/lang/Class;" } : Jvm.MethodName)) ∈ lw_all := lw_g (lw_at lw_m1 225 rfl) rfl
theorem q1476 : (Jvm.Cond.selects "MergeWorkbench$Outcome" ({ cls := "java/lang/Object", name := "equals", desc := "(Ljava/lang/Object;)Z" } : Jvm.MethodName) ({ cls := "java/lang/Object", name := "equals", desc := "(Ljava/lang/Object;)Z" } : Jvm.MethodName)) ∈ lw_all := lw_g (lw_at lw_m6 193 rfl) rfl
theorem q3222 : (Jvm.Cond.instantiable "MergeWorkbench$Outcome" (2 : Nat)) ∈ lw_all := lw_g (lw_at lw_m14 19 rfl) rfl
theorem q3224 : (Jvm.Cond.instanceMethod ({ cls := "MergeWorkbench$Outcome", name := "<init>", desc := "(II)V" } : Jvm.MethodName)) ∈ lw_all := lw_g (lw_at lw_m14 21 rfl) rfl
theorem q3225 : (Jvm.Cond.code ({ cls := "MergeWorkbench$Outcome", name := "<init>", desc := "(II)V" } : Jvm.MethodName) prog_16_method_1_code (3 : Nat) (Option.none : Option Jvm.ClassFile.FieldType)) ∈ lw_all := lw_g (lw_at lw_m14 22 rfl) rfl
theorem q3226 : (Jvm.Cond.methodLink "MergeWorkbench$Outcome" (1 : Nat) ({ cls := "java/lang/Object", name := "<init>", desc := "()V" } : Jvm.MethodName)) ∈ lw_all := lw_g (lw_at lw_m14 23 rfl) rfl
theorem q3227 : (Jvm.Cond.fieldLink "MergeWorkbench$Outcome" (7 : Nat) "MergeWorkbench$Outcome" "position" "I") ∈ lw_all := lw_g (lw_at lw_m14 24 rfl) rfl
theorem q3229 : (Jvm.Cond.fieldLink "MergeWorkbench$Outcome" (13 : Nat) "MergeWorkbench$Outcome" "fuzz" "I") ∈ lw_all := lw_g (lw_at lw_m14 26 rfl) rfl
theorem q3232 : (Jvm.Cond.laysFinal "MergeWorkbench$Outcome" "MergeWorkbench$Outcome" "position" "I") ∈ lw_all := lw_g (lw_at lw_m14 29 rfl) rfl
theorem q3233 : (Jvm.Cond.soleField "MergeWorkbench$Outcome" "position") ∈ lw_all := lw_g (lw_at lw_m14 30 rfl) rfl
theorem q3234 : (Jvm.Cond.laysFinal "MergeWorkbench$Outcome" "MergeWorkbench$Outcome" "fuzz" "I") ∈ lw_all := lw_g (lw_at lw_m14 31 rfl) rfl
theorem q3235 : (Jvm.Cond.soleField "MergeWorkbench$Outcome" "fuzz") ∈ lw_all := lw_g (lw_at lw_m14 32 rfl) rfl
theorem q3236 : (Jvm.Cond.superclass "MergeWorkbench$Outcome" "java/lang/Object") ∈ lw_all := lw_g (lw_at lw_m14 33 rfl) rfl
theorem q3948 : (Jvm.Cond.castable "MergeWorkbench$Outcome" "java/lang/Object") ∈ lw_tbl := lw_at lw_m17 25 rfl
theorem in_X21 : ∀ w ∈ wsX210, w ∈ lw_all := lw_in wsX210 [3232, 3234] (by decide +kernel) (by decide +kernel)

