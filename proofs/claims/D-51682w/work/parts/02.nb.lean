set_option maxRecDepth 100000
/-! WreckSharesLaw -/
def RX0 : String := "WreckSharesLaw"
abbrev cX0_load : ByteArray := method_3_code
def yX0_load : MethodName := ⟨RX0, "load", "(LWreckShares;I[J)I"⟩
def dkwX0_load_0 : List UInt8 := [44, 3, 42, 27, 182, 0, 7, 133, 80, 167, 0, 6, 78, 4, 172, 3, 172]
abbrev dktX0_load_0 : List UInt8 := dkwX0_load_0 ++ []
theorem dksX0_load_0 : cX0_load.data.toList.drop 0 = dktX0_load_0 := by decide +kernel
theorem dX0_load_0 : decode cX0_load 0 = .ok (.aload_n 2, 1) := dk_44 (dk_at dksX0_load_0 0 rfl rfl)
theorem dX0_load_1 : decode cX0_load 1 = .ok (.iconst 0, 1) := dk_3 (dk_at dksX0_load_0 1 rfl rfl)
theorem dX0_load_2 : decode cX0_load 2 = .ok (.aload_n 0, 1) := dk_42 (dk_at dksX0_load_0 2 rfl rfl)
theorem dX0_load_3 : decode cX0_load 3 = .ok (.iload_n 1, 1) := dk_27 (dk_at dksX0_load_0 3 rfl rfl)
theorem dX0_load_4 : decode cX0_load 4 = .ok (.invokevirtual 7, 3) := dk_182 0 7 (dk_at dksX0_load_0 4 rfl rfl)
theorem dX0_load_7 : decode cX0_load 7 = .ok (.i2l, 1) := dk_133 (dk_at dksX0_load_0 7 rfl rfl)
theorem dX0_load_8 : decode cX0_load 8 = .ok (.lastore, 1) := dk_80 (dk_at dksX0_load_0 8 rfl rfl)
theorem dX0_load_9 : decode cX0_load 9 = .ok (.goto 6, 3) := dk_167 0 6 (dk_at dksX0_load_0 9 rfl rfl)
theorem dX0_load_12 : decode cX0_load 12 = .ok (.astore_n 3, 1) := dk_78 (dk_at dksX0_load_0 12 rfl rfl)
theorem dX0_load_13 : decode cX0_load 13 = .ok (.iconst 1, 1) := dk_4 (dk_at dksX0_load_0 13 rfl rfl)
theorem dX0_load_14 : decode cX0_load 14 = .ok (.ireturn, 1) := dk_172 (dk_at dksX0_load_0 14 rfl rfl)
theorem dX0_load_15 : decode cX0_load 15 = .ok (.iconst 0, 1) := dk_3 (dk_at dksX0_load_0 15 rfl rfl)
theorem dX0_load_16 : decode cX0_load 16 = .ok (.ireturn, 1) := dk_172 (dk_at dksX0_load_0 16 rfl rfl)
abbrev cX0_size : ByteArray := method_4_code
def yX0_size : MethodName := ⟨RX0, "size", "(LWreckShares;I[J)I"⟩
def dkwX0_size_0 : List UInt8 := [44, 3, 42, 27, 182, 0, 15, 133, 80, 167, 0, 6, 78, 4, 172, 3, 172]
abbrev dktX0_size_0 : List UInt8 := dkwX0_size_0 ++ []
theorem dksX0_size_0 : cX0_size.data.toList.drop 0 = dktX0_size_0 := by decide +kernel
theorem dX0_size_0 : decode cX0_size 0 = .ok (.aload_n 2, 1) := dk_44 (dk_at dksX0_size_0 0 rfl rfl)
theorem dX0_size_1 : decode cX0_size 1 = .ok (.iconst 0, 1) := dk_3 (dk_at dksX0_size_0 1 rfl rfl)
theorem dX0_size_2 : decode cX0_size 2 = .ok (.aload_n 0, 1) := dk_42 (dk_at dksX0_size_0 2 rfl rfl)
theorem dX0_size_3 : decode cX0_size 3 = .ok (.iload_n 1, 1) := dk_27 (dk_at dksX0_size_0 3 rfl rfl)
theorem dX0_size_4 : decode cX0_size 4 = .ok (.invokevirtual 15, 3) := dk_182 0 15 (dk_at dksX0_size_0 4 rfl rfl)
theorem dX0_size_7 : decode cX0_size 7 = .ok (.i2l, 1) := dk_133 (dk_at dksX0_size_0 7 rfl rfl)
theorem dX0_size_8 : decode cX0_size 8 = .ok (.lastore, 1) := dk_80 (dk_at dksX0_size_0 8 rfl rfl)
theorem dX0_size_9 : decode cX0_size 9 = .ok (.goto 6, 3) := dk_167 0 6 (dk_at dksX0_size_0 9 rfl rfl)
theorem dX0_size_12 : decode cX0_size 12 = .ok (.astore_n 3, 1) := dk_78 (dk_at dksX0_size_0 12 rfl rfl)
theorem dX0_size_13 : decode cX0_size 13 = .ok (.iconst 1, 1) := dk_4 (dk_at dksX0_size_0 13 rfl rfl)
theorem dX0_size_14 : decode cX0_size 14 = .ok (.ireturn, 1) := dk_172 (dk_at dksX0_size_0 14 rfl rfl)
theorem dX0_size_15 : decode cX0_size 15 = .ok (.iconst 0, 1) := dk_3 (dk_at dksX0_size_0 15 rfl rfl)
theorem dX0_size_16 : decode cX0_size 16 = .ok (.ireturn, 1) := dk_172 (dk_at dksX0_size_0 16 rfl rfl)
abbrev cX0_account : ByteArray := method_5_code
def yX0_account : MethodName := ⟨RX0, "account", "(LWreckShares;I[J)I"⟩
def dkwX0_account_0 : List UInt8 := [44, 3, 42, 27, 182, 0, 18, 133, 80, 167, 0, 6, 78, 4, 172, 3, 172]
abbrev dktX0_account_0 : List UInt8 := dkwX0_account_0 ++ []
theorem dksX0_account_0 : cX0_account.data.toList.drop 0 = dktX0_account_0 := by decide +kernel
theorem dX0_account_0 : decode cX0_account 0 = .ok (.aload_n 2, 1) := dk_44 (dk_at dksX0_account_0 0 rfl rfl)
theorem dX0_account_1 : decode cX0_account 1 = .ok (.iconst 0, 1) := dk_3 (dk_at dksX0_account_0 1 rfl rfl)
theorem dX0_account_2 : decode cX0_account 2 = .ok (.aload_n 0, 1) := dk_42 (dk_at dksX0_account_0 2 rfl rfl)
theorem dX0_account_3 : decode cX0_account 3 = .ok (.iload_n 1, 1) := dk_27 (dk_at dksX0_account_0 3 rfl rfl)
theorem dX0_account_4 : decode cX0_account 4 = .ok (.invokevirtual 18, 3) := dk_182 0 18 (dk_at dksX0_account_0 4 rfl rfl)
theorem dX0_account_7 : decode cX0_account 7 = .ok (.i2l, 1) := dk_133 (dk_at dksX0_account_0 7 rfl rfl)
theorem dX0_account_8 : decode cX0_account 8 = .ok (.lastore, 1) := dk_80 (dk_at dksX0_account_0 8 rfl rfl)
theorem dX0_account_9 : decode cX0_account 9 = .ok (.goto 6, 3) := dk_167 0 6 (dk_at dksX0_account_0 9 rfl rfl)
theorem dX0_account_12 : decode cX0_account 12 = .ok (.astore_n 3, 1) := dk_78 (dk_at dksX0_account_0 12 rfl rfl)
theorem dX0_account_13 : decode cX0_account 13 = .ok (.iconst 1, 1) := dk_4 (dk_at dksX0_account_0 13 rfl rfl)
theorem dX0_account_14 : decode cX0_account 14 = .ok (.ireturn, 1) := dk_172 (dk_at dksX0_account_0 14 rfl rfl)
theorem dX0_account_15 : decode cX0_account 15 = .ok (.iconst 0, 1) := dk_3 (dk_at dksX0_account_0 15 rfl rfl)
theorem dX0_account_16 : decode cX0_account 16 = .ok (.ireturn, 1) := dk_172 (dk_at dksX0_account_0 16 rfl rfl)
abbrev cX0_good : ByteArray := method_6_code
def yX0_good : MethodName := ⟨RX0, "good", "(LWreckShares;II[J)I"⟩
def dkwX0_good_0 : List UInt8 := [45, 3, 42, 27, 28, 182, 0, 21, 133, 80, 167, 0, 11, 58, 4, 4, 172, 58, 4, 5, 172, 3, 172]
abbrev dktX0_good_0 : List UInt8 := dkwX0_good_0 ++ []
theorem dksX0_good_0 : cX0_good.data.toList.drop 0 = dktX0_good_0 := by decide +kernel
theorem dX0_good_0 : decode cX0_good 0 = .ok (.aload_n 3, 1) := dk_45 (dk_at dksX0_good_0 0 rfl rfl)
theorem dX0_good_1 : decode cX0_good 1 = .ok (.iconst 0, 1) := dk_3 (dk_at dksX0_good_0 1 rfl rfl)
theorem dX0_good_2 : decode cX0_good 2 = .ok (.aload_n 0, 1) := dk_42 (dk_at dksX0_good_0 2 rfl rfl)
theorem dX0_good_3 : decode cX0_good 3 = .ok (.iload_n 1, 1) := dk_27 (dk_at dksX0_good_0 3 rfl rfl)
theorem dX0_good_4 : decode cX0_good 4 = .ok (.iload_n 2, 1) := dk_28 (dk_at dksX0_good_0 4 rfl rfl)
theorem dX0_good_5 : decode cX0_good 5 = .ok (.invokevirtual 21, 3) := dk_182 0 21 (dk_at dksX0_good_0 5 rfl rfl)
theorem dX0_good_8 : decode cX0_good 8 = .ok (.i2l, 1) := dk_133 (dk_at dksX0_good_0 8 rfl rfl)
theorem dX0_good_9 : decode cX0_good 9 = .ok (.lastore, 1) := dk_80 (dk_at dksX0_good_0 9 rfl rfl)
theorem dX0_good_10 : decode cX0_good 10 = .ok (.goto 11, 3) := dk_167 0 11 (dk_at dksX0_good_0 10 rfl rfl)
theorem dX0_good_13 : decode cX0_good 13 = .ok (.astore 4, 2) := dk_58 4 (dk_at dksX0_good_0 13 rfl rfl)
theorem dX0_good_15 : decode cX0_good 15 = .ok (.iconst 1, 1) := dk_4 (dk_at dksX0_good_0 15 rfl rfl)
theorem dX0_good_16 : decode cX0_good 16 = .ok (.ireturn, 1) := dk_172 (dk_at dksX0_good_0 16 rfl rfl)
theorem dX0_good_17 : decode cX0_good 17 = .ok (.astore 4, 2) := dk_58 4 (dk_at dksX0_good_0 17 rfl rfl)
theorem dX0_good_19 : decode cX0_good 19 = .ok (.iconst 2, 1) := dk_5 (dk_at dksX0_good_0 19 rfl rfl)
theorem dX0_good_20 : decode cX0_good 20 = .ok (.ireturn, 1) := dk_172 (dk_at dksX0_good_0 20 rfl rfl)
theorem dX0_good_21 : decode cX0_good 21 = .ok (.iconst 0, 1) := dk_3 (dk_at dksX0_good_0 21 rfl rfl)
theorem dX0_good_22 : decode cX0_good 22 = .ok (.ireturn, 1) := dk_172 (dk_at dksX0_good_0 22 rfl rfl)
abbrev cX0_finder : ByteArray := method_7_code
def yX0_finder : MethodName := ⟨RX0, "finder", "(LWreckShares;II[J)I"⟩
def dkwX0_finder_0 : List UInt8 := [45, 3, 42, 27, 28, 182, 0, 27, 133, 80, 167, 0, 11, 58, 4, 4, 172, 58, 4, 5, 172, 3, 172]
abbrev dktX0_finder_0 : List UInt8 := dkwX0_finder_0 ++ []
theorem dksX0_finder_0 : cX0_finder.data.toList.drop 0 = dktX0_finder_0 := by decide +kernel
theorem dX0_finder_0 : decode cX0_finder 0 = .ok (.aload_n 3, 1) := dk_45 (dk_at dksX0_finder_0 0 rfl rfl)
theorem dX0_finder_1 : decode cX0_finder 1 = .ok (.iconst 0, 1) := dk_3 (dk_at dksX0_finder_0 1 rfl rfl)
theorem dX0_finder_2 : decode cX0_finder 2 = .ok (.aload_n 0, 1) := dk_42 (dk_at dksX0_finder_0 2 rfl rfl)
theorem dX0_finder_3 : decode cX0_finder 3 = .ok (.iload_n 1, 1) := dk_27 (dk_at dksX0_finder_0 3 rfl rfl)
theorem dX0_finder_4 : decode cX0_finder 4 = .ok (.iload_n 2, 1) := dk_28 (dk_at dksX0_finder_0 4 rfl rfl)
theorem dX0_finder_5 : decode cX0_finder 5 = .ok (.invokevirtual 27, 3) := dk_182 0 27 (dk_at dksX0_finder_0 5 rfl rfl)
theorem dX0_finder_8 : decode cX0_finder 8 = .ok (.i2l, 1) := dk_133 (dk_at dksX0_finder_0 8 rfl rfl)
theorem dX0_finder_9 : decode cX0_finder 9 = .ok (.lastore, 1) := dk_80 (dk_at dksX0_finder_0 9 rfl rfl)
theorem dX0_finder_10 : decode cX0_finder 10 = .ok (.goto 11, 3) := dk_167 0 11 (dk_at dksX0_finder_0 10 rfl rfl)
theorem dX0_finder_13 : decode cX0_finder 13 = .ok (.astore 4, 2) := dk_58 4 (dk_at dksX0_finder_0 13 rfl rfl)
theorem dX0_finder_15 : decode cX0_finder 15 = .ok (.iconst 1, 1) := dk_4 (dk_at dksX0_finder_0 15 rfl rfl)
theorem dX0_finder_16 : decode cX0_finder 16 = .ok (.ireturn, 1) := dk_172 (dk_at dksX0_finder_0 16 rfl rfl)
theorem dX0_finder_17 : decode cX0_finder 17 = .ok (.astore 4, 2) := dk_58 4 (dk_at dksX0_finder_0 17 rfl rfl)
theorem dX0_finder_19 : decode cX0_finder 19 = .ok (.iconst 2, 1) := dk_5 (dk_at dksX0_finder_0 19 rfl rfl)
theorem dX0_finder_20 : decode cX0_finder 20 = .ok (.ireturn, 1) := dk_172 (dk_at dksX0_finder_0 20 rfl rfl)
theorem dX0_finder_21 : decode cX0_finder 21 = .ok (.iconst 0, 1) := dk_3 (dk_at dksX0_finder_0 21 rfl rfl)
theorem dX0_finder_22 : decode cX0_finder 22 = .ok (.ireturn, 1) := dk_172 (dk_at dksX0_finder_0 22 rfl rfl)
abbrev cX0_owner : ByteArray := method_8_code
def yX0_owner : MethodName := ⟨RX0, "owner", "(LWreckShares;I[J)I"⟩
def dkwX0_owner_0 : List UInt8 := [44, 3, 42, 27, 182, 0, 30, 133, 80, 167, 0, 6, 78, 4, 172, 3, 172]
abbrev dktX0_owner_0 : List UInt8 := dkwX0_owner_0 ++ []
theorem dksX0_owner_0 : cX0_owner.data.toList.drop 0 = dktX0_owner_0 := by decide +kernel
theorem dX0_owner_0 : decode cX0_owner 0 = .ok (.aload_n 2, 1) := dk_44 (dk_at dksX0_owner_0 0 rfl rfl)
theorem dX0_owner_1 : decode cX0_owner 1 = .ok (.iconst 0, 1) := dk_3 (dk_at dksX0_owner_0 1 rfl rfl)
theorem dX0_owner_2 : decode cX0_owner 2 = .ok (.aload_n 0, 1) := dk_42 (dk_at dksX0_owner_0 2 rfl rfl)
theorem dX0_owner_3 : decode cX0_owner 3 = .ok (.iload_n 1, 1) := dk_27 (dk_at dksX0_owner_0 3 rfl rfl)
theorem dX0_owner_4 : decode cX0_owner 4 = .ok (.invokevirtual 30, 3) := dk_182 0 30 (dk_at dksX0_owner_0 4 rfl rfl)
theorem dX0_owner_7 : decode cX0_owner 7 = .ok (.i2l, 1) := dk_133 (dk_at dksX0_owner_0 7 rfl rfl)
theorem dX0_owner_8 : decode cX0_owner 8 = .ok (.lastore, 1) := dk_80 (dk_at dksX0_owner_0 8 rfl rfl)
theorem dX0_owner_9 : decode cX0_owner 9 = .ok (.goto 6, 3) := dk_167 0 6 (dk_at dksX0_owner_0 9 rfl rfl)
theorem dX0_owner_12 : decode cX0_owner 12 = .ok (.astore_n 3, 1) := dk_78 (dk_at dksX0_owner_0 12 rfl rfl)
theorem dX0_owner_13 : decode cX0_owner 13 = .ok (.iconst 1, 1) := dk_4 (dk_at dksX0_owner_0 13 rfl rfl)
theorem dX0_owner_14 : decode cX0_owner 14 = .ok (.ireturn, 1) := dk_172 (dk_at dksX0_owner_0 14 rfl rfl)
theorem dX0_owner_15 : decode cX0_owner 15 = .ok (.iconst 0, 1) := dk_3 (dk_at dksX0_owner_0 15 rfl rfl)
theorem dX0_owner_16 : decode cX0_owner 16 = .ok (.ireturn, 1) := dk_172 (dk_at dksX0_owner_0 16 rfl rfl)
abbrev cX0_hand : ByteArray := method_9_code
def yX0_hand : MethodName := ⟨RX0, "hand", "(LWreckShares;IIZ[J)I"⟩
def dkwX0_hand_0 : List UInt8 := [25, 4, 3, 42, 27, 28, 29, 182, 0, 33, 133, 80, 167, 0, 7, 58, 5, 4, 172, 3, 172]
abbrev dktX0_hand_0 : List UInt8 := dkwX0_hand_0 ++ []
theorem dksX0_hand_0 : cX0_hand.data.toList.drop 0 = dktX0_hand_0 := by decide +kernel
theorem dX0_hand_0 : decode cX0_hand 0 = .ok (.aload 4, 2) := dk_25 4 (dk_at dksX0_hand_0 0 rfl rfl)
theorem dX0_hand_2 : decode cX0_hand 2 = .ok (.iconst 0, 1) := dk_3 (dk_at dksX0_hand_0 2 rfl rfl)
theorem dX0_hand_3 : decode cX0_hand 3 = .ok (.aload_n 0, 1) := dk_42 (dk_at dksX0_hand_0 3 rfl rfl)
theorem dX0_hand_4 : decode cX0_hand 4 = .ok (.iload_n 1, 1) := dk_27 (dk_at dksX0_hand_0 4 rfl rfl)
theorem dX0_hand_5 : decode cX0_hand 5 = .ok (.iload_n 2, 1) := dk_28 (dk_at dksX0_hand_0 5 rfl rfl)
theorem dX0_hand_6 : decode cX0_hand 6 = .ok (.iload_n 3, 1) := dk_29 (dk_at dksX0_hand_0 6 rfl rfl)
theorem dX0_hand_7 : decode cX0_hand 7 = .ok (.invokevirtual 33, 3) := dk_182 0 33 (dk_at dksX0_hand_0 7 rfl rfl)
theorem dX0_hand_10 : decode cX0_hand 10 = .ok (.i2l, 1) := dk_133 (dk_at dksX0_hand_0 10 rfl rfl)
theorem dX0_hand_11 : decode cX0_hand 11 = .ok (.lastore, 1) := dk_80 (dk_at dksX0_hand_0 11 rfl rfl)
theorem dX0_hand_12 : decode cX0_hand 12 = .ok (.goto 7, 3) := dk_167 0 7 (dk_at dksX0_hand_0 12 rfl rfl)
theorem dX0_hand_15 : decode cX0_hand 15 = .ok (.astore 5, 2) := dk_58 5 (dk_at dksX0_hand_0 15 rfl rfl)
theorem dX0_hand_17 : decode cX0_hand 17 = .ok (.iconst 1, 1) := dk_4 (dk_at dksX0_hand_0 17 rfl rfl)
theorem dX0_hand_18 : decode cX0_hand 18 = .ok (.ireturn, 1) := dk_172 (dk_at dksX0_hand_0 18 rfl rfl)
theorem dX0_hand_19 : decode cX0_hand 19 = .ok (.iconst 0, 1) := dk_3 (dk_at dksX0_hand_0 19 rfl rfl)
theorem dX0_hand_20 : decode cX0_hand 20 = .ok (.ireturn, 1) := dk_172 (dk_at dksX0_hand_0 20 rfl rfl)
abbrev cX0_count : ByteArray := method_10_code
def yX0_count : MethodName := ⟨RX0, "count", "(LWreckShares;II[J)I"⟩
def dkwX0_count_0 : List UInt8 := [45, 3, 42, 27, 28, 182, 0, 37, 133, 80, 167, 0, 7, 58, 4, 4, 172, 3, 172]
abbrev dktX0_count_0 : List UInt8 := dkwX0_count_0 ++ []
theorem dksX0_count_0 : cX0_count.data.toList.drop 0 = dktX0_count_0 := by decide +kernel
theorem dX0_count_0 : decode cX0_count 0 = .ok (.aload_n 3, 1) := dk_45 (dk_at dksX0_count_0 0 rfl rfl)
theorem dX0_count_1 : decode cX0_count 1 = .ok (.iconst 0, 1) := dk_3 (dk_at dksX0_count_0 1 rfl rfl)
theorem dX0_count_2 : decode cX0_count 2 = .ok (.aload_n 0, 1) := dk_42 (dk_at dksX0_count_0 2 rfl rfl)
theorem dX0_count_3 : decode cX0_count 3 = .ok (.iload_n 1, 1) := dk_27 (dk_at dksX0_count_0 3 rfl rfl)
theorem dX0_count_4 : decode cX0_count 4 = .ok (.iload_n 2, 1) := dk_28 (dk_at dksX0_count_0 4 rfl rfl)
theorem dX0_count_5 : decode cX0_count 5 = .ok (.invokevirtual 37, 3) := dk_182 0 37 (dk_at dksX0_count_0 5 rfl rfl)
theorem dX0_count_8 : decode cX0_count 8 = .ok (.i2l, 1) := dk_133 (dk_at dksX0_count_0 8 rfl rfl)
theorem dX0_count_9 : decode cX0_count 9 = .ok (.lastore, 1) := dk_80 (dk_at dksX0_count_0 9 rfl rfl)
theorem dX0_count_10 : decode cX0_count 10 = .ok (.goto 7, 3) := dk_167 0 7 (dk_at dksX0_count_0 10 rfl rfl)
theorem dX0_count_13 : decode cX0_count 13 = .ok (.astore 4, 2) := dk_58 4 (dk_at dksX0_count_0 13 rfl rfl)
theorem dX0_count_15 : decode cX0_count 15 = .ok (.iconst 1, 1) := dk_4 (dk_at dksX0_count_0 15 rfl rfl)
theorem dX0_count_16 : decode cX0_count 16 = .ok (.ireturn, 1) := dk_172 (dk_at dksX0_count_0 16 rfl rfl)
theorem dX0_count_17 : decode cX0_count 17 = .ok (.iconst 0, 1) := dk_3 (dk_at dksX0_count_0 17 rfl rfl)
theorem dX0_count_18 : decode cX0_count 18 = .ok (.ireturn, 1) := dk_172 (dk_at dksX0_count_0 18 rfl rfl)
abbrev cX0_marked : ByteArray := method_11_code
def yX0_marked : MethodName := ⟨RX0, "marked", "(LWreckShares;II[J)I"⟩
def dkwX0_marked_0 : List UInt8 := [45, 3, 42, 27, 28, 182, 0, 40, 133, 80, 167, 0, 7, 58, 4, 4, 172, 3, 172]
abbrev dktX0_marked_0 : List UInt8 := dkwX0_marked_0 ++ []
theorem dksX0_marked_0 : cX0_marked.data.toList.drop 0 = dktX0_marked_0 := by decide +kernel
theorem dX0_marked_0 : decode cX0_marked 0 = .ok (.aload_n 3, 1) := dk_45 (dk_at dksX0_marked_0 0 rfl rfl)
theorem dX0_marked_1 : decode cX0_marked 1 = .ok (.iconst 0, 1) := dk_3 (dk_at dksX0_marked_0 1 rfl rfl)
theorem dX0_marked_2 : decode cX0_marked 2 = .ok (.aload_n 0, 1) := dk_42 (dk_at dksX0_marked_0 2 rfl rfl)
theorem dX0_marked_3 : decode cX0_marked 3 = .ok (.iload_n 1, 1) := dk_27 (dk_at dksX0_marked_0 3 rfl rfl)
theorem dX0_marked_4 : decode cX0_marked 4 = .ok (.iload_n 2, 1) := dk_28 (dk_at dksX0_marked_0 4 rfl rfl)
theorem dX0_marked_5 : decode cX0_marked 5 = .ok (.invokevirtual 40, 3) := dk_182 0 40 (dk_at dksX0_marked_0 5 rfl rfl)
theorem dX0_marked_8 : decode cX0_marked 8 = .ok (.i2l, 1) := dk_133 (dk_at dksX0_marked_0 8 rfl rfl)
theorem dX0_marked_9 : decode cX0_marked 9 = .ok (.lastore, 1) := dk_80 (dk_at dksX0_marked_0 9 rfl rfl)
theorem dX0_marked_10 : decode cX0_marked 10 = .ok (.goto 7, 3) := dk_167 0 7 (dk_at dksX0_marked_0 10 rfl rfl)
theorem dX0_marked_13 : decode cX0_marked 13 = .ok (.astore 4, 2) := dk_58 4 (dk_at dksX0_marked_0 13 rfl rfl)
theorem dX0_marked_15 : decode cX0_marked 15 = .ok (.iconst 1, 1) := dk_4 (dk_at dksX0_marked_0 15 rfl rfl)
theorem dX0_marked_16 : decode cX0_marked 16 = .ok (.ireturn, 1) := dk_172 (dk_at dksX0_marked_0 16 rfl rfl)
theorem dX0_marked_17 : decode cX0_marked 17 = .ok (.iconst 0, 1) := dk_3 (dk_at dksX0_marked_0 17 rfl rfl)
theorem dX0_marked_18 : decode cX0_marked 18 = .ok (.ireturn, 1) := dk_172 (dk_at dksX0_marked_0 18 rfl rfl)
abbrev cX0_earned : ByteArray := method_12_code
def yX0_earned : MethodName := ⟨RX0, "earned", "(LWreckShares;I[J)I"⟩
def dkwX0_earned_0 : List UInt8 := [44, 3, 42, 27, 182, 0, 43, 133, 80, 167, 0, 6, 78, 4, 172, 3, 172]
abbrev dktX0_earned_0 : List UInt8 := dkwX0_earned_0 ++ []
theorem dksX0_earned_0 : cX0_earned.data.toList.drop 0 = dktX0_earned_0 := by decide +kernel
theorem dX0_earned_0 : decode cX0_earned 0 = .ok (.aload_n 2, 1) := dk_44 (dk_at dksX0_earned_0 0 rfl rfl)
theorem dX0_earned_1 : decode cX0_earned 1 = .ok (.iconst 0, 1) := dk_3 (dk_at dksX0_earned_0 1 rfl rfl)
theorem dX0_earned_2 : decode cX0_earned 2 = .ok (.aload_n 0, 1) := dk_42 (dk_at dksX0_earned_0 2 rfl rfl)
theorem dX0_earned_3 : decode cX0_earned 3 = .ok (.iload_n 1, 1) := dk_27 (dk_at dksX0_earned_0 3 rfl rfl)
theorem dX0_earned_4 : decode cX0_earned 4 = .ok (.invokevirtual 43, 3) := dk_182 0 43 (dk_at dksX0_earned_0 4 rfl rfl)
theorem dX0_earned_7 : decode cX0_earned 7 = .ok (.i2l, 1) := dk_133 (dk_at dksX0_earned_0 7 rfl rfl)
theorem dX0_earned_8 : decode cX0_earned 8 = .ok (.lastore, 1) := dk_80 (dk_at dksX0_earned_0 8 rfl rfl)
theorem dX0_earned_9 : decode cX0_earned 9 = .ok (.goto 6, 3) := dk_167 0 6 (dk_at dksX0_earned_0 9 rfl rfl)
theorem dX0_earned_12 : decode cX0_earned 12 = .ok (.astore_n 3, 1) := dk_78 (dk_at dksX0_earned_0 12 rfl rfl)
theorem dX0_earned_13 : decode cX0_earned 13 = .ok (.iconst 1, 1) := dk_4 (dk_at dksX0_earned_0 13 rfl rfl)
theorem dX0_earned_14 : decode cX0_earned 14 = .ok (.ireturn, 1) := dk_172 (dk_at dksX0_earned_0 14 rfl rfl)
theorem dX0_earned_15 : decode cX0_earned 15 = .ok (.iconst 0, 1) := dk_3 (dk_at dksX0_earned_0 15 rfl rfl)
theorem dX0_earned_16 : decode cX0_earned 16 = .ok (.ireturn, 1) := dk_172 (dk_at dksX0_earned_0 16 rfl rfl)
abbrev cX0_level : ByteArray := method_13_code
def yX0_level : MethodName := ⟨RX0, "level", "(LWreckShares;I[J)I"⟩
def dkwX0_level_0 : List UInt8 := [44, 3, 42, 27, 182, 0, 46, 133, 80, 167, 0, 6, 78, 4, 172, 3, 172]
abbrev dktX0_level_0 : List UInt8 := dkwX0_level_0 ++ []
theorem dksX0_level_0 : cX0_level.data.toList.drop 0 = dktX0_level_0 := by decide +kernel
theorem dX0_level_0 : decode cX0_level 0 = .ok (.aload_n 2, 1) := dk_44 (dk_at dksX0_level_0 0 rfl rfl)
theorem dX0_level_1 : decode cX0_level 1 = .ok (.iconst 0, 1) := dk_3 (dk_at dksX0_level_0 1 rfl rfl)
theorem dX0_level_2 : decode cX0_level 2 = .ok (.aload_n 0, 1) := dk_42 (dk_at dksX0_level_0 2 rfl rfl)
theorem dX0_level_3 : decode cX0_level 3 = .ok (.iload_n 1, 1) := dk_27 (dk_at dksX0_level_0 3 rfl rfl)
theorem dX0_level_4 : decode cX0_level 4 = .ok (.invokevirtual 46, 3) := dk_182 0 46 (dk_at dksX0_level_0 4 rfl rfl)
theorem dX0_level_7 : decode cX0_level 7 = .ok (.i2l, 1) := dk_133 (dk_at dksX0_level_0 7 rfl rfl)
theorem dX0_level_8 : decode cX0_level 8 = .ok (.lastore, 1) := dk_80 (dk_at dksX0_level_0 8 rfl rfl)
theorem dX0_level_9 : decode cX0_level 9 = .ok (.goto 6, 3) := dk_167 0 6 (dk_at dksX0_level_0 9 rfl rfl)
theorem dX0_level_12 : decode cX0_level 12 = .ok (.astore_n 3, 1) := dk_78 (dk_at dksX0_level_0 12 rfl rfl)
theorem dX0_level_13 : decode cX0_level 13 = .ok (.iconst 1, 1) := dk_4 (dk_at dksX0_level_0 13 rfl rfl)
theorem dX0_level_14 : decode cX0_level 14 = .ok (.ireturn, 1) := dk_172 (dk_at dksX0_level_0 14 rfl rfl)
theorem dX0_level_15 : decode cX0_level 15 = .ok (.iconst 0, 1) := dk_3 (dk_at dksX0_level_0 15 rfl rfl)
theorem dX0_level_16 : decode cX0_level 16 = .ok (.ireturn, 1) := dk_172 (dk_at dksX0_level_0 16 rfl rfl)
abbrev cX0_dryIn : ByteArray := method_14_code
def yX0_dryIn : MethodName := ⟨RX0, "dryIn", "(LWreckShares;I[J)I"⟩
def dkwX0_dryIn_0 : List UInt8 := [44, 3, 42, 27, 182, 0, 49, 133, 80, 167, 0, 6, 78, 4, 172, 3, 172]
abbrev dktX0_dryIn_0 : List UInt8 := dkwX0_dryIn_0 ++ []
theorem dksX0_dryIn_0 : cX0_dryIn.data.toList.drop 0 = dktX0_dryIn_0 := by decide +kernel
theorem dX0_dryIn_0 : decode cX0_dryIn 0 = .ok (.aload_n 2, 1) := dk_44 (dk_at dksX0_dryIn_0 0 rfl rfl)
theorem dX0_dryIn_1 : decode cX0_dryIn 1 = .ok (.iconst 0, 1) := dk_3 (dk_at dksX0_dryIn_0 1 rfl rfl)
theorem dX0_dryIn_2 : decode cX0_dryIn 2 = .ok (.aload_n 0, 1) := dk_42 (dk_at dksX0_dryIn_0 2 rfl rfl)
theorem dX0_dryIn_3 : decode cX0_dryIn 3 = .ok (.iload_n 1, 1) := dk_27 (dk_at dksX0_dryIn_0 3 rfl rfl)
theorem dX0_dryIn_4 : decode cX0_dryIn 4 = .ok (.invokevirtual 49, 3) := dk_182 0 49 (dk_at dksX0_dryIn_0 4 rfl rfl)
theorem dX0_dryIn_7 : decode cX0_dryIn 7 = .ok (.i2l, 1) := dk_133 (dk_at dksX0_dryIn_0 7 rfl rfl)
theorem dX0_dryIn_8 : decode cX0_dryIn 8 = .ok (.lastore, 1) := dk_80 (dk_at dksX0_dryIn_0 8 rfl rfl)
theorem dX0_dryIn_9 : decode cX0_dryIn 9 = .ok (.goto 6, 3) := dk_167 0 6 (dk_at dksX0_dryIn_0 9 rfl rfl)
theorem dX0_dryIn_12 : decode cX0_dryIn 12 = .ok (.astore_n 3, 1) := dk_78 (dk_at dksX0_dryIn_0 12 rfl rfl)
theorem dX0_dryIn_13 : decode cX0_dryIn 13 = .ok (.iconst 1, 1) := dk_4 (dk_at dksX0_dryIn_0 13 rfl rfl)
theorem dX0_dryIn_14 : decode cX0_dryIn 14 = .ok (.ireturn, 1) := dk_172 (dk_at dksX0_dryIn_0 14 rfl rfl)
theorem dX0_dryIn_15 : decode cX0_dryIn 15 = .ok (.iconst 0, 1) := dk_3 (dk_at dksX0_dryIn_0 15 rfl rfl)
theorem dX0_dryIn_16 : decode cX0_dryIn 16 = .ok (.ireturn, 1) := dk_172 (dk_at dksX0_dryIn_0 16 rfl rfl)
abbrev cX0_dryTicks : ByteArray := method_15_code
def yX0_dryTicks : MethodName := ⟨RX0, "dryTicks", "(LWreckShares;I[J)I"⟩
def dkwX0_dryTicks_0 : List UInt8 := [44, 3, 42, 27, 182, 0, 52, 133, 80, 167, 0, 6, 78, 4, 172, 3, 172]
abbrev dktX0_dryTicks_0 : List UInt8 := dkwX0_dryTicks_0 ++ []
theorem dksX0_dryTicks_0 : cX0_dryTicks.data.toList.drop 0 = dktX0_dryTicks_0 := by decide +kernel
theorem dX0_dryTicks_0 : decode cX0_dryTicks 0 = .ok (.aload_n 2, 1) := dk_44 (dk_at dksX0_dryTicks_0 0 rfl rfl)
theorem dX0_dryTicks_1 : decode cX0_dryTicks 1 = .ok (.iconst 0, 1) := dk_3 (dk_at dksX0_dryTicks_0 1 rfl rfl)
theorem dX0_dryTicks_2 : decode cX0_dryTicks 2 = .ok (.aload_n 0, 1) := dk_42 (dk_at dksX0_dryTicks_0 2 rfl rfl)
theorem dX0_dryTicks_3 : decode cX0_dryTicks 3 = .ok (.iload_n 1, 1) := dk_27 (dk_at dksX0_dryTicks_0 3 rfl rfl)
theorem dX0_dryTicks_4 : decode cX0_dryTicks 4 = .ok (.invokevirtual 52, 3) := dk_182 0 52 (dk_at dksX0_dryTicks_0 4 rfl rfl)
theorem dX0_dryTicks_7 : decode cX0_dryTicks 7 = .ok (.i2l, 1) := dk_133 (dk_at dksX0_dryTicks_0 7 rfl rfl)
theorem dX0_dryTicks_8 : decode cX0_dryTicks 8 = .ok (.lastore, 1) := dk_80 (dk_at dksX0_dryTicks_0 8 rfl rfl)
theorem dX0_dryTicks_9 : decode cX0_dryTicks 9 = .ok (.goto 6, 3) := dk_167 0 6 (dk_at dksX0_dryTicks_0 9 rfl rfl)
theorem dX0_dryTicks_12 : decode cX0_dryTicks 12 = .ok (.astore_n 3, 1) := dk_78 (dk_at dksX0_dryTicks_0 12 rfl rfl)
theorem dX0_dryTicks_13 : decode cX0_dryTicks 13 = .ok (.iconst 1, 1) := dk_4 (dk_at dksX0_dryTicks_0 13 rfl rfl)
theorem dX0_dryTicks_14 : decode cX0_dryTicks 14 = .ok (.ireturn, 1) := dk_172 (dk_at dksX0_dryTicks_0 14 rfl rfl)
theorem dX0_dryTicks_15 : decode cX0_dryTicks 15 = .ok (.iconst 0, 1) := dk_3 (dk_at dksX0_dryTicks_0 15 rfl rfl)
theorem dX0_dryTicks_16 : decode cX0_dryTicks 16 = .ok (.ireturn, 1) := dk_172 (dk_at dksX0_dryTicks_0 16 rfl rfl)
abbrev cX0_lostIn : ByteArray := method_16_code
def yX0_lostIn : MethodName := ⟨RX0, "lostIn", "(LWreckShares;I[J)I"⟩
def dkwX0_lostIn_0 : List UInt8 := [44, 3, 42, 27, 182, 0, 55, 133, 80, 167, 0, 6, 78, 4, 172, 3, 172]
abbrev dktX0_lostIn_0 : List UInt8 := dkwX0_lostIn_0 ++ []
theorem dksX0_lostIn_0 : cX0_lostIn.data.toList.drop 0 = dktX0_lostIn_0 := by decide +kernel
theorem dX0_lostIn_0 : decode cX0_lostIn 0 = .ok (.aload_n 2, 1) := dk_44 (dk_at dksX0_lostIn_0 0 rfl rfl)
theorem dX0_lostIn_1 : decode cX0_lostIn 1 = .ok (.iconst 0, 1) := dk_3 (dk_at dksX0_lostIn_0 1 rfl rfl)
theorem dX0_lostIn_2 : decode cX0_lostIn 2 = .ok (.aload_n 0, 1) := dk_42 (dk_at dksX0_lostIn_0 2 rfl rfl)
theorem dX0_lostIn_3 : decode cX0_lostIn 3 = .ok (.iload_n 1, 1) := dk_27 (dk_at dksX0_lostIn_0 3 rfl rfl)
theorem dX0_lostIn_4 : decode cX0_lostIn 4 = .ok (.invokevirtual 55, 3) := dk_182 0 55 (dk_at dksX0_lostIn_0 4 rfl rfl)
theorem dX0_lostIn_7 : decode cX0_lostIn 7 = .ok (.i2l, 1) := dk_133 (dk_at dksX0_lostIn_0 7 rfl rfl)
theorem dX0_lostIn_8 : decode cX0_lostIn 8 = .ok (.lastore, 1) := dk_80 (dk_at dksX0_lostIn_0 8 rfl rfl)
theorem dX0_lostIn_9 : decode cX0_lostIn 9 = .ok (.goto 6, 3) := dk_167 0 6 (dk_at dksX0_lostIn_0 9 rfl rfl)
theorem dX0_lostIn_12 : decode cX0_lostIn 12 = .ok (.astore_n 3, 1) := dk_78 (dk_at dksX0_lostIn_0 12 rfl rfl)
theorem dX0_lostIn_13 : decode cX0_lostIn 13 = .ok (.iconst 1, 1) := dk_4 (dk_at dksX0_lostIn_0 13 rfl rfl)
theorem dX0_lostIn_14 : decode cX0_lostIn 14 = .ok (.ireturn, 1) := dk_172 (dk_at dksX0_lostIn_0 14 rfl rfl)
theorem dX0_lostIn_15 : decode cX0_lostIn 15 = .ok (.iconst 0, 1) := dk_3 (dk_at dksX0_lostIn_0 15 rfl rfl)
theorem dX0_lostIn_16 : decode cX0_lostIn 16 = .ok (.ireturn, 1) := dk_172 (dk_at dksX0_lostIn_0 16 rfl rfl)
abbrev cX0_lossIn : ByteArray := method_17_code
def yX0_lossIn : MethodName := ⟨RX0, "lossIn", "(LWreckShares;I[J)I"⟩
def dkwX0_lossIn_0 : List UInt8 := [44, 3, 42, 27, 182, 0, 58, 133, 80, 167, 0, 6, 78, 4, 172, 3, 172]
abbrev dktX0_lossIn_0 : List UInt8 := dkwX0_lossIn_0 ++ []
theorem dksX0_lossIn_0 : cX0_lossIn.data.toList.drop 0 = dktX0_lossIn_0 := by decide +kernel
theorem dX0_lossIn_0 : decode cX0_lossIn 0 = .ok (.aload_n 2, 1) := dk_44 (dk_at dksX0_lossIn_0 0 rfl rfl)
theorem dX0_lossIn_1 : decode cX0_lossIn 1 = .ok (.iconst 0, 1) := dk_3 (dk_at dksX0_lossIn_0 1 rfl rfl)
theorem dX0_lossIn_2 : decode cX0_lossIn 2 = .ok (.aload_n 0, 1) := dk_42 (dk_at dksX0_lossIn_0 2 rfl rfl)
theorem dX0_lossIn_3 : decode cX0_lossIn 3 = .ok (.iload_n 1, 1) := dk_27 (dk_at dksX0_lossIn_0 3 rfl rfl)
theorem dX0_lossIn_4 : decode cX0_lossIn 4 = .ok (.invokevirtual 58, 3) := dk_182 0 58 (dk_at dksX0_lossIn_0 4 rfl rfl)
theorem dX0_lossIn_7 : decode cX0_lossIn 7 = .ok (.i2l, 1) := dk_133 (dk_at dksX0_lossIn_0 7 rfl rfl)
theorem dX0_lossIn_8 : decode cX0_lossIn 8 = .ok (.lastore, 1) := dk_80 (dk_at dksX0_lossIn_0 8 rfl rfl)
theorem dX0_lossIn_9 : decode cX0_lossIn 9 = .ok (.goto 6, 3) := dk_167 0 6 (dk_at dksX0_lossIn_0 9 rfl rfl)
theorem dX0_lossIn_12 : decode cX0_lossIn 12 = .ok (.astore_n 3, 1) := dk_78 (dk_at dksX0_lossIn_0 12 rfl rfl)
theorem dX0_lossIn_13 : decode cX0_lossIn 13 = .ok (.iconst 1, 1) := dk_4 (dk_at dksX0_lossIn_0 13 rfl rfl)
theorem dX0_lossIn_14 : decode cX0_lossIn 14 = .ok (.ireturn, 1) := dk_172 (dk_at dksX0_lossIn_0 14 rfl rfl)
theorem dX0_lossIn_15 : decode cX0_lossIn 15 = .ok (.iconst 0, 1) := dk_3 (dk_at dksX0_lossIn_0 15 rfl rfl)
theorem dX0_lossIn_16 : decode cX0_lossIn 16 = .ok (.ireturn, 1) := dk_172 (dk_at dksX0_lossIn_0 16 rfl rfl)
abbrev cX0_share : ByteArray := method_18_code
def yX0_share : MethodName := ⟨RX0, "share", "(LWreckShares;II[J)I"⟩
def dkwX0_share_0 : List UInt8 := [45, 3, 42, 27, 28, 182, 0, 61, 133, 80, 167, 0, 7, 58, 4, 4, 172, 3, 172]
abbrev dktX0_share_0 : List UInt8 := dkwX0_share_0 ++ []
theorem dksX0_share_0 : cX0_share.data.toList.drop 0 = dktX0_share_0 := by decide +kernel
theorem dX0_share_0 : decode cX0_share 0 = .ok (.aload_n 3, 1) := dk_45 (dk_at dksX0_share_0 0 rfl rfl)
theorem dX0_share_1 : decode cX0_share 1 = .ok (.iconst 0, 1) := dk_3 (dk_at dksX0_share_0 1 rfl rfl)
theorem dX0_share_2 : decode cX0_share 2 = .ok (.aload_n 0, 1) := dk_42 (dk_at dksX0_share_0 2 rfl rfl)
theorem dX0_share_3 : decode cX0_share 3 = .ok (.iload_n 1, 1) := dk_27 (dk_at dksX0_share_0 3 rfl rfl)
theorem dX0_share_4 : decode cX0_share 4 = .ok (.iload_n 2, 1) := dk_28 (dk_at dksX0_share_0 4 rfl rfl)
theorem dX0_share_5 : decode cX0_share 5 = .ok (.invokevirtual 61, 3) := dk_182 0 61 (dk_at dksX0_share_0 5 rfl rfl)
theorem dX0_share_8 : decode cX0_share 8 = .ok (.i2l, 1) := dk_133 (dk_at dksX0_share_0 8 rfl rfl)
theorem dX0_share_9 : decode cX0_share 9 = .ok (.lastore, 1) := dk_80 (dk_at dksX0_share_0 9 rfl rfl)
theorem dX0_share_10 : decode cX0_share 10 = .ok (.goto 7, 3) := dk_167 0 7 (dk_at dksX0_share_0 10 rfl rfl)
theorem dX0_share_13 : decode cX0_share 13 = .ok (.astore 4, 2) := dk_58 4 (dk_at dksX0_share_0 13 rfl rfl)
theorem dX0_share_15 : decode cX0_share 15 = .ok (.iconst 1, 1) := dk_4 (dk_at dksX0_share_0 15 rfl rfl)
theorem dX0_share_16 : decode cX0_share 16 = .ok (.ireturn, 1) := dk_172 (dk_at dksX0_share_0 16 rfl rfl)
theorem dX0_share_17 : decode cX0_share 17 = .ok (.iconst 0, 1) := dk_3 (dk_at dksX0_share_0 17 rfl rfl)
theorem dX0_share_18 : decode cX0_share 18 = .ok (.ireturn, 1) := dk_172 (dk_at dksX0_share_0 18 rfl rfl)
abbrev cX0_crownShare : ByteArray := method_19_code
def yX0_crownShare : MethodName := ⟨RX0, "crownShare", "(LWreckShares;I[J)I"⟩
def dkwX0_crownShare_0 : List UInt8 := [44, 3, 42, 27, 182, 0, 64, 133, 80, 167, 0, 6, 78, 4, 172, 3, 172]
abbrev dktX0_crownShare_0 : List UInt8 := dkwX0_crownShare_0 ++ []
theorem dksX0_crownShare_0 : cX0_crownShare.data.toList.drop 0 = dktX0_crownShare_0 := by decide +kernel
theorem dX0_crownShare_0 : decode cX0_crownShare 0 = .ok (.aload_n 2, 1) := dk_44 (dk_at dksX0_crownShare_0 0 rfl rfl)
theorem dX0_crownShare_1 : decode cX0_crownShare 1 = .ok (.iconst 0, 1) := dk_3 (dk_at dksX0_crownShare_0 1 rfl rfl)
theorem dX0_crownShare_2 : decode cX0_crownShare 2 = .ok (.aload_n 0, 1) := dk_42 (dk_at dksX0_crownShare_0 2 rfl rfl)
theorem dX0_crownShare_3 : decode cX0_crownShare 3 = .ok (.iload_n 1, 1) := dk_27 (dk_at dksX0_crownShare_0 3 rfl rfl)
theorem dX0_crownShare_4 : decode cX0_crownShare 4 = .ok (.invokevirtual 64, 3) := dk_182 0 64 (dk_at dksX0_crownShare_0 4 rfl rfl)
theorem dX0_crownShare_7 : decode cX0_crownShare 7 = .ok (.i2l, 1) := dk_133 (dk_at dksX0_crownShare_0 7 rfl rfl)
theorem dX0_crownShare_8 : decode cX0_crownShare 8 = .ok (.lastore, 1) := dk_80 (dk_at dksX0_crownShare_0 8 rfl rfl)
theorem dX0_crownShare_9 : decode cX0_crownShare 9 = .ok (.goto 6, 3) := dk_167 0 6 (dk_at dksX0_crownShare_0 9 rfl rfl)
theorem dX0_crownShare_12 : decode cX0_crownShare 12 = .ok (.astore_n 3, 1) := dk_78 (dk_at dksX0_crownShare_0 12 rfl rfl)
theorem dX0_crownShare_13 : decode cX0_crownShare 13 = .ok (.iconst 1, 1) := dk_4 (dk_at dksX0_crownShare_0 13 rfl rfl)
theorem dX0_crownShare_14 : decode cX0_crownShare 14 = .ok (.ireturn, 1) := dk_172 (dk_at dksX0_crownShare_0 14 rfl rfl)
theorem dX0_crownShare_15 : decode cX0_crownShare 15 = .ok (.iconst 0, 1) := dk_3 (dk_at dksX0_crownShare_0 15 rfl rfl)
theorem dX0_crownShare_16 : decode cX0_crownShare 16 = .ok (.ireturn, 1) := dk_172 (dk_at dksX0_crownShare_0 16 rfl rfl)
abbrev cX0_ownerShare : ByteArray := method_20_code
def yX0_ownerShare : MethodName := ⟨RX0, "ownerShare", "(LWreckShares;I[J)I"⟩
def dkwX0_ownerShare_0 : List UInt8 := [44, 3, 42, 27, 182, 0, 67, 133, 80, 167, 0, 6, 78, 4, 172, 3, 172]
abbrev dktX0_ownerShare_0 : List UInt8 := dkwX0_ownerShare_0 ++ []
theorem dksX0_ownerShare_0 : cX0_ownerShare.data.toList.drop 0 = dktX0_ownerShare_0 := by decide +kernel
theorem dX0_ownerShare_0 : decode cX0_ownerShare 0 = .ok (.aload_n 2, 1) := dk_44 (dk_at dksX0_ownerShare_0 0 rfl rfl)
theorem dX0_ownerShare_1 : decode cX0_ownerShare 1 = .ok (.iconst 0, 1) := dk_3 (dk_at dksX0_ownerShare_0 1 rfl rfl)
theorem dX0_ownerShare_2 : decode cX0_ownerShare 2 = .ok (.aload_n 0, 1) := dk_42 (dk_at dksX0_ownerShare_0 2 rfl rfl)
theorem dX0_ownerShare_3 : decode cX0_ownerShare 3 = .ok (.iload_n 1, 1) := dk_27 (dk_at dksX0_ownerShare_0 3 rfl rfl)
theorem dX0_ownerShare_4 : decode cX0_ownerShare 4 = .ok (.invokevirtual 67, 3) := dk_182 0 67 (dk_at dksX0_ownerShare_0 4 rfl rfl)
theorem dX0_ownerShare_7 : decode cX0_ownerShare 7 = .ok (.i2l, 1) := dk_133 (dk_at dksX0_ownerShare_0 7 rfl rfl)
theorem dX0_ownerShare_8 : decode cX0_ownerShare 8 = .ok (.lastore, 1) := dk_80 (dk_at dksX0_ownerShare_0 8 rfl rfl)
theorem dX0_ownerShare_9 : decode cX0_ownerShare 9 = .ok (.goto 6, 3) := dk_167 0 6 (dk_at dksX0_ownerShare_0 9 rfl rfl)
theorem dX0_ownerShare_12 : decode cX0_ownerShare 12 = .ok (.astore_n 3, 1) := dk_78 (dk_at dksX0_ownerShare_0 12 rfl rfl)
theorem dX0_ownerShare_13 : decode cX0_ownerShare 13 = .ok (.iconst 1, 1) := dk_4 (dk_at dksX0_ownerShare_0 13 rfl rfl)
theorem dX0_ownerShare_14 : decode cX0_ownerShare 14 = .ok (.ireturn, 1) := dk_172 (dk_at dksX0_ownerShare_0 14 rfl rfl)
theorem dX0_ownerShare_15 : decode cX0_ownerShare 15 = .ok (.iconst 0, 1) := dk_3 (dk_at dksX0_ownerShare_0 15 rfl rfl)
theorem dX0_ownerShare_16 : decode cX0_ownerShare 16 = .ok (.ireturn, 1) := dk_172 (dk_at dksX0_ownerShare_0 16 rfl rfl)
abbrev cX0_unequal : ByteArray := method_21_code
def yX0_unequal : MethodName := ⟨RX0, "unequal", "(LWreckShares;I[J)I"⟩
def dkwX0_unequal_0 : List UInt8 := [44, 3, 42, 27, 182, 0, 70, 133, 80, 167, 0, 6, 78, 4, 172, 3, 172]
abbrev dktX0_unequal_0 : List UInt8 := dkwX0_unequal_0 ++ []
theorem dksX0_unequal_0 : cX0_unequal.data.toList.drop 0 = dktX0_unequal_0 := by decide +kernel
theorem dX0_unequal_0 : decode cX0_unequal 0 = .ok (.aload_n 2, 1) := dk_44 (dk_at dksX0_unequal_0 0 rfl rfl)
theorem dX0_unequal_1 : decode cX0_unequal 1 = .ok (.iconst 0, 1) := dk_3 (dk_at dksX0_unequal_0 1 rfl rfl)
theorem dX0_unequal_2 : decode cX0_unequal 2 = .ok (.aload_n 0, 1) := dk_42 (dk_at dksX0_unequal_0 2 rfl rfl)
theorem dX0_unequal_3 : decode cX0_unequal 3 = .ok (.iload_n 1, 1) := dk_27 (dk_at dksX0_unequal_0 3 rfl rfl)
theorem dX0_unequal_4 : decode cX0_unequal 4 = .ok (.invokevirtual 70, 3) := dk_182 0 70 (dk_at dksX0_unequal_0 4 rfl rfl)
theorem dX0_unequal_7 : decode cX0_unequal 7 = .ok (.i2l, 1) := dk_133 (dk_at dksX0_unequal_0 7 rfl rfl)
theorem dX0_unequal_8 : decode cX0_unequal 8 = .ok (.lastore, 1) := dk_80 (dk_at dksX0_unequal_0 8 rfl rfl)
theorem dX0_unequal_9 : decode cX0_unequal 9 = .ok (.goto 6, 3) := dk_167 0 6 (dk_at dksX0_unequal_0 9 rfl rfl)
theorem dX0_unequal_12 : decode cX0_unequal 12 = .ok (.astore_n 3, 1) := dk_78 (dk_at dksX0_unequal_0 12 rfl rfl)
theorem dX0_unequal_13 : decode cX0_unequal 13 = .ok (.iconst 1, 1) := dk_4 (dk_at dksX0_unequal_0 13 rfl rfl)
theorem dX0_unequal_14 : decode cX0_unequal 14 = .ok (.ireturn, 1) := dk_172 (dk_at dksX0_unequal_0 14 rfl rfl)
theorem dX0_unequal_15 : decode cX0_unequal 15 = .ok (.iconst 0, 1) := dk_3 (dk_at dksX0_unequal_0 15 rfl rfl)
theorem dX0_unequal_16 : decode cX0_unequal 16 = .ok (.ireturn, 1) := dk_172 (dk_at dksX0_unequal_0 16 rfl rfl)
abbrev cX0_claimTime : ByteArray := method_22_code
def yX0_claimTime : MethodName := ⟨RX0, "claimTime", "(LWreckShares;I[J)I"⟩
def dkwX0_claimTime_0 : List UInt8 := [44, 3, 42, 27, 182, 0, 73, 133, 80, 167, 0, 6, 78, 4, 172, 3, 172]
abbrev dktX0_claimTime_0 : List UInt8 := dkwX0_claimTime_0 ++ []
theorem dksX0_claimTime_0 : cX0_claimTime.data.toList.drop 0 = dktX0_claimTime_0 := by decide +kernel
theorem dX0_claimTime_0 : decode cX0_claimTime 0 = .ok (.aload_n 2, 1) := dk_44 (dk_at dksX0_claimTime_0 0 rfl rfl)
theorem dX0_claimTime_1 : decode cX0_claimTime 1 = .ok (.iconst 0, 1) := dk_3 (dk_at dksX0_claimTime_0 1 rfl rfl)
theorem dX0_claimTime_2 : decode cX0_claimTime 2 = .ok (.aload_n 0, 1) := dk_42 (dk_at dksX0_claimTime_0 2 rfl rfl)
theorem dX0_claimTime_3 : decode cX0_claimTime 3 = .ok (.iload_n 1, 1) := dk_27 (dk_at dksX0_claimTime_0 3 rfl rfl)
theorem dX0_claimTime_4 : decode cX0_claimTime 4 = .ok (.invokevirtual 73, 3) := dk_182 0 73 (dk_at dksX0_claimTime_0 4 rfl rfl)
theorem dX0_claimTime_7 : decode cX0_claimTime 7 = .ok (.i2l, 1) := dk_133 (dk_at dksX0_claimTime_0 7 rfl rfl)
theorem dX0_claimTime_8 : decode cX0_claimTime 8 = .ok (.lastore, 1) := dk_80 (dk_at dksX0_claimTime_0 8 rfl rfl)
theorem dX0_claimTime_9 : decode cX0_claimTime 9 = .ok (.goto 6, 3) := dk_167 0 6 (dk_at dksX0_claimTime_0 9 rfl rfl)
theorem dX0_claimTime_12 : decode cX0_claimTime 12 = .ok (.astore_n 3, 1) := dk_78 (dk_at dksX0_claimTime_0 12 rfl rfl)
theorem dX0_claimTime_13 : decode cX0_claimTime 13 = .ok (.iconst 1, 1) := dk_4 (dk_at dksX0_claimTime_0 13 rfl rfl)
theorem dX0_claimTime_14 : decode cX0_claimTime 14 = .ok (.ireturn, 1) := dk_172 (dk_at dksX0_claimTime_0 14 rfl rfl)
theorem dX0_claimTime_15 : decode cX0_claimTime 15 = .ok (.iconst 0, 1) := dk_3 (dk_at dksX0_claimTime_0 15 rfl rfl)
theorem dX0_claimTime_16 : decode cX0_claimTime 16 = .ok (.ireturn, 1) := dk_172 (dk_at dksX0_claimTime_0 16 rfl rfl)
abbrev cX0_claimCosts : ByteArray := method_23_code
def yX0_claimCosts : MethodName := ⟨RX0, "claimCosts", "(LWreckShares;I[J)I"⟩
def dkwX0_claimCosts_0 : List UInt8 := [44, 3, 42, 27, 182, 0, 76, 133, 80, 167, 0, 6, 78, 4, 172, 3, 172]
abbrev dktX0_claimCosts_0 : List UInt8 := dkwX0_claimCosts_0 ++ []
theorem dksX0_claimCosts_0 : cX0_claimCosts.data.toList.drop 0 = dktX0_claimCosts_0 := by decide +kernel
theorem dX0_claimCosts_0 : decode cX0_claimCosts 0 = .ok (.aload_n 2, 1) := dk_44 (dk_at dksX0_claimCosts_0 0 rfl rfl)
theorem dX0_claimCosts_1 : decode cX0_claimCosts 1 = .ok (.iconst 0, 1) := dk_3 (dk_at dksX0_claimCosts_0 1 rfl rfl)
theorem dX0_claimCosts_2 : decode cX0_claimCosts 2 = .ok (.aload_n 0, 1) := dk_42 (dk_at dksX0_claimCosts_0 2 rfl rfl)
theorem dX0_claimCosts_3 : decode cX0_claimCosts 3 = .ok (.iload_n 1, 1) := dk_27 (dk_at dksX0_claimCosts_0 3 rfl rfl)
theorem dX0_claimCosts_4 : decode cX0_claimCosts 4 = .ok (.invokevirtual 76, 3) := dk_182 0 76 (dk_at dksX0_claimCosts_0 4 rfl rfl)
theorem dX0_claimCosts_7 : decode cX0_claimCosts 7 = .ok (.i2l, 1) := dk_133 (dk_at dksX0_claimCosts_0 7 rfl rfl)
theorem dX0_claimCosts_8 : decode cX0_claimCosts 8 = .ok (.lastore, 1) := dk_80 (dk_at dksX0_claimCosts_0 8 rfl rfl)
theorem dX0_claimCosts_9 : decode cX0_claimCosts 9 = .ok (.goto 6, 3) := dk_167 0 6 (dk_at dksX0_claimCosts_0 9 rfl rfl)
theorem dX0_claimCosts_12 : decode cX0_claimCosts 12 = .ok (.astore_n 3, 1) := dk_78 (dk_at dksX0_claimCosts_0 12 rfl rfl)
theorem dX0_claimCosts_13 : decode cX0_claimCosts 13 = .ok (.iconst 1, 1) := dk_4 (dk_at dksX0_claimCosts_0 13 rfl rfl)
theorem dX0_claimCosts_14 : decode cX0_claimCosts 14 = .ok (.ireturn, 1) := dk_172 (dk_at dksX0_claimCosts_0 14 rfl rfl)
theorem dX0_claimCosts_15 : decode cX0_claimCosts 15 = .ok (.iconst 0, 1) := dk_3 (dk_at dksX0_claimCosts_0 15 rfl rfl)
theorem dX0_claimCosts_16 : decode cX0_claimCosts 16 = .ok (.ireturn, 1) := dk_172 (dk_at dksX0_claimCosts_0 16 rfl rfl)
abbrev cX0_purseIf : ByteArray := method_24_code
def yX0_purseIf : MethodName := ⟨RX0, "purseIf", "(LWreckShares;I[J)I"⟩
def dkwX0_purseIf_0 : List UInt8 := [44, 3, 42, 27, 182, 0, 79, 133, 80, 167, 0, 6, 78, 4, 172, 3, 172]
abbrev dktX0_purseIf_0 : List UInt8 := dkwX0_purseIf_0 ++ []
theorem dksX0_purseIf_0 : cX0_purseIf.data.toList.drop 0 = dktX0_purseIf_0 := by decide +kernel
theorem dX0_purseIf_0 : decode cX0_purseIf 0 = .ok (.aload_n 2, 1) := dk_44 (dk_at dksX0_purseIf_0 0 rfl rfl)
theorem dX0_purseIf_1 : decode cX0_purseIf 1 = .ok (.iconst 0, 1) := dk_3 (dk_at dksX0_purseIf_0 1 rfl rfl)
theorem dX0_purseIf_2 : decode cX0_purseIf 2 = .ok (.aload_n 0, 1) := dk_42 (dk_at dksX0_purseIf_0 2 rfl rfl)
theorem dX0_purseIf_3 : decode cX0_purseIf 3 = .ok (.iload_n 1, 1) := dk_27 (dk_at dksX0_purseIf_0 3 rfl rfl)
theorem dX0_purseIf_4 : decode cX0_purseIf 4 = .ok (.invokevirtual 79, 3) := dk_182 0 79 (dk_at dksX0_purseIf_0 4 rfl rfl)
theorem dX0_purseIf_7 : decode cX0_purseIf 7 = .ok (.i2l, 1) := dk_133 (dk_at dksX0_purseIf_0 7 rfl rfl)
theorem dX0_purseIf_8 : decode cX0_purseIf 8 = .ok (.lastore, 1) := dk_80 (dk_at dksX0_purseIf_0 8 rfl rfl)
theorem dX0_purseIf_9 : decode cX0_purseIf 9 = .ok (.goto 6, 3) := dk_167 0 6 (dk_at dksX0_purseIf_0 9 rfl rfl)
theorem dX0_purseIf_12 : decode cX0_purseIf 12 = .ok (.astore_n 3, 1) := dk_78 (dk_at dksX0_purseIf_0 12 rfl rfl)
theorem dX0_purseIf_13 : decode cX0_purseIf 13 = .ok (.iconst 1, 1) := dk_4 (dk_at dksX0_purseIf_0 13 rfl rfl)
theorem dX0_purseIf_14 : decode cX0_purseIf 14 = .ok (.ireturn, 1) := dk_172 (dk_at dksX0_purseIf_0 14 rfl rfl)
theorem dX0_purseIf_15 : decode cX0_purseIf 15 = .ok (.iconst 0, 1) := dk_3 (dk_at dksX0_purseIf_0 15 rfl rfl)
theorem dX0_purseIf_16 : decode cX0_purseIf 16 = .ok (.ireturn, 1) := dk_172 (dk_at dksX0_purseIf_0 16 rfl rfl)
abbrev cX0_why : ByteArray := method_25_code
def yX0_why : MethodName := ⟨RX0, "why", "(LWreckShares;I[J)I"⟩
def dkwX0_why_0 : List UInt8 := [44, 3, 42, 27, 182, 0, 82, 133, 80, 167, 0, 6, 78, 4, 172, 3, 172]
abbrev dktX0_why_0 : List UInt8 := dkwX0_why_0 ++ []
theorem dksX0_why_0 : cX0_why.data.toList.drop 0 = dktX0_why_0 := by decide +kernel
theorem dX0_why_0 : decode cX0_why 0 = .ok (.aload_n 2, 1) := dk_44 (dk_at dksX0_why_0 0 rfl rfl)
theorem dX0_why_1 : decode cX0_why 1 = .ok (.iconst 0, 1) := dk_3 (dk_at dksX0_why_0 1 rfl rfl)
theorem dX0_why_2 : decode cX0_why 2 = .ok (.aload_n 0, 1) := dk_42 (dk_at dksX0_why_0 2 rfl rfl)
theorem dX0_why_3 : decode cX0_why 3 = .ok (.iload_n 1, 1) := dk_27 (dk_at dksX0_why_0 3 rfl rfl)
theorem dX0_why_4 : decode cX0_why 4 = .ok (.invokevirtual 82, 3) := dk_182 0 82 (dk_at dksX0_why_0 4 rfl rfl)
theorem dX0_why_7 : decode cX0_why 7 = .ok (.i2l, 1) := dk_133 (dk_at dksX0_why_0 7 rfl rfl)
theorem dX0_why_8 : decode cX0_why 8 = .ok (.lastore, 1) := dk_80 (dk_at dksX0_why_0 8 rfl rfl)
theorem dX0_why_9 : decode cX0_why 9 = .ok (.goto 6, 3) := dk_167 0 6 (dk_at dksX0_why_0 9 rfl rfl)
theorem dX0_why_12 : decode cX0_why 12 = .ok (.astore_n 3, 1) := dk_78 (dk_at dksX0_why_0 12 rfl rfl)
theorem dX0_why_13 : decode cX0_why 13 = .ok (.iconst 1, 1) := dk_4 (dk_at dksX0_why_0 13 rfl rfl)
theorem dX0_why_14 : decode cX0_why 14 = .ok (.ireturn, 1) := dk_172 (dk_at dksX0_why_0 14 rfl rfl)
theorem dX0_why_15 : decode cX0_why 15 = .ok (.iconst 0, 1) := dk_3 (dk_at dksX0_why_0 15 rfl rfl)
theorem dX0_why_16 : decode cX0_why 16 = .ok (.ireturn, 1) := dk_172 (dk_at dksX0_why_0 16 rfl rfl)
abbrev cX0_cause : ByteArray := method_26_code
def yX0_cause : MethodName := ⟨RX0, "cause", "(LWreckShares;I[J)I"⟩
def dkwX0_cause_0 : List UInt8 := [44, 3, 42, 27, 182, 0, 85, 133, 80, 167, 0, 6, 78, 4, 172, 3, 172]
abbrev dktX0_cause_0 : List UInt8 := dkwX0_cause_0 ++ []
theorem dksX0_cause_0 : cX0_cause.data.toList.drop 0 = dktX0_cause_0 := by decide +kernel
theorem dX0_cause_0 : decode cX0_cause 0 = .ok (.aload_n 2, 1) := dk_44 (dk_at dksX0_cause_0 0 rfl rfl)
theorem dX0_cause_1 : decode cX0_cause 1 = .ok (.iconst 0, 1) := dk_3 (dk_at dksX0_cause_0 1 rfl rfl)
theorem dX0_cause_2 : decode cX0_cause 2 = .ok (.aload_n 0, 1) := dk_42 (dk_at dksX0_cause_0 2 rfl rfl)
theorem dX0_cause_3 : decode cX0_cause 3 = .ok (.iload_n 1, 1) := dk_27 (dk_at dksX0_cause_0 3 rfl rfl)
theorem dX0_cause_4 : decode cX0_cause 4 = .ok (.invokevirtual 85, 3) := dk_182 0 85 (dk_at dksX0_cause_0 4 rfl rfl)
theorem dX0_cause_7 : decode cX0_cause 7 = .ok (.i2l, 1) := dk_133 (dk_at dksX0_cause_0 7 rfl rfl)
theorem dX0_cause_8 : decode cX0_cause 8 = .ok (.lastore, 1) := dk_80 (dk_at dksX0_cause_0 8 rfl rfl)
theorem dX0_cause_9 : decode cX0_cause 9 = .ok (.goto 6, 3) := dk_167 0 6 (dk_at dksX0_cause_0 9 rfl rfl)
theorem dX0_cause_12 : decode cX0_cause 12 = .ok (.astore_n 3, 1) := dk_78 (dk_at dksX0_cause_0 12 rfl rfl)
theorem dX0_cause_13 : decode cX0_cause 13 = .ok (.iconst 1, 1) := dk_4 (dk_at dksX0_cause_0 13 rfl rfl)
theorem dX0_cause_14 : decode cX0_cause 14 = .ok (.ireturn, 1) := dk_172 (dk_at dksX0_cause_0 14 rfl rfl)
theorem dX0_cause_15 : decode cX0_cause 15 = .ok (.iconst 0, 1) := dk_3 (dk_at dksX0_cause_0 15 rfl rfl)
theorem dX0_cause_16 : decode cX0_cause 16 = .ok (.ireturn, 1) := dk_172 (dk_at dksX0_cause_0 16 rfl rfl)
abbrev cX0_whyDivide : ByteArray := method_27_code
def yX0_whyDivide : MethodName := ⟨RX0, "whyDivide", "(LWreckShares;I[J)I"⟩
def dkwX0_whyDivide_0 : List UInt8 := [44, 3, 42, 27, 182, 0, 88, 133, 80, 167, 0, 6, 78, 4, 172, 3, 172]
abbrev dktX0_whyDivide_0 : List UInt8 := dkwX0_whyDivide_0 ++ []
theorem dksX0_whyDivide_0 : cX0_whyDivide.data.toList.drop 0 = dktX0_whyDivide_0 := by decide +kernel
theorem dX0_whyDivide_0 : decode cX0_whyDivide 0 = .ok (.aload_n 2, 1) := dk_44 (dk_at dksX0_whyDivide_0 0 rfl rfl)
theorem dX0_whyDivide_1 : decode cX0_whyDivide 1 = .ok (.iconst 0, 1) := dk_3 (dk_at dksX0_whyDivide_0 1 rfl rfl)
theorem dX0_whyDivide_2 : decode cX0_whyDivide 2 = .ok (.aload_n 0, 1) := dk_42 (dk_at dksX0_whyDivide_0 2 rfl rfl)
theorem dX0_whyDivide_3 : decode cX0_whyDivide 3 = .ok (.iload_n 1, 1) := dk_27 (dk_at dksX0_whyDivide_0 3 rfl rfl)
theorem dX0_whyDivide_4 : decode cX0_whyDivide 4 = .ok (.invokevirtual 88, 3) := dk_182 0 88 (dk_at dksX0_whyDivide_0 4 rfl rfl)
theorem dX0_whyDivide_7 : decode cX0_whyDivide 7 = .ok (.i2l, 1) := dk_133 (dk_at dksX0_whyDivide_0 7 rfl rfl)
theorem dX0_whyDivide_8 : decode cX0_whyDivide 8 = .ok (.lastore, 1) := dk_80 (dk_at dksX0_whyDivide_0 8 rfl rfl)
theorem dX0_whyDivide_9 : decode cX0_whyDivide 9 = .ok (.goto 6, 3) := dk_167 0 6 (dk_at dksX0_whyDivide_0 9 rfl rfl)
theorem dX0_whyDivide_12 : decode cX0_whyDivide 12 = .ok (.astore_n 3, 1) := dk_78 (dk_at dksX0_whyDivide_0 12 rfl rfl)
theorem dX0_whyDivide_13 : decode cX0_whyDivide 13 = .ok (.iconst 1, 1) := dk_4 (dk_at dksX0_whyDivide_0 13 rfl rfl)
theorem dX0_whyDivide_14 : decode cX0_whyDivide 14 = .ok (.ireturn, 1) := dk_172 (dk_at dksX0_whyDivide_0 14 rfl rfl)
theorem dX0_whyDivide_15 : decode cX0_whyDivide 15 = .ok (.iconst 0, 1) := dk_3 (dk_at dksX0_whyDivide_0 15 rfl rfl)
theorem dX0_whyDivide_16 : decode cX0_whyDivide 16 = .ok (.ireturn, 1) := dk_172 (dk_at dksX0_whyDivide_0 16 rfl rfl)
abbrev cX0_rope : ByteArray := method_28_code
def yX0_rope : MethodName := ⟨RX0, "rope", "(LWreckShares;II[J)I"⟩
def dkwX0_rope_0 : List UInt8 := [45, 3, 42, 27, 28, 182, 0, 91, 133, 80, 167, 0, 7, 58, 4, 4, 172, 3, 172]
abbrev dktX0_rope_0 : List UInt8 := dkwX0_rope_0 ++ []
theorem dksX0_rope_0 : cX0_rope.data.toList.drop 0 = dktX0_rope_0 := by decide +kernel
theorem dX0_rope_0 : decode cX0_rope 0 = .ok (.aload_n 3, 1) := dk_45 (dk_at dksX0_rope_0 0 rfl rfl)
theorem dX0_rope_1 : decode cX0_rope 1 = .ok (.iconst 0, 1) := dk_3 (dk_at dksX0_rope_0 1 rfl rfl)
theorem dX0_rope_2 : decode cX0_rope 2 = .ok (.aload_n 0, 1) := dk_42 (dk_at dksX0_rope_0 2 rfl rfl)
theorem dX0_rope_3 : decode cX0_rope 3 = .ok (.iload_n 1, 1) := dk_27 (dk_at dksX0_rope_0 3 rfl rfl)
theorem dX0_rope_4 : decode cX0_rope 4 = .ok (.iload_n 2, 1) := dk_28 (dk_at dksX0_rope_0 4 rfl rfl)
theorem dX0_rope_5 : decode cX0_rope 5 = .ok (.invokevirtual 91, 3) := dk_182 0 91 (dk_at dksX0_rope_0 5 rfl rfl)
theorem dX0_rope_8 : decode cX0_rope 8 = .ok (.i2l, 1) := dk_133 (dk_at dksX0_rope_0 8 rfl rfl)
theorem dX0_rope_9 : decode cX0_rope 9 = .ok (.lastore, 1) := dk_80 (dk_at dksX0_rope_0 9 rfl rfl)
theorem dX0_rope_10 : decode cX0_rope 10 = .ok (.goto 7, 3) := dk_167 0 7 (dk_at dksX0_rope_0 10 rfl rfl)
theorem dX0_rope_13 : decode cX0_rope 13 = .ok (.astore 4, 2) := dk_58 4 (dk_at dksX0_rope_0 13 rfl rfl)
theorem dX0_rope_15 : decode cX0_rope 15 = .ok (.iconst 1, 1) := dk_4 (dk_at dksX0_rope_0 15 rfl rfl)
theorem dX0_rope_16 : decode cX0_rope 16 = .ok (.ireturn, 1) := dk_172 (dk_at dksX0_rope_0 16 rfl rfl)
theorem dX0_rope_17 : decode cX0_rope 17 = .ok (.iconst 0, 1) := dk_3 (dk_at dksX0_rope_0 17 rfl rfl)
theorem dX0_rope_18 : decode cX0_rope 18 = .ok (.ireturn, 1) := dk_172 (dk_at dksX0_rope_0 18 rfl rfl)
abbrev cX0_off : ByteArray := method_29_code
def yX0_off : MethodName := ⟨RX0, "off", "(LWreckShares;I[J)I"⟩
def dkwX0_off_0 : List UInt8 := [44, 3, 42, 27, 182, 0, 94, 133, 80, 167, 0, 6, 78, 4, 172, 3, 172]
abbrev dktX0_off_0 : List UInt8 := dkwX0_off_0 ++ []
theorem dksX0_off_0 : cX0_off.data.toList.drop 0 = dktX0_off_0 := by decide +kernel
theorem dX0_off_0 : decode cX0_off 0 = .ok (.aload_n 2, 1) := dk_44 (dk_at dksX0_off_0 0 rfl rfl)
theorem dX0_off_1 : decode cX0_off 1 = .ok (.iconst 0, 1) := dk_3 (dk_at dksX0_off_0 1 rfl rfl)
theorem dX0_off_2 : decode cX0_off 2 = .ok (.aload_n 0, 1) := dk_42 (dk_at dksX0_off_0 2 rfl rfl)
theorem dX0_off_3 : decode cX0_off 3 = .ok (.iload_n 1, 1) := dk_27 (dk_at dksX0_off_0 3 rfl rfl)
theorem dX0_off_4 : decode cX0_off 4 = .ok (.invokevirtual 94, 3) := dk_182 0 94 (dk_at dksX0_off_0 4 rfl rfl)
theorem dX0_off_7 : decode cX0_off 7 = .ok (.i2l, 1) := dk_133 (dk_at dksX0_off_0 7 rfl rfl)
theorem dX0_off_8 : decode cX0_off 8 = .ok (.lastore, 1) := dk_80 (dk_at dksX0_off_0 8 rfl rfl)
theorem dX0_off_9 : decode cX0_off 9 = .ok (.goto 6, 3) := dk_167 0 6 (dk_at dksX0_off_0 9 rfl rfl)
theorem dX0_off_12 : decode cX0_off 12 = .ok (.astore_n 3, 1) := dk_78 (dk_at dksX0_off_0 12 rfl rfl)
theorem dX0_off_13 : decode cX0_off 13 = .ok (.iconst 1, 1) := dk_4 (dk_at dksX0_off_0 13 rfl rfl)
theorem dX0_off_14 : decode cX0_off 14 = .ok (.ireturn, 1) := dk_172 (dk_at dksX0_off_0 14 rfl rfl)
theorem dX0_off_15 : decode cX0_off 15 = .ok (.iconst 0, 1) := dk_3 (dk_at dksX0_off_0 15 rfl rfl)
theorem dX0_off_16 : decode cX0_off 16 = .ok (.ireturn, 1) := dk_172 (dk_at dksX0_off_0 16 rfl rfl)
abbrev cX0_pay : ByteArray := method_30_code
def yX0_pay : MethodName := ⟨RX0, "pay", "(LWreckShares;III[J)I"⟩
def dkwX0_pay_1 : List UInt8 := [172]
abbrev dktX0_pay_1 : List UInt8 := dkwX0_pay_1 ++ []
def dkwX0_pay_0 : List UInt8 := [25, 4, 3, 42, 27, 28, 29, 182, 0, 97, 133, 80, 167, 0, 11, 58, 5, 4, 172, 58, 5, 5, 172, 3]
abbrev dktX0_pay_0 : List UInt8 := dkwX0_pay_0 ++ dktX0_pay_1
theorem dksX0_pay_0 : cX0_pay.data.toList.drop 0 = dktX0_pay_0 := by decide +kernel
theorem dksX0_pay_1 : cX0_pay.data.toList.drop 24 = dktX0_pay_1 := dk_seg dksX0_pay_0 24 rfl rfl
theorem dX0_pay_0 : decode cX0_pay 0 = .ok (.aload 4, 2) := dk_25 4 (dk_at dksX0_pay_0 0 rfl rfl)
theorem dX0_pay_2 : decode cX0_pay 2 = .ok (.iconst 0, 1) := dk_3 (dk_at dksX0_pay_0 2 rfl rfl)
theorem dX0_pay_3 : decode cX0_pay 3 = .ok (.aload_n 0, 1) := dk_42 (dk_at dksX0_pay_0 3 rfl rfl)
theorem dX0_pay_4 : decode cX0_pay 4 = .ok (.iload_n 1, 1) := dk_27 (dk_at dksX0_pay_0 4 rfl rfl)
theorem dX0_pay_5 : decode cX0_pay 5 = .ok (.iload_n 2, 1) := dk_28 (dk_at dksX0_pay_0 5 rfl rfl)
theorem dX0_pay_6 : decode cX0_pay 6 = .ok (.iload_n 3, 1) := dk_29 (dk_at dksX0_pay_0 6 rfl rfl)
theorem dX0_pay_7 : decode cX0_pay 7 = .ok (.invokevirtual 97, 3) := dk_182 0 97 (dk_at dksX0_pay_0 7 rfl rfl)
theorem dX0_pay_10 : decode cX0_pay 10 = .ok (.i2l, 1) := dk_133 (dk_at dksX0_pay_0 10 rfl rfl)
theorem dX0_pay_11 : decode cX0_pay 11 = .ok (.lastore, 1) := dk_80 (dk_at dksX0_pay_0 11 rfl rfl)
theorem dX0_pay_12 : decode cX0_pay 12 = .ok (.goto 11, 3) := dk_167 0 11 (dk_at dksX0_pay_0 12 rfl rfl)
theorem dX0_pay_15 : decode cX0_pay 15 = .ok (.astore 5, 2) := dk_58 5 (dk_at dksX0_pay_0 15 rfl rfl)
theorem dX0_pay_17 : decode cX0_pay 17 = .ok (.iconst 1, 1) := dk_4 (dk_at dksX0_pay_0 17 rfl rfl)
theorem dX0_pay_18 : decode cX0_pay 18 = .ok (.ireturn, 1) := dk_172 (dk_at dksX0_pay_0 18 rfl rfl)
theorem dX0_pay_19 : decode cX0_pay 19 = .ok (.astore 5, 2) := dk_58 5 (dk_at dksX0_pay_0 19 rfl rfl)
theorem dX0_pay_21 : decode cX0_pay 21 = .ok (.iconst 2, 1) := dk_5 (dk_at dksX0_pay_0 21 rfl rfl)
theorem dX0_pay_22 : decode cX0_pay 22 = .ok (.ireturn, 1) := dk_172 (dk_at dksX0_pay_0 22 rfl rfl)
theorem dX0_pay_23 : decode cX0_pay 23 = .ok (.iconst 0, 1) := dk_3 (dk_at dksX0_pay_0 23 rfl rfl)
theorem dX0_pay_24 : decode cX0_pay 24 = .ok (.ireturn, 1) := dk_172 (dk_at dksX0_pay_1 0 rfl rfl)
abbrev cX0_haul : ByteArray := method_31_code
def yX0_haul : MethodName := ⟨RX0, "haul", "(LWreckShares;I[J)I"⟩
def dkwX0_haul_0 : List UInt8 := [44, 3, 42, 27, 182, 0, 101, 133, 80, 167, 0, 6, 78, 4, 172, 3, 172]
abbrev dktX0_haul_0 : List UInt8 := dkwX0_haul_0 ++ []
theorem dksX0_haul_0 : cX0_haul.data.toList.drop 0 = dktX0_haul_0 := by decide +kernel
theorem dX0_haul_0 : decode cX0_haul 0 = .ok (.aload_n 2, 1) := dk_44 (dk_at dksX0_haul_0 0 rfl rfl)
theorem dX0_haul_1 : decode cX0_haul 1 = .ok (.iconst 0, 1) := dk_3 (dk_at dksX0_haul_0 1 rfl rfl)
theorem dX0_haul_2 : decode cX0_haul 2 = .ok (.aload_n 0, 1) := dk_42 (dk_at dksX0_haul_0 2 rfl rfl)
theorem dX0_haul_3 : decode cX0_haul 3 = .ok (.iload_n 1, 1) := dk_27 (dk_at dksX0_haul_0 3 rfl rfl)
theorem dX0_haul_4 : decode cX0_haul 4 = .ok (.invokevirtual 101, 3) := dk_182 0 101 (dk_at dksX0_haul_0 4 rfl rfl)
theorem dX0_haul_7 : decode cX0_haul 7 = .ok (.i2l, 1) := dk_133 (dk_at dksX0_haul_0 7 rfl rfl)
theorem dX0_haul_8 : decode cX0_haul 8 = .ok (.lastore, 1) := dk_80 (dk_at dksX0_haul_0 8 rfl rfl)
theorem dX0_haul_9 : decode cX0_haul 9 = .ok (.goto 6, 3) := dk_167 0 6 (dk_at dksX0_haul_0 9 rfl rfl)
theorem dX0_haul_12 : decode cX0_haul 12 = .ok (.astore_n 3, 1) := dk_78 (dk_at dksX0_haul_0 12 rfl rfl)
theorem dX0_haul_13 : decode cX0_haul 13 = .ok (.iconst 1, 1) := dk_4 (dk_at dksX0_haul_0 13 rfl rfl)
theorem dX0_haul_14 : decode cX0_haul 14 = .ok (.ireturn, 1) := dk_172 (dk_at dksX0_haul_0 14 rfl rfl)
theorem dX0_haul_15 : decode cX0_haul 15 = .ok (.iconst 0, 1) := dk_3 (dk_at dksX0_haul_0 15 rfl rfl)
theorem dX0_haul_16 : decode cX0_haul 16 = .ok (.ireturn, 1) := dk_172 (dk_at dksX0_haul_0 16 rfl rfl)
abbrev cX0_claim : ByteArray := method_32_code
def yX0_claim : MethodName := ⟨RX0, "claim", "(LWreckShares;I[J)I"⟩
def dkwX0_claim_0 : List UInt8 := [44, 3, 42, 27, 182, 0, 104, 133, 80, 167, 0, 6, 78, 4, 172, 3, 172]
abbrev dktX0_claim_0 : List UInt8 := dkwX0_claim_0 ++ []
theorem dksX0_claim_0 : cX0_claim.data.toList.drop 0 = dktX0_claim_0 := by decide +kernel
theorem dX0_claim_0 : decode cX0_claim 0 = .ok (.aload_n 2, 1) := dk_44 (dk_at dksX0_claim_0 0 rfl rfl)
theorem dX0_claim_1 : decode cX0_claim 1 = .ok (.iconst 0, 1) := dk_3 (dk_at dksX0_claim_0 1 rfl rfl)
theorem dX0_claim_2 : decode cX0_claim 2 = .ok (.aload_n 0, 1) := dk_42 (dk_at dksX0_claim_0 2 rfl rfl)
theorem dX0_claim_3 : decode cX0_claim 3 = .ok (.iload_n 1, 1) := dk_27 (dk_at dksX0_claim_0 3 rfl rfl)
theorem dX0_claim_4 : decode cX0_claim 4 = .ok (.invokevirtual 104, 3) := dk_182 0 104 (dk_at dksX0_claim_0 4 rfl rfl)
theorem dX0_claim_7 : decode cX0_claim 7 = .ok (.i2l, 1) := dk_133 (dk_at dksX0_claim_0 7 rfl rfl)
theorem dX0_claim_8 : decode cX0_claim 8 = .ok (.lastore, 1) := dk_80 (dk_at dksX0_claim_0 8 rfl rfl)
theorem dX0_claim_9 : decode cX0_claim 9 = .ok (.goto 6, 3) := dk_167 0 6 (dk_at dksX0_claim_0 9 rfl rfl)
theorem dX0_claim_12 : decode cX0_claim 12 = .ok (.astore_n 3, 1) := dk_78 (dk_at dksX0_claim_0 12 rfl rfl)
theorem dX0_claim_13 : decode cX0_claim 13 = .ok (.iconst 1, 1) := dk_4 (dk_at dksX0_claim_0 13 rfl rfl)
theorem dX0_claim_14 : decode cX0_claim 14 = .ok (.ireturn, 1) := dk_172 (dk_at dksX0_claim_0 14 rfl rfl)
theorem dX0_claim_15 : decode cX0_claim 15 = .ok (.iconst 0, 1) := dk_3 (dk_at dksX0_claim_0 15 rfl rfl)
theorem dX0_claim_16 : decode cX0_claim 16 = .ok (.ireturn, 1) := dk_172 (dk_at dksX0_claim_0 16 rfl rfl)
abbrev cX0_divide : ByteArray := method_33_code
def yX0_divide : MethodName := ⟨RX0, "divide", "(LWreckShares;I[J)I"⟩
def dkwX0_divide_0 : List UInt8 := [44, 3, 42, 27, 182, 0, 107, 133, 80, 167, 0, 6, 78, 4, 172, 3, 172]
abbrev dktX0_divide_0 : List UInt8 := dkwX0_divide_0 ++ []
theorem dksX0_divide_0 : cX0_divide.data.toList.drop 0 = dktX0_divide_0 := by decide +kernel
theorem dX0_divide_0 : decode cX0_divide 0 = .ok (.aload_n 2, 1) := dk_44 (dk_at dksX0_divide_0 0 rfl rfl)
theorem dX0_divide_1 : decode cX0_divide 1 = .ok (.iconst 0, 1) := dk_3 (dk_at dksX0_divide_0 1 rfl rfl)
theorem dX0_divide_2 : decode cX0_divide 2 = .ok (.aload_n 0, 1) := dk_42 (dk_at dksX0_divide_0 2 rfl rfl)
theorem dX0_divide_3 : decode cX0_divide 3 = .ok (.iload_n 1, 1) := dk_27 (dk_at dksX0_divide_0 3 rfl rfl)
theorem dX0_divide_4 : decode cX0_divide 4 = .ok (.invokevirtual 107, 3) := dk_182 0 107 (dk_at dksX0_divide_0 4 rfl rfl)
theorem dX0_divide_7 : decode cX0_divide 7 = .ok (.i2l, 1) := dk_133 (dk_at dksX0_divide_0 7 rfl rfl)
theorem dX0_divide_8 : decode cX0_divide 8 = .ok (.lastore, 1) := dk_80 (dk_at dksX0_divide_0 8 rfl rfl)
theorem dX0_divide_9 : decode cX0_divide 9 = .ok (.goto 6, 3) := dk_167 0 6 (dk_at dksX0_divide_0 9 rfl rfl)
theorem dX0_divide_12 : decode cX0_divide 12 = .ok (.astore_n 3, 1) := dk_78 (dk_at dksX0_divide_0 12 rfl rfl)
theorem dX0_divide_13 : decode cX0_divide 13 = .ok (.iconst 1, 1) := dk_4 (dk_at dksX0_divide_0 13 rfl rfl)
theorem dX0_divide_14 : decode cX0_divide 14 = .ok (.ireturn, 1) := dk_172 (dk_at dksX0_divide_0 14 rfl rfl)
theorem dX0_divide_15 : decode cX0_divide 15 = .ok (.iconst 0, 1) := dk_3 (dk_at dksX0_divide_0 15 rfl rfl)
theorem dX0_divide_16 : decode cX0_divide 16 = .ok (.ireturn, 1) := dk_172 (dk_at dksX0_divide_0 16 rfl rfl)
abbrev cX0_ticks : ByteArray := method_34_code
def yX0_ticks : MethodName := ⟨RX0, "ticks", "(LWreckShares;I[J)I"⟩
def dkwX0_ticks_0 : List UInt8 := [44, 3, 42, 27, 182, 0, 110, 133, 80, 167, 0, 6, 78, 4, 172, 3, 172]
abbrev dktX0_ticks_0 : List UInt8 := dkwX0_ticks_0 ++ []
theorem dksX0_ticks_0 : cX0_ticks.data.toList.drop 0 = dktX0_ticks_0 := by decide +kernel
theorem dX0_ticks_0 : decode cX0_ticks 0 = .ok (.aload_n 2, 1) := dk_44 (dk_at dksX0_ticks_0 0 rfl rfl)
theorem dX0_ticks_1 : decode cX0_ticks 1 = .ok (.iconst 0, 1) := dk_3 (dk_at dksX0_ticks_0 1 rfl rfl)
theorem dX0_ticks_2 : decode cX0_ticks 2 = .ok (.aload_n 0, 1) := dk_42 (dk_at dksX0_ticks_0 2 rfl rfl)
theorem dX0_ticks_3 : decode cX0_ticks 3 = .ok (.iload_n 1, 1) := dk_27 (dk_at dksX0_ticks_0 3 rfl rfl)
theorem dX0_ticks_4 : decode cX0_ticks 4 = .ok (.invokevirtual 110, 3) := dk_182 0 110 (dk_at dksX0_ticks_0 4 rfl rfl)
theorem dX0_ticks_7 : decode cX0_ticks 7 = .ok (.i2l, 1) := dk_133 (dk_at dksX0_ticks_0 7 rfl rfl)
theorem dX0_ticks_8 : decode cX0_ticks 8 = .ok (.lastore, 1) := dk_80 (dk_at dksX0_ticks_0 8 rfl rfl)
theorem dX0_ticks_9 : decode cX0_ticks 9 = .ok (.goto 6, 3) := dk_167 0 6 (dk_at dksX0_ticks_0 9 rfl rfl)
theorem dX0_ticks_12 : decode cX0_ticks 12 = .ok (.astore_n 3, 1) := dk_78 (dk_at dksX0_ticks_0 12 rfl rfl)
theorem dX0_ticks_13 : decode cX0_ticks 13 = .ok (.iconst 1, 1) := dk_4 (dk_at dksX0_ticks_0 13 rfl rfl)
theorem dX0_ticks_14 : decode cX0_ticks 14 = .ok (.ireturn, 1) := dk_172 (dk_at dksX0_ticks_0 14 rfl rfl)
theorem dX0_ticks_15 : decode cX0_ticks 15 = .ok (.iconst 0, 1) := dk_3 (dk_at dksX0_ticks_0 15 rfl rfl)
theorem dX0_ticks_16 : decode cX0_ticks 16 = .ok (.ireturn, 1) := dk_172 (dk_at dksX0_ticks_0 16 rfl rfl)
abbrev cX0_play : ByteArray := method_35_code
def yX0_play : MethodName := ⟨RX0, "play", "(LWreckShares;I[J)I"⟩
def dkwX0_play_0 : List UInt8 := [44, 3, 42, 27, 182, 0, 113, 133, 80, 167, 0, 6, 78, 4, 172, 3, 172]
abbrev dktX0_play_0 : List UInt8 := dkwX0_play_0 ++ []
theorem dksX0_play_0 : cX0_play.data.toList.drop 0 = dktX0_play_0 := by decide +kernel
theorem dX0_play_0 : decode cX0_play 0 = .ok (.aload_n 2, 1) := dk_44 (dk_at dksX0_play_0 0 rfl rfl)
theorem dX0_play_1 : decode cX0_play 1 = .ok (.iconst 0, 1) := dk_3 (dk_at dksX0_play_0 1 rfl rfl)
theorem dX0_play_2 : decode cX0_play 2 = .ok (.aload_n 0, 1) := dk_42 (dk_at dksX0_play_0 2 rfl rfl)
theorem dX0_play_3 : decode cX0_play 3 = .ok (.iload_n 1, 1) := dk_27 (dk_at dksX0_play_0 3 rfl rfl)
theorem dX0_play_4 : decode cX0_play 4 = .ok (.invokevirtual 113, 3) := dk_182 0 113 (dk_at dksX0_play_0 4 rfl rfl)
theorem dX0_play_7 : decode cX0_play 7 = .ok (.i2l, 1) := dk_133 (dk_at dksX0_play_0 7 rfl rfl)
theorem dX0_play_8 : decode cX0_play 8 = .ok (.lastore, 1) := dk_80 (dk_at dksX0_play_0 8 rfl rfl)
theorem dX0_play_9 : decode cX0_play 9 = .ok (.goto 6, 3) := dk_167 0 6 (dk_at dksX0_play_0 9 rfl rfl)
theorem dX0_play_12 : decode cX0_play 12 = .ok (.astore_n 3, 1) := dk_78 (dk_at dksX0_play_0 12 rfl rfl)
theorem dX0_play_13 : decode cX0_play 13 = .ok (.iconst 1, 1) := dk_4 (dk_at dksX0_play_0 13 rfl rfl)
theorem dX0_play_14 : decode cX0_play 14 = .ok (.ireturn, 1) := dk_172 (dk_at dksX0_play_0 14 rfl rfl)
theorem dX0_play_15 : decode cX0_play 15 = .ok (.iconst 0, 1) := dk_3 (dk_at dksX0_play_0 15 rfl rfl)
theorem dX0_play_16 : decode cX0_play 16 = .ok (.ireturn, 1) := dk_172 (dk_at dksX0_play_0 16 rfl rfl)
abbrev cX0_format : ByteArray := method_36_code
def yX0_format : MethodName := ⟨RX0, "format", "(LWreckShares;I[J)I"⟩
def dkwX0_format_0 : List UInt8 := [44, 3, 42, 27, 182, 0, 116, 133, 80, 167, 0, 6, 78, 4, 172, 3, 172]
abbrev dktX0_format_0 : List UInt8 := dkwX0_format_0 ++ []
theorem dksX0_format_0 : cX0_format.data.toList.drop 0 = dktX0_format_0 := by decide +kernel
theorem dX0_format_0 : decode cX0_format 0 = .ok (.aload_n 2, 1) := dk_44 (dk_at dksX0_format_0 0 rfl rfl)
theorem dX0_format_1 : decode cX0_format 1 = .ok (.iconst 0, 1) := dk_3 (dk_at dksX0_format_0 1 rfl rfl)
theorem dX0_format_2 : decode cX0_format 2 = .ok (.aload_n 0, 1) := dk_42 (dk_at dksX0_format_0 2 rfl rfl)
theorem dX0_format_3 : decode cX0_format 3 = .ok (.iload_n 1, 1) := dk_27 (dk_at dksX0_format_0 3 rfl rfl)
theorem dX0_format_4 : decode cX0_format 4 = .ok (.invokevirtual 116, 3) := dk_182 0 116 (dk_at dksX0_format_0 4 rfl rfl)
theorem dX0_format_7 : decode cX0_format 7 = .ok (.i2l, 1) := dk_133 (dk_at dksX0_format_0 7 rfl rfl)
theorem dX0_format_8 : decode cX0_format 8 = .ok (.lastore, 1) := dk_80 (dk_at dksX0_format_0 8 rfl rfl)
theorem dX0_format_9 : decode cX0_format 9 = .ok (.goto 6, 3) := dk_167 0 6 (dk_at dksX0_format_0 9 rfl rfl)
theorem dX0_format_12 : decode cX0_format 12 = .ok (.astore_n 3, 1) := dk_78 (dk_at dksX0_format_0 12 rfl rfl)
theorem dX0_format_13 : decode cX0_format 13 = .ok (.iconst 1, 1) := dk_4 (dk_at dksX0_format_0 13 rfl rfl)
theorem dX0_format_14 : decode cX0_format 14 = .ok (.ireturn, 1) := dk_172 (dk_at dksX0_format_0 14 rfl rfl)
theorem dX0_format_15 : decode cX0_format 15 = .ok (.iconst 0, 1) := dk_3 (dk_at dksX0_format_0 15 rfl rfl)
theorem dX0_format_16 : decode cX0_format 16 = .ok (.ireturn, 1) := dk_172 (dk_at dksX0_format_0 16 rfl rfl)
theorem q124 : (Jvm.Cond.initialized "WreckSharesLaw") ∈ lw_all := lw_g (lw_at lw_m1 0 rfl) rfl
theorem q173 : (Jvm.Cond.classLink "WreckSharesLaw" (8 : Nat) "WreckShares") ∈ lw_all := lw_g (lw_at lw_m1 49 rfl) rfl
theorem q175 : (Jvm.Cond.methodLink "WreckSharesLaw" (119 : Nat) ({ cls := "WreckShares", name := "<init>", desc := "()V" } : Jvm.MethodName)) ∈ lw_all := lw_g (lw_at lw_m1 51 rfl) rfl
theorem q829 : (Jvm.Cond.methodLink "WreckSharesLaw" (123 : Nat) ({ cls := "WreckShares", name := "feed", desc := "(IIIII)I" } : Jvm.MethodName)) ∈ lw_all := lw_g (lw_at lw_m3 225 rfl) rfl
theorem q837 : (Jvm.Cond.methodLink "WreckSharesLaw" (138 : Nat) ({ cls := "WreckShares", name := "errorPosition", desc := "()I" } : Jvm.MethodName)) ∈ lw_all := lw_g (lw_at lw_m3 233 rfl) rfl
theorem q841 : (Jvm.Cond.methodLink "WreckSharesLaw" (168 : Nat) ({ cls := "WreckShares", name := "ranked", desc := "(I)I" } : Jvm.MethodName)) ∈ lw_all := lw_g (lw_at lw_m3 237 rfl) rfl
theorem q852 : (Jvm.Cond.methodLink "WreckSharesLaw" (175 : Nat) ({ cls := "WreckShares", name := "richest", desc := "()I" } : Jvm.MethodName)) ∈ lw_all := lw_g (lw_at lw_m4 8 rfl) rfl
theorem q856 : (Jvm.Cond.methodLink "WreckSharesLaw" (179 : Nat) ({ cls := "WreckShares", name := "gap", desc := "()I" } : Jvm.MethodName)) ∈ lw_all := lw_g (lw_at lw_m4 12 rfl) rfl
theorem q1272 : (Jvm.Cond.methodLink "WreckSharesLaw" (186 : Nat) ({ cls := "WreckShares", name := "turnIn", desc := "(Z)I" } : Jvm.MethodName)) ∈ lw_all := lw_g (lw_at lw_m5 188 rfl) rfl
theorem q1276 : (Jvm.Cond.methodLink "WreckSharesLaw" (200 : Nat) ({ cls := "WreckShares", name := "nextLost", desc := "()I" } : Jvm.MethodName)) ∈ lw_all := lw_g (lw_at lw_m5 192 rfl) rfl
theorem q1299 : (Jvm.Cond.methodLink "WreckSharesLaw" (222 : Nat) ({ cls := "WreckShares", name := "bestClaim", desc := "()I" } : Jvm.MethodName)) ∈ lw_all := lw_g (lw_at lw_m5 215 rfl) rfl
theorem q1308 : (Jvm.Cond.methodLink "WreckSharesLaw" (226 : Nat) ({ cls := "WreckShares", name := "firstDue", desc := "()I" } : Jvm.MethodName)) ∈ lw_all := lw_g (lw_at lw_m5 224 rfl) rfl
theorem q1312 : (Jvm.Cond.methodLink "WreckSharesLaw" (245 : Nat) ({ cls := "WreckShares", name := "bestHaul", desc := "()I" } : Jvm.MethodName)) ∈ lw_all := lw_g (lw_at lw_m5 228 rfl) rfl
theorem q1410 : (Jvm.Cond.methodLink "WreckSharesLaw" (249 : Nat) ({ cls := "WreckShares", name := "savedShare", desc := "()F" } : Jvm.MethodName)) ∈ lw_all := lw_g (lw_at lw_m6 86 rfl) rfl
theorem q1414 : (Jvm.Cond.methodLink "WreckSharesLaw" (254 : Nat) ({ cls := "WreckShares", name := "crownPart", desc := "()D" } : Jvm.MethodName)) ∈ lw_all := lw_g (lw_at lw_m6 90 rfl) rfl
theorem q1418 : (Jvm.Cond.methodLink "WreckSharesLaw" (265 : Nat) ({ cls := "WreckShares", name := "offAll", desc := "()I" } : Jvm.MethodName)) ∈ lw_all := lw_g (lw_at lw_m6 94 rfl) rfl
theorem q1531 : (Jvm.Cond.methodLink "WreckSharesLaw" (282 : Nat) ({ cls := "WreckShares", name := "divideAll", desc := "()I" } : Jvm.MethodName)) ∈ lw_all := lw_g (lw_at lw_m6 207 rfl) rfl
theorem q1679 : (Jvm.Cond.methodLink "WreckSharesLaw" (295 : Nat) ({ cls := "WreckShares", name := "formattedByte", desc := "(I)I" } : Jvm.MethodName)) ∈ lw_all := lw_g (lw_at lw_m7 115 rfl) rfl
theorem q1709 : (Jvm.Cond.methodLink "WreckSharesLaw" (299 : Nat) ({ cls := "WreckShares", name := "undoCount", desc := "()I" } : Jvm.MethodName)) ∈ lw_all := lw_g (lw_at lw_m7 145 rfl) rfl
theorem q1713 : (Jvm.Cond.methodLink "WreckSharesLaw" (303 : Nat) ({ cls := "WreckShares", name := "undo", desc := "()I" } : Jvm.MethodName)) ∈ lw_all := lw_g (lw_at lw_m7 149 rfl) rfl
theorem q1732 : (Jvm.Cond.methodLink "WreckSharesLaw" (307 : Nat) ({ cls := "WreckShares", name := "saveSnapshot", desc := "()V" } : Jvm.MethodName)) ∈ lw_all := lw_g (lw_at lw_m7 168 rfl) rfl
theorem q1736 : (Jvm.Cond.methodLink "WreckSharesLaw" (311 : Nat) ({ cls := "WreckShares", name := "restoreSnapshot", desc := "()Z" } : Jvm.MethodName)) ∈ lw_all := lw_g (lw_at lw_m7 172 rfl) rfl
theorem q1747 : (Jvm.Cond.methodLink "WreckSharesLaw" (128 : Nat) ({ cls := "WreckSharesLaw", name := "load", desc := "(LWreckShares;I[J)I" } : Jvm.MethodName)) ∈ lw_all := lw_g (lw_at lw_m7 183 rfl) rfl
theorem q1748 : (Jvm.Cond.static ({ cls := "WreckSharesLaw", name := "load", desc := "(LWreckShares;I[J)I" } : Jvm.MethodName)) ∈ lw_all := lw_g (lw_at lw_m7 184 rfl) rfl
theorem q1749 : (Jvm.Cond.codeWith ({ cls := "WreckSharesLaw", name := "load", desc := "(LWreckShares;I[J)I" } : Jvm.MethodName) method_3_code (4 : Nat) (Option.some Jvm.ClassFile.FieldType.int) [((0 : Nat), (9 : Nat), (12 : Nat), (13 : Nat))]) ∈ lw_all := lw_g (lw_at lw_m7 185 rfl) rfl
theorem q1750 : (Jvm.Cond.classLink "WreckSharesLaw" (13 : Nat) "java/lang/IllegalArgumentException") ∈ lw_all := lw_g (lw_at lw_m7 186 rfl) rfl
theorem q1751 : (Jvm.Cond.methodLink "WreckSharesLaw" (7 : Nat) ({ cls := "WreckShares", name := "load", desc := "(I)I" } : Jvm.MethodName)) ∈ lw_all := lw_g (lw_at lw_m7 187 rfl) rfl
theorem q2010 : (Jvm.Cond.methodLink "WreckSharesLaw" (142 : Nat) ({ cls := "WreckSharesLaw", name := "size", desc := "(LWreckShares;I[J)I" } : Jvm.MethodName)) ∈ lw_all := lw_g (lw_at lw_m8 206 rfl) rfl
theorem q2011 : (Jvm.Cond.static ({ cls := "WreckSharesLaw", name := "size", desc := "(LWreckShares;I[J)I" } : Jvm.MethodName)) ∈ lw_all := lw_g (lw_at lw_m8 207 rfl) rfl
theorem q2012 : (Jvm.Cond.codeWith ({ cls := "WreckSharesLaw", name := "size", desc := "(LWreckShares;I[J)I" } : Jvm.MethodName) method_4_code (4 : Nat) (Option.some Jvm.ClassFile.FieldType.int) [((0 : Nat), (9 : Nat), (12 : Nat), (13 : Nat))]) ∈ lw_all := lw_g (lw_at lw_m8 208 rfl) rfl
theorem q2013 : (Jvm.Cond.methodLink "WreckSharesLaw" (15 : Nat) ({ cls := "WreckShares", name := "size", desc := "(I)I" } : Jvm.MethodName)) ∈ lw_all := lw_g (lw_at lw_m8 209 rfl) rfl
theorem q2026 : (Jvm.Cond.methodLink "WreckSharesLaw" (145 : Nat) ({ cls := "WreckSharesLaw", name := "account", desc := "(LWreckShares;I[J)I" } : Jvm.MethodName)) ∈ lw_all := lw_g (lw_at lw_m8 222 rfl) rfl
theorem q2027 : (Jvm.Cond.static ({ cls := "WreckSharesLaw", name := "account", desc := "(LWreckShares;I[J)I" } : Jvm.MethodName)) ∈ lw_all := lw_g (lw_at lw_m8 223 rfl) rfl
theorem q2028 : (Jvm.Cond.codeWith ({ cls := "WreckSharesLaw", name := "account", desc := "(LWreckShares;I[J)I" } : Jvm.MethodName) method_5_code (4 : Nat) (Option.some Jvm.ClassFile.FieldType.int) [((0 : Nat), (9 : Nat), (12 : Nat), (13 : Nat))]) ∈ lw_all := lw_g (lw_at lw_m8 224 rfl) rfl
theorem q2029 : (Jvm.Cond.methodLink "WreckSharesLaw" (18 : Nat) ({ cls := "WreckShares", name := "account", desc := "(I)I" } : Jvm.MethodName)) ∈ lw_all := lw_g (lw_at lw_m8 225 rfl) rfl
theorem q2033 : (Jvm.Cond.methodLink "WreckSharesLaw" (148 : Nat) ({ cls := "WreckSharesLaw", name := "good", desc := "(LWreckShares;II[J)I" } : Jvm.MethodName)) ∈ lw_all := lw_g (lw_at lw_m8 229 rfl) rfl
theorem q2034 : (Jvm.Cond.static ({ cls := "WreckSharesLaw", name := "good", desc := "(LWreckShares;II[J)I" } : Jvm.MethodName)) ∈ lw_all := lw_g (lw_at lw_m8 230 rfl) rfl
theorem q2035 : (Jvm.Cond.codeWith ({ cls := "WreckSharesLaw", name := "good", desc := "(LWreckShares;II[J)I" } : Jvm.MethodName) method_6_code (5 : Nat) (Option.some Jvm.ClassFile.FieldType.int) [((0 : Nat), (10 : Nat), (13 : Nat), (25 : Nat)), ((0 : Nat), (10 : Nat), (17 : Nat), (13 : Nat))]) ∈ lw_all := lw_g (lw_at lw_m8 231 rfl) rfl
theorem q2036 : (Jvm.Cond.classLink "WreckSharesLaw" (25 : Nat) "java/util/NoSuchElementException") ∈ lw_all := lw_g (lw_at lw_m8 232 rfl) rfl
theorem q2037 : (Jvm.Cond.methodLink "WreckSharesLaw" (21 : Nat) ({ cls := "WreckShares", name := "good", desc := "(II)I" } : Jvm.MethodName)) ∈ lw_all := lw_g (lw_at lw_m8 233 rfl) rfl
theorem q2060 : (Jvm.Cond.methodLink "WreckSharesLaw" (152 : Nat) ({ cls := "WreckSharesLaw", name := "finder", desc := "(LWreckShares;II[J)I" } : Jvm.MethodName)) ∈ lw_all := lw_g (lw_at lw_m9 16 rfl) rfl
theorem q2061 : (Jvm.Cond.static ({ cls := "WreckSharesLaw", name := "finder", desc := "(LWreckShares;II[J)I" } : Jvm.MethodName)) ∈ lw_all := lw_g (lw_at lw_m9 17 rfl) rfl
theorem q2062 : (Jvm.Cond.codeWith ({ cls := "WreckSharesLaw", name := "finder", desc := "(LWreckShares;II[J)I" } : Jvm.MethodName) method_7_code (5 : Nat) (Option.some Jvm.ClassFile.FieldType.int) [((0 : Nat), (10 : Nat), (13 : Nat), (25 : Nat)), ((0 : Nat), (10 : Nat), (17 : Nat), (13 : Nat))]) ∈ lw_all := lw_g (lw_at lw_m9 18 rfl) rfl
theorem q2063 : (Jvm.Cond.methodLink "WreckSharesLaw" (27 : Nat) ({ cls := "WreckShares", name := "finder", desc := "(II)I" } : Jvm.MethodName)) ∈ lw_all := lw_g (lw_at lw_m9 19 rfl) rfl
theorem q2081 : (Jvm.Cond.methodLink "WreckSharesLaw" (155 : Nat) ({ cls := "WreckSharesLaw", name := "owner", desc := "(LWreckShares;I[J)I" } : Jvm.MethodName)) ∈ lw_all := lw_g (lw_at lw_m9 37 rfl) rfl
theorem q2082 : (Jvm.Cond.static ({ cls := "WreckSharesLaw", name := "owner", desc := "(LWreckShares;I[J)I" } : Jvm.MethodName)) ∈ lw_all := lw_g (lw_at lw_m9 38 rfl) rfl
theorem q2083 : (Jvm.Cond.codeWith ({ cls := "WreckSharesLaw", name := "owner", desc := "(LWreckShares;I[J)I" } : Jvm.MethodName) method_8_code (4 : Nat) (Option.some Jvm.ClassFile.FieldType.int) [((0 : Nat), (9 : Nat), (12 : Nat), (13 : Nat))]) ∈ lw_all := lw_g (lw_at lw_m9 39 rfl) rfl
theorem q2084 : (Jvm.Cond.methodLink "WreckSharesLaw" (30 : Nat) ({ cls := "WreckShares", name := "owner", desc := "(I)I" } : Jvm.MethodName)) ∈ lw_all := lw_g (lw_at lw_m9 40 rfl) rfl
theorem q2088 : (Jvm.Cond.methodLink "WreckSharesLaw" (158 : Nat) ({ cls := "WreckSharesLaw", name := "hand", desc := "(LWreckShares;IIZ[J)I" } : Jvm.MethodName)) ∈ lw_all := lw_g (lw_at lw_m9 44 rfl) rfl
theorem q2089 : (Jvm.Cond.static ({ cls := "WreckSharesLaw", name := "hand", desc := "(LWreckShares;IIZ[J)I" } : Jvm.MethodName)) ∈ lw_all := lw_g (lw_at lw_m9 45 rfl) rfl
theorem q2090 : (Jvm.Cond.codeWith ({ cls := "WreckSharesLaw", name := "hand", desc := "(LWreckShares;IIZ[J)I" } : Jvm.MethodName) method_9_code (6 : Nat) (Option.some Jvm.ClassFile.FieldType.int) [((0 : Nat), (12 : Nat), (15 : Nat), (25 : Nat))]) ∈ lw_all := lw_g (lw_at lw_m9 46 rfl) rfl
theorem q2091 : (Jvm.Cond.methodLink "WreckSharesLaw" (33 : Nat) ({ cls := "WreckShares", name := "hand", desc := "(IIZ)I" } : Jvm.MethodName)) ∈ lw_all := lw_g (lw_at lw_m9 47 rfl) rfl
theorem q2098 : (Jvm.Cond.methodLink "WreckSharesLaw" (162 : Nat) ({ cls := "WreckSharesLaw", name := "count", desc := "(LWreckShares;II[J)I" } : Jvm.MethodName)) ∈ lw_all := lw_g (lw_at lw_m9 54 rfl) rfl
theorem q2099 : (Jvm.Cond.static ({ cls := "WreckSharesLaw", name := "count", desc := "(LWreckShares;II[J)I" } : Jvm.MethodName)) ∈ lw_all := lw_g (lw_at lw_m9 55 rfl) rfl
theorem q2100 : (Jvm.Cond.codeWith ({ cls := "WreckSharesLaw", name := "count", desc := "(LWreckShares;II[J)I" } : Jvm.MethodName) method_10_code (5 : Nat) (Option.some Jvm.ClassFile.FieldType.int) [((0 : Nat), (10 : Nat), (13 : Nat), (13 : Nat))]) ∈ lw_all := lw_g (lw_at lw_m9 56 rfl) rfl
theorem q2101 : (Jvm.Cond.methodLink "WreckSharesLaw" (37 : Nat) ({ cls := "WreckShares", name := "count", desc := "(II)I" } : Jvm.MethodName)) ∈ lw_all := lw_g (lw_at lw_m9 57 rfl) rfl
theorem q2116 : (Jvm.Cond.methodLink "WreckSharesLaw" (165 : Nat) ({ cls := "WreckSharesLaw", name := "marked", desc := "(LWreckShares;II[J)I" } : Jvm.MethodName)) ∈ lw_all := lw_g (lw_at lw_m9 72 rfl) rfl
theorem q2117 : (Jvm.Cond.static ({ cls := "WreckSharesLaw", name := "marked", desc := "(LWreckShares;II[J)I" } : Jvm.MethodName)) ∈ lw_all := lw_g (lw_at lw_m9 73 rfl) rfl
theorem q2118 : (Jvm.Cond.codeWith ({ cls := "WreckSharesLaw", name := "marked", desc := "(LWreckShares;II[J)I" } : Jvm.MethodName) method_11_code (5 : Nat) (Option.some Jvm.ClassFile.FieldType.int) [((0 : Nat), (10 : Nat), (13 : Nat), (13 : Nat))]) ∈ lw_all := lw_g (lw_at lw_m9 74 rfl) rfl
theorem q2119 : (Jvm.Cond.methodLink "WreckSharesLaw" (40 : Nat) ({ cls := "WreckShares", name := "marked", desc := "(II)I" } : Jvm.MethodName)) ∈ lw_all := lw_g (lw_at lw_m9 75 rfl) rfl
theorem q2123 : (Jvm.Cond.methodLink "WreckSharesLaw" (172 : Nat) ({ cls := "WreckSharesLaw", name := "earned", desc := "(LWreckShares;I[J)I" } : Jvm.MethodName)) ∈ lw_all := lw_g (lw_at lw_m9 79 rfl) rfl
theorem q2124 : (Jvm.Cond.static ({ cls := "WreckSharesLaw", name := "earned", desc := "(LWreckShares;I[J)I" } : Jvm.MethodName)) ∈ lw_all := lw_g (lw_at lw_m9 80 rfl) rfl
theorem q2125 : (Jvm.Cond.codeWith ({ cls := "WreckSharesLaw", name := "earned", desc := "(LWreckShares;I[J)I" } : Jvm.MethodName) method_12_code (4 : Nat) (Option.some Jvm.ClassFile.FieldType.int) [((0 : Nat), (9 : Nat), (12 : Nat), (25 : Nat))]) ∈ lw_all := lw_g (lw_at lw_m9 81 rfl) rfl
theorem q2126 : (Jvm.Cond.methodLink "WreckSharesLaw" (43 : Nat) ({ cls := "WreckShares", name := "earned", desc := "(I)I" } : Jvm.MethodName)) ∈ lw_all := lw_g (lw_at lw_m9 82 rfl) rfl
theorem q2165 : (Jvm.Cond.methodLink "WreckSharesLaw" (183 : Nat) ({ cls := "WreckSharesLaw", name := "level", desc := "(LWreckShares;I[J)I" } : Jvm.MethodName)) ∈ lw_all := lw_g (lw_at lw_m9 121 rfl) rfl
theorem q2166 : (Jvm.Cond.static ({ cls := "WreckSharesLaw", name := "level", desc := "(LWreckShares;I[J)I" } : Jvm.MethodName)) ∈ lw_all := lw_g (lw_at lw_m9 122 rfl) rfl
theorem q2167 : (Jvm.Cond.codeWith ({ cls := "WreckSharesLaw", name := "level", desc := "(LWreckShares;I[J)I" } : Jvm.MethodName) method_13_code (4 : Nat) (Option.some Jvm.ClassFile.FieldType.int) [((0 : Nat), (9 : Nat), (12 : Nat), (13 : Nat))]) ∈ lw_all := lw_g (lw_at lw_m9 123 rfl) rfl
theorem q2168 : (Jvm.Cond.methodLink "WreckSharesLaw" (46 : Nat) ({ cls := "WreckShares", name := "level", desc := "(I)I" } : Jvm.MethodName)) ∈ lw_all := lw_g (lw_at lw_m9 124 rfl) rfl
theorem q2173 : (Jvm.Cond.methodLink "WreckSharesLaw" (191 : Nat) ({ cls := "WreckSharesLaw", name := "dryIn", desc := "(LWreckShares;I[J)I" } : Jvm.MethodName)) ∈ lw_all := lw_g (lw_at lw_m9 129 rfl) rfl
theorem q2174 : (Jvm.Cond.static ({ cls := "WreckSharesLaw", name := "dryIn", desc := "(LWreckShares;I[J)I" } : Jvm.MethodName)) ∈ lw_all := lw_g (lw_at lw_m9 130 rfl) rfl
theorem q2175 : (Jvm.Cond.codeWith ({ cls := "WreckSharesLaw", name := "dryIn", desc := "(LWreckShares;I[J)I" } : Jvm.MethodName) method_14_code (4 : Nat) (Option.some Jvm.ClassFile.FieldType.int) [((0 : Nat), (9 : Nat), (12 : Nat), (25 : Nat))]) ∈ lw_all := lw_g (lw_at lw_m9 131 rfl) rfl
theorem q2176 : (Jvm.Cond.methodLink "WreckSharesLaw" (49 : Nat) ({ cls := "WreckShares", name := "dryIn", desc := "(I)I" } : Jvm.MethodName)) ∈ lw_all := lw_g (lw_at lw_m9 132 rfl) rfl
theorem q2184 : (Jvm.Cond.methodLink "WreckSharesLaw" (194 : Nat) ({ cls := "WreckSharesLaw", name := "dryTicks", desc := "(LWreckShares;I[J)I" } : Jvm.MethodName)) ∈ lw_all := lw_g (lw_at lw_m9 140 rfl) rfl
theorem q2185 : (Jvm.Cond.static ({ cls := "WreckSharesLaw", name := "dryTicks", desc := "(LWreckShares;I[J)I" } : Jvm.MethodName)) ∈ lw_all := lw_g (lw_at lw_m9 141 rfl) rfl
theorem q2186 : (Jvm.Cond.codeWith ({ cls := "WreckSharesLaw", name := "dryTicks", desc := "(LWreckShares;I[J)I" } : Jvm.MethodName) method_15_code (4 : Nat) (Option.some Jvm.ClassFile.FieldType.int) [((0 : Nat), (9 : Nat), (12 : Nat), (25 : Nat))]) ∈ lw_all := lw_g (lw_at lw_m9 142 rfl) rfl
theorem q2187 : (Jvm.Cond.methodLink "WreckSharesLaw" (52 : Nat) ({ cls := "WreckShares", name := "dryTicks", desc := "(I)I" } : Jvm.MethodName)) ∈ lw_all := lw_g (lw_at lw_m9 143 rfl) rfl
theorem q2192 : (Jvm.Cond.methodLink "WreckSharesLaw" (197 : Nat) ({ cls := "WreckSharesLaw", name := "lostIn", desc := "(LWreckShares;I[J)I" } : Jvm.MethodName)) ∈ lw_all := lw_g (lw_at lw_m9 148 rfl) rfl
theorem q2193 : (Jvm.Cond.static ({ cls := "WreckSharesLaw", name := "lostIn", desc := "(LWreckShares;I[J)I" } : Jvm.MethodName)) ∈ lw_all := lw_g (lw_at lw_m9 149 rfl) rfl
theorem q2194 : (Jvm.Cond.codeWith ({ cls := "WreckSharesLaw", name := "lostIn", desc := "(LWreckShares;I[J)I" } : Jvm.MethodName) method_16_code (4 : Nat) (Option.some Jvm.ClassFile.FieldType.int) [((0 : Nat), (9 : Nat), (12 : Nat), (25 : Nat))]) ∈ lw_all := lw_g (lw_at lw_m9 150 rfl) rfl
theorem q2195 : (Jvm.Cond.methodLink "WreckSharesLaw" (55 : Nat) ({ cls := "WreckShares", name := "lostIn", desc := "(I)I" } : Jvm.MethodName)) ∈ lw_all := lw_g (lw_at lw_m9 151 rfl) rfl
theorem q2199 : (Jvm.Cond.methodLink "WreckSharesLaw" (204 : Nat) ({ cls := "WreckSharesLaw", name := "lossIn", desc := "(LWreckShares;I[J)I" } : Jvm.MethodName)) ∈ lw_all := lw_g (lw_at lw_m9 155 rfl) rfl
theorem q2200 : (Jvm.Cond.static ({ cls := "WreckSharesLaw", name := "lossIn", desc := "(LWreckShares;I[J)I" } : Jvm.MethodName)) ∈ lw_all := lw_g (lw_at lw_m9 156 rfl) rfl
theorem q2201 : (Jvm.Cond.codeWith ({ cls := "WreckSharesLaw", name := "lossIn", desc := "(LWreckShares;I[J)I" } : Jvm.MethodName) method_17_code (4 : Nat) (Option.some Jvm.ClassFile.FieldType.int) [((0 : Nat), (9 : Nat), (12 : Nat), (13 : Nat))]) ∈ lw_all := lw_g (lw_at lw_m9 157 rfl) rfl
theorem q2202 : (Jvm.Cond.methodLink "WreckSharesLaw" (58 : Nat) ({ cls := "WreckShares", name := "lossIn", desc := "(I)I" } : Jvm.MethodName)) ∈ lw_all := lw_g (lw_at lw_m9 158 rfl) rfl
theorem q2206 : (Jvm.Cond.methodLink "WreckSharesLaw" (207 : Nat) ({ cls := "WreckSharesLaw", name := "share", desc := "(LWreckShares;II[J)I" } : Jvm.MethodName)) ∈ lw_all := lw_g (lw_at lw_m9 162 rfl) rfl
theorem q2207 : (Jvm.Cond.static ({ cls := "WreckSharesLaw", name := "share", desc := "(LWreckShares;II[J)I" } : Jvm.MethodName)) ∈ lw_all := lw_g (lw_at lw_m9 163 rfl) rfl
theorem q2208 : (Jvm.Cond.codeWith ({ cls := "WreckSharesLaw", name := "share", desc := "(LWreckShares;II[J)I" } : Jvm.MethodName) method_18_code (5 : Nat) (Option.some Jvm.ClassFile.FieldType.int) [((0 : Nat), (10 : Nat), (13 : Nat), (25 : Nat))]) ∈ lw_all := lw_g (lw_at lw_m9 164 rfl) rfl
theorem q2209 : (Jvm.Cond.methodLink "WreckSharesLaw" (61 : Nat) ({ cls := "WreckShares", name := "share", desc := "(II)I" } : Jvm.MethodName)) ∈ lw_all := lw_g (lw_at lw_m9 165 rfl) rfl
theorem q2213 : (Jvm.Cond.methodLink "WreckSharesLaw" (210 : Nat) ({ cls := "WreckSharesLaw", name := "crownShare", desc := "(LWreckShares;I[J)I" } : Jvm.MethodName)) ∈ lw_all := lw_g (lw_at lw_m9 169 rfl) rfl
theorem q2214 : (Jvm.Cond.static ({ cls := "WreckSharesLaw", name := "crownShare", desc := "(LWreckShares;I[J)I" } : Jvm.MethodName)) ∈ lw_all := lw_g (lw_at lw_m9 170 rfl) rfl
theorem q2215 : (Jvm.Cond.codeWith ({ cls := "WreckSharesLaw", name := "crownShare", desc := "(LWreckShares;I[J)I" } : Jvm.MethodName) method_19_code (4 : Nat) (Option.some Jvm.ClassFile.FieldType.int) [((0 : Nat), (9 : Nat), (12 : Nat), (25 : Nat))]) ∈ lw_all := lw_g (lw_at lw_m9 171 rfl) rfl
theorem q2216 : (Jvm.Cond.methodLink "WreckSharesLaw" (64 : Nat) ({ cls := "WreckShares", name := "crownShare", desc := "(I)I" } : Jvm.MethodName)) ∈ lw_all := lw_g (lw_at lw_m9 172 rfl) rfl
theorem q2223 : (Jvm.Cond.methodLink "WreckSharesLaw" (213 : Nat) ({ cls := "WreckSharesLaw", name := "ownerShare", desc := "(LWreckShares;I[J)I" } : Jvm.MethodName)) ∈ lw_all := lw_g (lw_at lw_m9 179 rfl) rfl
theorem q2224 : (Jvm.Cond.static ({ cls := "WreckSharesLaw", name := "ownerShare", desc := "(LWreckShares;I[J)I" } : Jvm.MethodName)) ∈ lw_all := lw_g (lw_at lw_m9 180 rfl) rfl
theorem q2225 : (Jvm.Cond.codeWith ({ cls := "WreckSharesLaw", name := "ownerShare", desc := "(LWreckShares;I[J)I" } : Jvm.MethodName) method_20_code (4 : Nat) (Option.some Jvm.ClassFile.FieldType.int) [((0 : Nat), (9 : Nat), (12 : Nat), (25 : Nat))]) ∈ lw_all := lw_g (lw_at lw_m9 181 rfl) rfl
theorem q2226 : (Jvm.Cond.methodLink "WreckSharesLaw" (67 : Nat) ({ cls := "WreckShares", name := "ownerShare", desc := "(I)I" } : Jvm.MethodName)) ∈ lw_all := lw_g (lw_at lw_m9 182 rfl) rfl
theorem q2233 : (Jvm.Cond.methodLink "WreckSharesLaw" (216 : Nat) ({ cls := "WreckSharesLaw", name := "unequal", desc := "(LWreckShares;I[J)I" } : Jvm.MethodName)) ∈ lw_all := lw_g (lw_at lw_m9 189 rfl) rfl
theorem q2234 : (Jvm.Cond.static ({ cls := "WreckSharesLaw", name := "unequal", desc := "(LWreckShares;I[J)I" } : Jvm.MethodName)) ∈ lw_all := lw_g (lw_at lw_m9 190 rfl) rfl
theorem q2235 : (Jvm.Cond.codeWith ({ cls := "WreckSharesLaw", name := "unequal", desc := "(LWreckShares;I[J)I" } : Jvm.MethodName) method_21_code (4 : Nat) (Option.some Jvm.ClassFile.FieldType.int) [((0 : Nat), (9 : Nat), (12 : Nat), (25 : Nat))]) ∈ lw_all := lw_g (lw_at lw_m9 191 rfl) rfl
theorem q2236 : (Jvm.Cond.methodLink "WreckSharesLaw" (70 : Nat) ({ cls := "WreckShares", name := "unequal", desc := "(I)I" } : Jvm.MethodName)) ∈ lw_all := lw_g (lw_at lw_m9 192 rfl) rfl
theorem q2245 : (Jvm.Cond.methodLink "WreckSharesLaw" (219 : Nat) ({ cls := "WreckSharesLaw", name := "claimTime", desc := "(LWreckShares;I[J)I" } : Jvm.MethodName)) ∈ lw_all := lw_g (lw_at lw_m9 201 rfl) rfl
theorem q2246 : (Jvm.Cond.static ({ cls := "WreckSharesLaw", name := "claimTime", desc := "(LWreckShares;I[J)I" } : Jvm.MethodName)) ∈ lw_all := lw_g (lw_at lw_m9 202 rfl) rfl
theorem q2247 : (Jvm.Cond.codeWith ({ cls := "WreckSharesLaw", name := "claimTime", desc := "(LWreckShares;I[J)I" } : Jvm.MethodName) method_22_code (4 : Nat) (Option.some Jvm.ClassFile.FieldType.int) [((0 : Nat), (9 : Nat), (12 : Nat), (25 : Nat))]) ∈ lw_all := lw_g (lw_at lw_m9 203 rfl) rfl
theorem q2248 : (Jvm.Cond.methodLink "WreckSharesLaw" (73 : Nat) ({ cls := "WreckShares", name := "claimTime", desc := "(I)I" } : Jvm.MethodName)) ∈ lw_all := lw_g (lw_at lw_m9 204 rfl) rfl
theorem q2252 : (Jvm.Cond.methodLink "WreckSharesLaw" (230 : Nat) ({ cls := "WreckSharesLaw", name := "claimCosts", desc := "(LWreckShares;I[J)I" } : Jvm.MethodName)) ∈ lw_all := lw_g (lw_at lw_m9 208 rfl) rfl
theorem q2253 : (Jvm.Cond.static ({ cls := "WreckSharesLaw", name := "claimCosts", desc := "(LWreckShares;I[J)I" } : Jvm.MethodName)) ∈ lw_all := lw_g (lw_at lw_m9 209 rfl) rfl
theorem q2254 : (Jvm.Cond.codeWith ({ cls := "WreckSharesLaw", name := "claimCosts", desc := "(LWreckShares;I[J)I" } : Jvm.MethodName) method_23_code (4 : Nat) (Option.some Jvm.ClassFile.FieldType.int) [((0 : Nat), (9 : Nat), (12 : Nat), (25 : Nat))]) ∈ lw_all := lw_g (lw_at lw_m9 210 rfl) rfl
theorem q2255 : (Jvm.Cond.methodLink "WreckSharesLaw" (76 : Nat) ({ cls := "WreckShares", name := "claimCosts", desc := "(I)I" } : Jvm.MethodName)) ∈ lw_all := lw_g (lw_at lw_m9 211 rfl) rfl
theorem q2261 : (Jvm.Cond.methodLink "WreckSharesLaw" (233 : Nat) ({ cls := "WreckSharesLaw", name := "purseIf", desc := "(LWreckShares;I[J)I" } : Jvm.MethodName)) ∈ lw_all := lw_g (lw_at lw_m9 217 rfl) rfl
theorem q2262 : (Jvm.Cond.static ({ cls := "WreckSharesLaw", name := "purseIf", desc := "(LWreckShares;I[J)I" } : Jvm.MethodName)) ∈ lw_all := lw_g (lw_at lw_m9 218 rfl) rfl
theorem q2263 : (Jvm.Cond.codeWith ({ cls := "WreckSharesLaw", name := "purseIf", desc := "(LWreckShares;I[J)I" } : Jvm.MethodName) method_24_code (4 : Nat) (Option.some Jvm.ClassFile.FieldType.int) [((0 : Nat), (9 : Nat), (12 : Nat), (25 : Nat))]) ∈ lw_all := lw_g (lw_at lw_m9 219 rfl) rfl
theorem q2264 : (Jvm.Cond.methodLink "WreckSharesLaw" (79 : Nat) ({ cls := "WreckShares", name := "purseIf", desc := "(I)I" } : Jvm.MethodName)) ∈ lw_all := lw_g (lw_at lw_m9 220 rfl) rfl
theorem q2268 : (Jvm.Cond.methodLink "WreckSharesLaw" (236 : Nat) ({ cls := "WreckSharesLaw", name := "why", desc := "(LWreckShares;I[J)I" } : Jvm.MethodName)) ∈ lw_all := lw_g (lw_at lw_m9 224 rfl) rfl
theorem q2269 : (Jvm.Cond.static ({ cls := "WreckSharesLaw", name := "why", desc := "(LWreckShares;I[J)I" } : Jvm.MethodName)) ∈ lw_all := lw_g (lw_at lw_m9 225 rfl) rfl
theorem q2270 : (Jvm.Cond.codeWith ({ cls := "WreckSharesLaw", name := "why", desc := "(LWreckShares;I[J)I" } : Jvm.MethodName) method_25_code (4 : Nat) (Option.some Jvm.ClassFile.FieldType.int) [((0 : Nat), (9 : Nat), (12 : Nat), (25 : Nat))]) ∈ lw_all := lw_g (lw_at lw_m9 226 rfl) rfl
theorem q2271 : (Jvm.Cond.methodLink "WreckSharesLaw" (82 : Nat) ({ cls := "WreckShares", name := "why", desc := "(I)I" } : Jvm.MethodName)) ∈ lw_all := lw_g (lw_at lw_m9 227 rfl) rfl
theorem q2280 : (Jvm.Cond.methodLink "WreckSharesLaw" (239 : Nat) ({ cls := "WreckSharesLaw", name := "cause", desc := "(LWreckShares;I[J)I" } : Jvm.MethodName)) ∈ lw_all := lw_g (lw_at lw_m9 236 rfl) rfl
theorem q2281 : (Jvm.Cond.static ({ cls := "WreckSharesLaw", name := "cause", desc := "(LWreckShares;I[J)I" } : Jvm.MethodName)) ∈ lw_all := lw_g (lw_at lw_m9 237 rfl) rfl
theorem q2282 : (Jvm.Cond.codeWith ({ cls := "WreckSharesLaw", name := "cause", desc := "(LWreckShares;I[J)I" } : Jvm.MethodName) method_26_code (4 : Nat) (Option.some Jvm.ClassFile.FieldType.int) [((0 : Nat), (9 : Nat), (12 : Nat), (25 : Nat))]) ∈ lw_all := lw_g (lw_at lw_m9 238 rfl) rfl
theorem q2283 : (Jvm.Cond.methodLink "WreckSharesLaw" (85 : Nat) ({ cls := "WreckShares", name := "cause", desc := "(I)I" } : Jvm.MethodName)) ∈ lw_all := lw_g (lw_at lw_m9 239 rfl) rfl
theorem q2287 : (Jvm.Cond.methodLink "WreckSharesLaw" (242 : Nat) ({ cls := "WreckSharesLaw", name := "whyDivide", desc := "(LWreckShares;I[J)I" } : Jvm.MethodName)) ∈ lw_all := lw_g (lw_at lw_m10 3 rfl) rfl
theorem q2288 : (Jvm.Cond.static ({ cls := "WreckSharesLaw", name := "whyDivide", desc := "(LWreckShares;I[J)I" } : Jvm.MethodName)) ∈ lw_all := lw_g (lw_at lw_m10 4 rfl) rfl
theorem q2289 : (Jvm.Cond.codeWith ({ cls := "WreckSharesLaw", name := "whyDivide", desc := "(LWreckShares;I[J)I" } : Jvm.MethodName) method_27_code (4 : Nat) (Option.some Jvm.ClassFile.FieldType.int) [((0 : Nat), (9 : Nat), (12 : Nat), (25 : Nat))]) ∈ lw_all := lw_g (lw_at lw_m10 5 rfl) rfl
theorem q2290 : (Jvm.Cond.methodLink "WreckSharesLaw" (88 : Nat) ({ cls := "WreckShares", name := "whyDivide", desc := "(I)I" } : Jvm.MethodName)) ∈ lw_all := lw_g (lw_at lw_m10 6 rfl) rfl
theorem q2295 : (Jvm.Cond.methodLink "WreckSharesLaw" (259 : Nat) ({ cls := "WreckSharesLaw", name := "rope", desc := "(LWreckShares;II[J)I" } : Jvm.MethodName)) ∈ lw_all := lw_g (lw_at lw_m10 11 rfl) rfl
theorem q2296 : (Jvm.Cond.static ({ cls := "WreckSharesLaw", name := "rope", desc := "(LWreckShares;II[J)I" } : Jvm.MethodName)) ∈ lw_all := lw_g (lw_at lw_m10 12 rfl) rfl
theorem q2297 : (Jvm.Cond.codeWith ({ cls := "WreckSharesLaw", name := "rope", desc := "(LWreckShares;II[J)I" } : Jvm.MethodName) method_28_code (5 : Nat) (Option.some Jvm.ClassFile.FieldType.int) [((0 : Nat), (10 : Nat), (13 : Nat), (25 : Nat))]) ∈ lw_all := lw_g (lw_at lw_m10 13 rfl) rfl
theorem q2298 : (Jvm.Cond.methodLink "WreckSharesLaw" (91 : Nat) ({ cls := "WreckShares", name := "rope", desc := "(II)I" } : Jvm.MethodName)) ∈ lw_all := lw_g (lw_at lw_m10 14 rfl) rfl
theorem q2315 : (Jvm.Cond.methodLink "WreckSharesLaw" (262 : Nat) ({ cls := "WreckSharesLaw", name := "off", desc := "(LWreckShares;I[J)I" } : Jvm.MethodName)) ∈ lw_all := lw_g (lw_at lw_m10 31 rfl) rfl
theorem q2316 : (Jvm.Cond.static ({ cls := "WreckSharesLaw", name := "off", desc := "(LWreckShares;I[J)I" } : Jvm.MethodName)) ∈ lw_all := lw_g (lw_at lw_m10 32 rfl) rfl
theorem q2317 : (Jvm.Cond.codeWith ({ cls := "WreckSharesLaw", name := "off", desc := "(LWreckShares;I[J)I" } : Jvm.MethodName) method_29_code (4 : Nat) (Option.some Jvm.ClassFile.FieldType.int) [((0 : Nat), (9 : Nat), (12 : Nat), (25 : Nat))]) ∈ lw_all := lw_g (lw_at lw_m10 33 rfl) rfl
theorem q2318 : (Jvm.Cond.methodLink "WreckSharesLaw" (94 : Nat) ({ cls := "WreckShares", name := "off", desc := "(I)I" } : Jvm.MethodName)) ∈ lw_all := lw_g (lw_at lw_m10 34 rfl) rfl
theorem q2328 : (Jvm.Cond.methodLink "WreckSharesLaw" (269 : Nat) ({ cls := "WreckSharesLaw", name := "pay", desc := "(LWreckShares;III[J)I" } : Jvm.MethodName)) ∈ lw_all := lw_g (lw_at lw_m10 44 rfl) rfl
theorem q2329 : (Jvm.Cond.static ({ cls := "WreckSharesLaw", name := "pay", desc := "(LWreckShares;III[J)I" } : Jvm.MethodName)) ∈ lw_all := lw_g (lw_at lw_m10 45 rfl) rfl
theorem q2330 : (Jvm.Cond.codeWith ({ cls := "WreckSharesLaw", name := "pay", desc := "(LWreckShares;III[J)I" } : Jvm.MethodName) method_30_code (6 : Nat) (Option.some Jvm.ClassFile.FieldType.int) [((0 : Nat), (12 : Nat), (15 : Nat), (25 : Nat)), ((0 : Nat), (12 : Nat), (19 : Nat), (13 : Nat))]) ∈ lw_all := lw_g (lw_at lw_m10 46 rfl) rfl
theorem q2331 : (Jvm.Cond.methodLink "WreckSharesLaw" (97 : Nat) ({ cls := "WreckShares", name := "pay", desc := "(III)I" } : Jvm.MethodName)) ∈ lw_all := lw_g (lw_at lw_m10 47 rfl) rfl
theorem q2344 : (Jvm.Cond.methodLink "WreckSharesLaw" (273 : Nat) ({ cls := "WreckSharesLaw", name := "haul", desc := "(LWreckShares;I[J)I" } : Jvm.MethodName)) ∈ lw_all := lw_g (lw_at lw_m10 60 rfl) rfl
theorem q2345 : (Jvm.Cond.static ({ cls := "WreckSharesLaw", name := "haul", desc := "(LWreckShares;I[J)I" } : Jvm.MethodName)) ∈ lw_all := lw_g (lw_at lw_m10 61 rfl) rfl
theorem q2346 : (Jvm.Cond.codeWith ({ cls := "WreckSharesLaw", name := "haul", desc := "(LWreckShares;I[J)I" } : Jvm.MethodName) method_31_code (4 : Nat) (Option.some Jvm.ClassFile.FieldType.int) [((0 : Nat), (9 : Nat), (12 : Nat), (25 : Nat))]) ∈ lw_all := lw_g (lw_at lw_m10 62 rfl) rfl
theorem q2347 : (Jvm.Cond.methodLink "WreckSharesLaw" (101 : Nat) ({ cls := "WreckShares", name := "haul", desc := "(I)I" } : Jvm.MethodName)) ∈ lw_all := lw_g (lw_at lw_m10 63 rfl) rfl
theorem q2366 : (Jvm.Cond.methodLink "WreckSharesLaw" (276 : Nat) ({ cls := "WreckSharesLaw", name := "claim", desc := "(LWreckShares;I[J)I" } : Jvm.MethodName)) ∈ lw_all := lw_g (lw_at lw_m10 82 rfl) rfl
theorem q2367 : (Jvm.Cond.static ({ cls := "WreckSharesLaw", name := "claim", desc := "(LWreckShares;I[J)I" } : Jvm.MethodName)) ∈ lw_all := lw_g (lw_at lw_m10 83 rfl) rfl
theorem q2368 : (Jvm.Cond.codeWith ({ cls := "WreckSharesLaw", name := "claim", desc := "(LWreckShares;I[J)I" } : Jvm.MethodName) method_32_code (4 : Nat) (Option.some Jvm.ClassFile.FieldType.int) [((0 : Nat), (9 : Nat), (12 : Nat), (13 : Nat))]) ∈ lw_all := lw_g (lw_at lw_m10 84 rfl) rfl
theorem q2369 : (Jvm.Cond.methodLink "WreckSharesLaw" (104 : Nat) ({ cls := "WreckShares", name := "claim", desc := "(I)I" } : Jvm.MethodName)) ∈ lw_all := lw_g (lw_at lw_m10 85 rfl) rfl
theorem q2382 : (Jvm.Cond.methodLink "WreckSharesLaw" (279 : Nat) ({ cls := "WreckSharesLaw", name := "divide", desc := "(LWreckShares;I[J)I" } : Jvm.MethodName)) ∈ lw_all := lw_g (lw_at lw_m10 98 rfl) rfl
theorem q2383 : (Jvm.Cond.static ({ cls := "WreckSharesLaw", name := "divide", desc := "(LWreckShares;I[J)I" } : Jvm.MethodName)) ∈ lw_all := lw_g (lw_at lw_m10 99 rfl) rfl
theorem q2384 : (Jvm.Cond.codeWith ({ cls := "WreckSharesLaw", name := "divide", desc := "(LWreckShares;I[J)I" } : Jvm.MethodName) method_33_code (4 : Nat) (Option.some Jvm.ClassFile.FieldType.int) [((0 : Nat), (9 : Nat), (12 : Nat), (25 : Nat))]) ∈ lw_all := lw_g (lw_at lw_m10 100 rfl) rfl
theorem q2385 : (Jvm.Cond.methodLink "WreckSharesLaw" (107 : Nat) ({ cls := "WreckShares", name := "divide", desc := "(I)I" } : Jvm.MethodName)) ∈ lw_all := lw_g (lw_at lw_m10 101 rfl) rfl
theorem q2395 : (Jvm.Cond.methodLink "WreckSharesLaw" (286 : Nat) ({ cls := "WreckSharesLaw", name := "ticks", desc := "(LWreckShares;I[J)I" } : Jvm.MethodName)) ∈ lw_all := lw_g (lw_at lw_m10 111 rfl) rfl
theorem q2396 : (Jvm.Cond.static ({ cls := "WreckSharesLaw", name := "ticks", desc := "(LWreckShares;I[J)I" } : Jvm.MethodName)) ∈ lw_all := lw_g (lw_at lw_m10 112 rfl) rfl
theorem q2397 : (Jvm.Cond.codeWith ({ cls := "WreckSharesLaw", name := "ticks", desc := "(LWreckShares;I[J)I" } : Jvm.MethodName) method_34_code (4 : Nat) (Option.some Jvm.ClassFile.FieldType.int) [((0 : Nat), (9 : Nat), (12 : Nat), (13 : Nat))]) ∈ lw_all := lw_g (lw_at lw_m10 113 rfl) rfl
theorem q2398 : (Jvm.Cond.methodLink "WreckSharesLaw" (110 : Nat) ({ cls := "WreckShares", name := "ticks", desc := "(I)I" } : Jvm.MethodName)) ∈ lw_all := lw_g (lw_at lw_m10 114 rfl) rfl
theorem q2415 : (Jvm.Cond.methodLink "WreckSharesLaw" (289 : Nat) ({ cls := "WreckSharesLaw", name := "play", desc := "(LWreckShares;I[J)I" } : Jvm.MethodName)) ∈ lw_all := lw_g (lw_at lw_m10 131 rfl) rfl
theorem q2416 : (Jvm.Cond.static ({ cls := "WreckSharesLaw", name := "play", desc := "(LWreckShares;I[J)I" } : Jvm.MethodName)) ∈ lw_all := lw_g (lw_at lw_m10 132 rfl) rfl
theorem q2417 : (Jvm.Cond.codeWith ({ cls := "WreckSharesLaw", name := "play", desc := "(LWreckShares;I[J)I" } : Jvm.MethodName) method_35_code (4 : Nat) (Option.some Jvm.ClassFile.FieldType.int) [((0 : Nat), (9 : Nat), (12 : Nat), (13 : Nat))]) ∈ lw_all := lw_g (lw_at lw_m10 133 rfl) rfl
theorem q2418 : (Jvm.Cond.methodLink "WreckSharesLaw" (113 : Nat) ({ cls := "WreckShares", name := "play", desc := "(I)I" } : Jvm.MethodName)) ∈ lw_all := lw_g (lw_at lw_m10 134 rfl) rfl
theorem q2458 : (Jvm.Cond.methodLink "WreckSharesLaw" (292 : Nat) ({ cls := "WreckSharesLaw", name := "format", desc := "(LWreckShares;I[J)I" } : Jvm.MethodName)) ∈ lw_all := lw_g (lw_at lw_m10 174 rfl) rfl
theorem q2459 : (Jvm.Cond.static ({ cls := "WreckSharesLaw", name := "format", desc := "(LWreckShares;I[J)I" } : Jvm.MethodName)) ∈ lw_all := lw_g (lw_at lw_m10 175 rfl) rfl
theorem q2460 : (Jvm.Cond.codeWith ({ cls := "WreckSharesLaw", name := "format", desc := "(LWreckShares;I[J)I" } : Jvm.MethodName) method_36_code (4 : Nat) (Option.some Jvm.ClassFile.FieldType.int) [((0 : Nat), (9 : Nat), (12 : Nat), (25 : Nat))]) ∈ lw_all := lw_g (lw_at lw_m10 176 rfl) rfl
theorem q2461 : (Jvm.Cond.methodLink "WreckSharesLaw" (116 : Nat) ({ cls := "WreckShares", name := "format", desc := "(I)I" } : Jvm.MethodName)) ∈ lw_all := lw_g (lw_at lw_m10 177 rfl) rfl
theorem q2472 : (Jvm.Cond.classLink "WreckSharesLaw" (120 : Nat) "WreckSharesModel") ∈ lw_all := lw_g (lw_at lw_m10 188 rfl) rfl
theorem q2474 : (Jvm.Cond.methodLink "WreckSharesLaw" (122 : Nat) ({ cls := "WreckSharesModel", name := "<init>", desc := "()V" } : Jvm.MethodName)) ∈ lw_all := lw_g (lw_at lw_m10 190 rfl) rfl
theorem q2595 : (Jvm.Cond.methodLink "WreckSharesLaw" (134 : Nat) ({ cls := "WreckSharesModel", name := "thrown", desc := "()I" } : Jvm.MethodName)) ∈ lw_all := lw_g (lw_at lw_m11 71 rfl) rfl
theorem q2599 : (Jvm.Cond.methodLink "WreckSharesLaw" (144 : Nat) ({ cls := "WreckSharesModel", name := "size", desc := "(I)I" } : Jvm.MethodName)) ∈ lw_all := lw_g (lw_at lw_m11 75 rfl) rfl
theorem q2642 : (Jvm.Cond.methodLink "WreckSharesLaw" (147 : Nat) ({ cls := "WreckSharesModel", name := "account", desc := "(I)I" } : Jvm.MethodName)) ∈ lw_all := lw_g (lw_at lw_m11 118 rfl) rfl
theorem q2650 : (Jvm.Cond.methodLink "WreckSharesLaw" (151 : Nat) ({ cls := "WreckSharesModel", name := "good", desc := "(II)I" } : Jvm.MethodName)) ∈ lw_all := lw_g (lw_at lw_m11 126 rfl) rfl
theorem q2662 : (Jvm.Cond.methodLink "WreckSharesLaw" (154 : Nat) ({ cls := "WreckSharesModel", name := "finder", desc := "(II)I" } : Jvm.MethodName)) ∈ lw_all := lw_g (lw_at lw_m11 138 rfl) rfl
theorem q2682 : (Jvm.Cond.methodLink "WreckSharesLaw" (157 : Nat) ({ cls := "WreckSharesModel", name := "owner", desc := "(I)I" } : Jvm.MethodName)) ∈ lw_all := lw_g (lw_at lw_m11 158 rfl) rfl
theorem q2689 : (Jvm.Cond.methodLink "WreckSharesLaw" (161 : Nat) ({ cls := "WreckSharesModel", name := "hand", desc := "(IIZ)I" } : Jvm.MethodName)) ∈ lw_all := lw_g (lw_at lw_m11 165 rfl) rfl
theorem q2693 : (Jvm.Cond.methodLink "WreckSharesLaw" (164 : Nat) ({ cls := "WreckSharesModel", name := "count", desc := "(II)I" } : Jvm.MethodName)) ∈ lw_all := lw_g (lw_at lw_m11 169 rfl) rfl
theorem q2697 : (Jvm.Cond.methodLink "WreckSharesLaw" (167 : Nat) ({ cls := "WreckSharesModel", name := "marked", desc := "(II)I" } : Jvm.MethodName)) ∈ lw_all := lw_g (lw_at lw_m11 173 rfl) rfl
theorem q2701 : (Jvm.Cond.methodLink "WreckSharesLaw" (171 : Nat) ({ cls := "WreckSharesModel", name := "ranked", desc := "(I)I" } : Jvm.MethodName)) ∈ lw_all := lw_g (lw_at lw_m11 177 rfl) rfl
theorem q2709 : (Jvm.Cond.methodLink "WreckSharesLaw" (174 : Nat) ({ cls := "WreckSharesModel", name := "earned", desc := "(I)I" } : Jvm.MethodName)) ∈ lw_all := lw_g (lw_at lw_m11 185 rfl) rfl
theorem q2749 : (Jvm.Cond.methodLink "WreckSharesLaw" (178 : Nat) ({ cls := "WreckSharesModel", name := "richest", desc := "()I" } : Jvm.MethodName)) ∈ lw_all := lw_g (lw_at lw_m11 225 rfl) rfl
theorem q2753 : (Jvm.Cond.methodLink "WreckSharesLaw" (182 : Nat) ({ cls := "WreckSharesModel", name := "gap", desc := "()I" } : Jvm.MethodName)) ∈ lw_all := lw_g (lw_at lw_m11 229 rfl) rfl
theorem q2761 : (Jvm.Cond.methodLink "WreckSharesLaw" (185 : Nat) ({ cls := "WreckSharesModel", name := "level", desc := "(I)I" } : Jvm.MethodName)) ∈ lw_all := lw_g (lw_at lw_m11 237 rfl) rfl
theorem q2766 : (Jvm.Cond.methodLink "WreckSharesLaw" (190 : Nat) ({ cls := "WreckSharesModel", name := "turnIn", desc := "(Z)I" } : Jvm.MethodName)) ∈ lw_all := lw_g (lw_at lw_m12 2 rfl) rfl
theorem q2770 : (Jvm.Cond.methodLink "WreckSharesLaw" (193 : Nat) ({ cls := "WreckSharesModel", name := "dryIn", desc := "(I)I" } : Jvm.MethodName)) ∈ lw_all := lw_g (lw_at lw_m12 6 rfl) rfl
theorem q2778 : (Jvm.Cond.methodLink "WreckSharesLaw" (196 : Nat) ({ cls := "WreckSharesModel", name := "dryTicks", desc := "(I)I" } : Jvm.MethodName)) ∈ lw_all := lw_g (lw_at lw_m12 14 rfl) rfl
theorem q2786 : (Jvm.Cond.methodLink "WreckSharesLaw" (199 : Nat) ({ cls := "WreckSharesModel", name := "lostIn", desc := "(I)I" } : Jvm.MethodName)) ∈ lw_all := lw_g (lw_at lw_m12 22 rfl) rfl
theorem q2794 : (Jvm.Cond.methodLink "WreckSharesLaw" (203 : Nat) ({ cls := "WreckSharesModel", name := "nextLost", desc := "()I" } : Jvm.MethodName)) ∈ lw_all := lw_g (lw_at lw_m12 30 rfl) rfl
theorem q2798 : (Jvm.Cond.methodLink "WreckSharesLaw" (206 : Nat) ({ cls := "WreckSharesModel", name := "lossIn", desc := "(I)I" } : Jvm.MethodName)) ∈ lw_all := lw_g (lw_at lw_m12 34 rfl) rfl
theorem q2802 : (Jvm.Cond.methodLink "WreckSharesLaw" (209 : Nat) ({ cls := "WreckSharesModel", name := "share", desc := "(II)I" } : Jvm.MethodName)) ∈ lw_all := lw_g (lw_at lw_m12 38 rfl) rfl
theorem q2806 : (Jvm.Cond.methodLink "WreckSharesLaw" (212 : Nat) ({ cls := "WreckSharesModel", name := "crownShare", desc := "(I)I" } : Jvm.MethodName)) ∈ lw_all := lw_g (lw_at lw_m12 42 rfl) rfl
theorem q2810 : (Jvm.Cond.methodLink "WreckSharesLaw" (215 : Nat) ({ cls := "WreckSharesModel", name := "ownerShare", desc := "(I)I" } : Jvm.MethodName)) ∈ lw_all := lw_g (lw_at lw_m12 46 rfl) rfl
theorem q2814 : (Jvm.Cond.methodLink "WreckSharesLaw" (218 : Nat) ({ cls := "WreckSharesModel", name := "unequal", desc := "(I)I" } : Jvm.MethodName)) ∈ lw_all := lw_g (lw_at lw_m12 50 rfl) rfl
theorem q2818 : (Jvm.Cond.methodLink "WreckSharesLaw" (221 : Nat) ({ cls := "WreckSharesModel", name := "claimTime", desc := "(I)I" } : Jvm.MethodName)) ∈ lw_all := lw_g (lw_at lw_m12 54 rfl) rfl
theorem q2822 : (Jvm.Cond.methodLink "WreckSharesLaw" (225 : Nat) ({ cls := "WreckSharesModel", name := "bestClaim", desc := "()I" } : Jvm.MethodName)) ∈ lw_all := lw_g (lw_at lw_m12 58 rfl) rfl
theorem q2830 : (Jvm.Cond.methodLink "WreckSharesLaw" (229 : Nat) ({ cls := "WreckSharesModel", name := "firstDue", desc := "()I" } : Jvm.MethodName)) ∈ lw_all := lw_g (lw_at lw_m12 66 rfl) rfl
theorem q2834 : (Jvm.Cond.methodLink "WreckSharesLaw" (232 : Nat) ({ cls := "WreckSharesModel", name := "claimCosts", desc := "(I)I" } : Jvm.MethodName)) ∈ lw_all := lw_g (lw_at lw_m12 70 rfl) rfl
theorem q2838 : (Jvm.Cond.methodLink "WreckSharesLaw" (235 : Nat) ({ cls := "WreckSharesModel", name := "purseIf", desc := "(I)I" } : Jvm.MethodName)) ∈ lw_all := lw_g (lw_at lw_m12 74 rfl) rfl
theorem q2842 : (Jvm.Cond.methodLink "WreckSharesLaw" (238 : Nat) ({ cls := "WreckSharesModel", name := "why", desc := "(I)I" } : Jvm.MethodName)) ∈ lw_all := lw_g (lw_at lw_m12 78 rfl) rfl
theorem q2850 : (Jvm.Cond.methodLink "WreckSharesLaw" (241 : Nat) ({ cls := "WreckSharesModel", name := "cause", desc := "(I)I" } : Jvm.MethodName)) ∈ lw_all := lw_g (lw_at lw_m12 86 rfl) rfl
theorem q2854 : (Jvm.Cond.methodLink "WreckSharesLaw" (244 : Nat) ({ cls := "WreckSharesModel", name := "whyDivide", desc := "(I)I" } : Jvm.MethodName)) ∈ lw_all := lw_g (lw_at lw_m12 90 rfl) rfl
theorem q2862 : (Jvm.Cond.methodLink "WreckSharesLaw" (248 : Nat) ({ cls := "WreckSharesModel", name := "bestHaul", desc := "()I" } : Jvm.MethodName)) ∈ lw_all := lw_g (lw_at lw_m12 98 rfl) rfl
theorem q2866 : (Jvm.Cond.methodLink "WreckSharesLaw" (253 : Nat) ({ cls := "WreckSharesModel", name := "savedShare", desc := "()F" } : Jvm.MethodName)) ∈ lw_all := lw_g (lw_at lw_m12 102 rfl) rfl
theorem q2870 : (Jvm.Cond.methodLink "WreckSharesLaw" (258 : Nat) ({ cls := "WreckSharesModel", name := "crownPart", desc := "()D" } : Jvm.MethodName)) ∈ lw_all := lw_g (lw_at lw_m12 106 rfl) rfl
theorem q2874 : (Jvm.Cond.methodLink "WreckSharesLaw" (261 : Nat) ({ cls := "WreckSharesModel", name := "rope", desc := "(II)I" } : Jvm.MethodName)) ∈ lw_all := lw_g (lw_at lw_m12 110 rfl) rfl
theorem q2910 : (Jvm.Cond.methodLink "WreckSharesLaw" (264 : Nat) ({ cls := "WreckSharesModel", name := "off", desc := "(I)I" } : Jvm.MethodName)) ∈ lw_all := lw_g (lw_at lw_m12 146 rfl) rfl
theorem q2918 : (Jvm.Cond.methodLink "WreckSharesLaw" (268 : Nat) ({ cls := "WreckSharesModel", name := "offAll", desc := "()I" } : Jvm.MethodName)) ∈ lw_all := lw_g (lw_at lw_m12 154 rfl) rfl
theorem q2926 : (Jvm.Cond.methodLink "WreckSharesLaw" (272 : Nat) ({ cls := "WreckSharesModel", name := "pay", desc := "(III)I" } : Jvm.MethodName)) ∈ lw_all := lw_g (lw_at lw_m12 162 rfl) rfl
theorem q2934 : (Jvm.Cond.methodLink "WreckSharesLaw" (275 : Nat) ({ cls := "WreckSharesModel", name := "haul", desc := "(I)I" } : Jvm.MethodName)) ∈ lw_all := lw_g (lw_at lw_m12 170 rfl) rfl
theorem q2950 : (Jvm.Cond.methodLink "WreckSharesLaw" (278 : Nat) ({ cls := "WreckSharesModel", name := "claim", desc := "(I)I" } : Jvm.MethodName)) ∈ lw_all := lw_g (lw_at lw_m12 186 rfl) rfl
theorem q2958 : (Jvm.Cond.methodLink "WreckSharesLaw" (281 : Nat) ({ cls := "WreckSharesModel", name := "divide", desc := "(I)I" } : Jvm.MethodName)) ∈ lw_all := lw_g (lw_at lw_m12 194 rfl) rfl
theorem q2970 : (Jvm.Cond.methodLink "WreckSharesLaw" (285 : Nat) ({ cls := "WreckSharesModel", name := "divideAll", desc := "()I" } : Jvm.MethodName)) ∈ lw_all := lw_g (lw_at lw_m12 206 rfl) rfl
theorem q2978 : (Jvm.Cond.methodLink "WreckSharesLaw" (288 : Nat) ({ cls := "WreckSharesModel", name := "ticks", desc := "(I)I" } : Jvm.MethodName)) ∈ lw_all := lw_g (lw_at lw_m12 214 rfl) rfl
theorem q2998 : (Jvm.Cond.methodLink "WreckSharesLaw" (294 : Nat) ({ cls := "WreckSharesModel", name := "format", desc := "(I)I" } : Jvm.MethodName)) ∈ lw_all := lw_g (lw_at lw_m12 234 rfl) rfl
theorem q3010 : (Jvm.Cond.methodLink "WreckSharesLaw" (298 : Nat) ({ cls := "WreckSharesModel", name := "formattedByte", desc := "(I)I" } : Jvm.MethodName)) ∈ lw_all := lw_g (lw_at lw_m13 6 rfl) rfl
theorem q3014 : (Jvm.Cond.methodLink "WreckSharesLaw" (302 : Nat) ({ cls := "WreckSharesModel", name := "undoCount", desc := "()I" } : Jvm.MethodName)) ∈ lw_all := lw_g (lw_at lw_m13 10 rfl) rfl
theorem q3018 : (Jvm.Cond.methodLink "WreckSharesLaw" (306 : Nat) ({ cls := "WreckSharesModel", name := "undo", desc := "()I" } : Jvm.MethodName)) ∈ lw_all := lw_g (lw_at lw_m13 14 rfl) rfl
theorem q3022 : (Jvm.Cond.methodLink "WreckSharesLaw" (310 : Nat) ({ cls := "WreckSharesModel", name := "saveSnapshot", desc := "()V" } : Jvm.MethodName)) ∈ lw_all := lw_g (lw_at lw_m13 18 rfl) rfl
theorem q3026 : (Jvm.Cond.methodLink "WreckSharesLaw" (315 : Nat) ({ cls := "WreckSharesModel", name := "restoreSnapshot", desc := "()Z" } : Jvm.MethodName)) ∈ lw_all := lw_g (lw_at lw_m13 22 rfl) rfl
theorem q3030 : (Jvm.Cond.methodLink "WreckSharesLaw" (127 : Nat) ({ cls := "WreckSharesModel", name := "feed", desc := "(IIIII)I" } : Jvm.MethodName)) ∈ lw_all := lw_g (lw_at lw_m13 26 rfl) rfl
theorem q3034 : (Jvm.Cond.methodLink "WreckSharesLaw" (141 : Nat) ({ cls := "WreckSharesModel", name := "errorPosition", desc := "()I" } : Jvm.MethodName)) ∈ lw_all := lw_g (lw_at lw_m13 30 rfl) rfl
theorem q3038 : (Jvm.Cond.methodLink "WreckSharesLaw" (133 : Nat) ({ cls := "WreckSharesModel", name := "load", desc := "(I)I" } : Jvm.MethodName)) ∈ lw_all := lw_g (lw_at lw_m13 34 rfl) rfl
theorem q3119 : (Jvm.Cond.methodLink "WreckSharesLaw" (291 : Nat) ({ cls := "WreckSharesModel", name := "play", desc := "(I)I" } : Jvm.MethodName)) ∈ lw_all := lw_g (lw_at lw_m13 115 rfl) rfl

/-! WreckShares -/
def RX1 : String := "WreckShares"
def TX1 : u_T := fun k => match k with
  | 0 => ("WreckShares", "buffer", "[B", true)
  | 1 => ("WreckShares", "buffered", "I", false)
  | 2 => ("WreckShares", "errorAt", "I", false)
  | 3 => ("WreckShares", "now", "LWreckShares$Shore;", false)
  | 4 => ("WreckShares", "snapshot", "LWreckShares$Shore;", false)
  | 5 => ("WreckShares", "history", "Ljava/util/ArrayDeque;", true)
  | 6 => ("WreckShares", "counts", "[I", true)
  | _ => ("WreckShares", "formatted", "Ljava/lang/String;", false)
def tyX1 : Nat → FieldType := fun k => match k with
  | 0 => .array .byte
  | 1 => .int
  | 2 => .int
  | 3 => .object "WreckShares$Shore"
  | 4 => .object "WreckShares$Shore"
  | 5 => .object "java/util/ArrayDeque"
  | 6 => .array .int
  | _ => .object "java/lang/String"
abbrev wsX10 : List Cond := u_ws RX1 TX1 8
theorem nmX1 : ∀ a, a < 8 → ∀ b, b < 8 → a ≠ b → (TX1 a).2.1 ≠ (TX1 b).2.1 := by decide +kernel
theorem tyX1_ok : ∀ k, k < 8 → parseFieldDescriptor (TX1 k).2.2.1 = some (tyX1 k) := by decide +kernel
abbrev cX1_init : ByteArray := prog_1_method_16_code
def yX1_init : MethodName := ⟨RX1, "<init>", "()V"⟩
def dkwX1_init_2 : List UInt8 := [181, 0, 92, 177]
abbrev dktX1_init_2 : List UInt8 := dkwX1_init_2 ++ []
def dkwX1_init_1 : List UInt8 := [181, 0, 75, 42, 187, 0, 79, 89, 183, 0, 81, 181, 0, 82, 42, 6, 188, 10, 181, 0, 86, 42, 18, 90]
abbrev dktX1_init_1 : List UInt8 := dkwX1_init_1 ++ dktX1_init_2
def dkwX1_init_0 : List UInt8 := [42, 183, 0, 58, 42, 17, 2, 188, 188, 8, 181, 0, 63, 42, 2, 181, 0, 67, 42, 184, 0, 71]
abbrev dktX1_init_0 : List UInt8 := dkwX1_init_0 ++ dktX1_init_1
theorem dksX1_init_0 : cX1_init.data.toList.drop 0 = dktX1_init_0 := by decide +kernel
theorem dksX1_init_1 : cX1_init.data.toList.drop 22 = dktX1_init_1 := dk_seg dksX1_init_0 22 rfl rfl
theorem dksX1_init_2 : cX1_init.data.toList.drop 46 = dktX1_init_2 := dk_seg dksX1_init_1 24 rfl rfl
theorem dX1_init_0 : decode cX1_init 0 = .ok (.aload_n 0, 1) := dk_42 (dk_at dksX1_init_0 0 rfl rfl)
theorem dX1_init_1 : decode cX1_init 1 = .ok (.invokespecial 58, 3) := dk_183 0 58 (dk_at dksX1_init_0 1 rfl rfl)
theorem dX1_init_4 : decode cX1_init 4 = .ok (.aload_n 0, 1) := dk_42 (dk_at dksX1_init_0 4 rfl rfl)
theorem dX1_init_5 : decode cX1_init 5 = .ok (.sipush 700, 3) := dk_17 2 188 (dk_at dksX1_init_0 5 rfl rfl)
theorem dX1_init_8 : decode cX1_init 8 = .ok (.newarray .byte, 2) := dk_188_8 (dk_at dksX1_init_0 8 rfl rfl)
theorem dX1_init_10 : decode cX1_init 10 = .ok (.putfield 63, 3) := dk_181 0 63 (dk_at dksX1_init_0 10 rfl rfl)
theorem dX1_init_13 : decode cX1_init 13 = .ok (.aload_n 0, 1) := dk_42 (dk_at dksX1_init_0 13 rfl rfl)
theorem dX1_init_14 : decode cX1_init 14 = .ok (.iconst (-1), 1) := dk_2 (dk_at dksX1_init_0 14 rfl rfl)
theorem dX1_init_15 : decode cX1_init 15 = .ok (.putfield 67, 3) := dk_181 0 67 (dk_at dksX1_init_0 15 rfl rfl)
theorem dX1_init_18 : decode cX1_init 18 = .ok (.aload_n 0, 1) := dk_42 (dk_at dksX1_init_0 18 rfl rfl)
theorem dX1_init_19 : decode cX1_init 19 = .ok (.invokestatic 71, 3) := dk_184 0 71 (dk_at dksX1_init_0 19 rfl rfl)
theorem dX1_init_22 : decode cX1_init 22 = .ok (.putfield 75, 3) := dk_181 0 75 (dk_at dksX1_init_1 0 rfl rfl)
theorem dX1_init_25 : decode cX1_init 25 = .ok (.aload_n 0, 1) := dk_42 (dk_at dksX1_init_1 3 rfl rfl)
theorem dX1_init_26 : decode cX1_init 26 = .ok (.new 79, 3) := dk_187 0 79 (dk_at dksX1_init_1 4 rfl rfl)
theorem dX1_init_29 : decode cX1_init 29 = .ok (.dup, 1) := dk_89 (dk_at dksX1_init_1 7 rfl rfl)
theorem dX1_init_30 : decode cX1_init 30 = .ok (.invokespecial 81, 3) := dk_183 0 81 (dk_at dksX1_init_1 8 rfl rfl)
theorem dX1_init_33 : decode cX1_init 33 = .ok (.putfield 82, 3) := dk_181 0 82 (dk_at dksX1_init_1 11 rfl rfl)
theorem dX1_init_36 : decode cX1_init 36 = .ok (.aload_n 0, 1) := dk_42 (dk_at dksX1_init_1 14 rfl rfl)
theorem dX1_init_37 : decode cX1_init 37 = .ok (.iconst 3, 1) := dk_6 (dk_at dksX1_init_1 15 rfl rfl)
theorem dX1_init_38 : decode cX1_init 38 = .ok (.newarray .int, 2) := dk_188_10 (dk_at dksX1_init_1 16 rfl rfl)
theorem dX1_init_40 : decode cX1_init 40 = .ok (.putfield 86, 3) := dk_181 0 86 (dk_at dksX1_init_1 18 rfl rfl)
theorem dX1_init_43 : decode cX1_init 43 = .ok (.aload_n 0, 1) := dk_42 (dk_at dksX1_init_1 21 rfl rfl)
theorem dX1_init_44 : decode cX1_init 44 = .ok (.ldc 90, 2) := dk_18 90 (dk_at dksX1_init_1 22 rfl rfl)
theorem dX1_init_46 : decode cX1_init 46 = .ok (.putfield 92, 3) := dk_181 0 92 (dk_at dksX1_init_2 0 rfl rfl)
theorem dX1_init_49 : decode cX1_init 49 = .ok (.return_, 1) := dk_177 (dk_at dksX1_init_2 3 rfl rfl)
abbrev cX1_plain : ByteArray := prog_1_method_15_code
def yX1_plain : MethodName := ⟨RX1, "plain", "()LWreckShares$Shore;"⟩
def dkwX1_plain_5 : List UInt8 := [185, 0, 54, 2, 0, 87, 42, 176]
abbrev dktX1_plain_5 : List UInt8 := dkwX1_plain_5 ++ []
def dkwX1_plain_4 : List UInt8 := [180, 0, 10, 187, 0, 43, 89, 6, 6, 184, 0, 45, 17, 3, 231, 16, 9, 6, 5, 183, 0, 51]
abbrev dktX1_plain_4 : List UInt8 := dkwX1_plain_4 ++ dktX1_plain_5
def dkwX1_plain_3 : List UInt8 := [187, 0, 43, 89, 5, 5, 184, 0, 45, 16, 31, 3, 4, 3, 183, 0, 51, 185, 0, 54, 2, 0, 87, 42]
abbrev dktX1_plain_3 : List UInt8 := dkwX1_plain_3 ++ dktX1_plain_4
def dkwX1_plain_2 : List UInt8 := [89, 4, 4, 184, 0, 45, 16, 57, 5, 5, 4, 183, 0, 51, 185, 0, 54, 2, 0, 87, 42, 180, 0, 10]
abbrev dktX1_plain_2 : List UInt8 := dkwX1_plain_2 ++ dktX1_plain_3
def dkwX1_plain_1 : List UInt8 := [184, 0, 45, 16, 100, 7, 4, 3, 183, 0, 51, 185, 0, 54, 2, 0, 87, 42, 180, 0, 10, 187, 0, 43]
abbrev dktX1_plain_1 : List UInt8 := dkwX1_plain_1 ++ dktX1_plain_2
def dkwX1_plain_0 : List UInt8 := [187, 0, 11, 89, 16, 8, 16, 6, 6, 6, 183, 0, 40, 75, 42, 180, 0, 10, 187, 0, 43, 89, 3, 3]
abbrev dktX1_plain_0 : List UInt8 := dkwX1_plain_0 ++ dktX1_plain_1
theorem dksX1_plain_0 : cX1_plain.data.toList.drop 0 = dktX1_plain_0 := by decide +kernel
theorem dksX1_plain_1 : cX1_plain.data.toList.drop 24 = dktX1_plain_1 := dk_seg dksX1_plain_0 24 rfl rfl
theorem dksX1_plain_2 : cX1_plain.data.toList.drop 48 = dktX1_plain_2 := dk_seg dksX1_plain_1 24 rfl rfl
theorem dksX1_plain_3 : cX1_plain.data.toList.drop 72 = dktX1_plain_3 := dk_seg dksX1_plain_2 24 rfl rfl
theorem dksX1_plain_4 : cX1_plain.data.toList.drop 96 = dktX1_plain_4 := dk_seg dksX1_plain_3 24 rfl rfl
theorem dksX1_plain_5 : cX1_plain.data.toList.drop 118 = dktX1_plain_5 := dk_seg dksX1_plain_4 22 rfl rfl
theorem dX1_plain_0 : decode cX1_plain 0 = .ok (.new 11, 3) := dk_187 0 11 (dk_at dksX1_plain_0 0 rfl rfl)
theorem dX1_plain_3 : decode cX1_plain 3 = .ok (.dup, 1) := dk_89 (dk_at dksX1_plain_0 3 rfl rfl)
theorem dX1_plain_4 : decode cX1_plain 4 = .ok (.bipush 8, 2) := dk_16 8 (dk_at dksX1_plain_0 4 rfl rfl)
theorem dX1_plain_6 : decode cX1_plain 6 = .ok (.bipush 6, 2) := dk_16 6 (dk_at dksX1_plain_0 6 rfl rfl)
theorem dX1_plain_8 : decode cX1_plain 8 = .ok (.iconst 3, 1) := dk_6 (dk_at dksX1_plain_0 8 rfl rfl)
theorem dX1_plain_9 : decode cX1_plain 9 = .ok (.iconst 3, 1) := dk_6 (dk_at dksX1_plain_0 9 rfl rfl)
theorem dX1_plain_10 : decode cX1_plain 10 = .ok (.invokespecial 40, 3) := dk_183 0 40 (dk_at dksX1_plain_0 10 rfl rfl)
theorem dX1_plain_13 : decode cX1_plain 13 = .ok (.astore_n 0, 1) := dk_75 (dk_at dksX1_plain_0 13 rfl rfl)
theorem dX1_plain_14 : decode cX1_plain 14 = .ok (.aload_n 0, 1) := dk_42 (dk_at dksX1_plain_0 14 rfl rfl)
theorem dX1_plain_15 : decode cX1_plain 15 = .ok (.getfield 10, 3) := dk_180 0 10 (dk_at dksX1_plain_0 15 rfl rfl)
theorem dX1_plain_18 : decode cX1_plain 18 = .ok (.new 43, 3) := dk_187 0 43 (dk_at dksX1_plain_0 18 rfl rfl)
theorem dX1_plain_21 : decode cX1_plain 21 = .ok (.dup, 1) := dk_89 (dk_at dksX1_plain_0 21 rfl rfl)
theorem dX1_plain_22 : decode cX1_plain 22 = .ok (.iconst 0, 1) := dk_3 (dk_at dksX1_plain_0 22 rfl rfl)
theorem dX1_plain_23 : decode cX1_plain 23 = .ok (.iconst 0, 1) := dk_3 (dk_at dksX1_plain_0 23 rfl rfl)
theorem dX1_plain_24 : decode cX1_plain 24 = .ok (.invokestatic 45, 3) := dk_184 0 45 (dk_at dksX1_plain_1 0 rfl rfl)
theorem dX1_plain_27 : decode cX1_plain 27 = .ok (.bipush 100, 2) := dk_16 100 (dk_at dksX1_plain_1 3 rfl rfl)
theorem dX1_plain_29 : decode cX1_plain 29 = .ok (.iconst 4, 1) := dk_7 (dk_at dksX1_plain_1 5 rfl rfl)
theorem dX1_plain_30 : decode cX1_plain 30 = .ok (.iconst 1, 1) := dk_4 (dk_at dksX1_plain_1 6 rfl rfl)
theorem dX1_plain_31 : decode cX1_plain 31 = .ok (.iconst 0, 1) := dk_3 (dk_at dksX1_plain_1 7 rfl rfl)
theorem dX1_plain_32 : decode cX1_plain 32 = .ok (.invokespecial 51, 3) := dk_183 0 51 (dk_at dksX1_plain_1 8 rfl rfl)
theorem dX1_plain_35 : decode cX1_plain 35 = .ok (.invokeinterface 54 2, 5) := by decide +kernel
theorem dX1_plain_40 : decode cX1_plain 40 = .ok (.pop, 1) := dk_87 (dk_at dksX1_plain_1 16 rfl rfl)
theorem dX1_plain_41 : decode cX1_plain 41 = .ok (.aload_n 0, 1) := dk_42 (dk_at dksX1_plain_1 17 rfl rfl)
theorem dX1_plain_42 : decode cX1_plain 42 = .ok (.getfield 10, 3) := dk_180 0 10 (dk_at dksX1_plain_1 18 rfl rfl)
theorem dX1_plain_45 : decode cX1_plain 45 = .ok (.new 43, 3) := dk_187 0 43 (dk_at dksX1_plain_1 21 rfl rfl)
theorem dX1_plain_48 : decode cX1_plain 48 = .ok (.dup, 1) := dk_89 (dk_at dksX1_plain_2 0 rfl rfl)
theorem dX1_plain_49 : decode cX1_plain 49 = .ok (.iconst 1, 1) := dk_4 (dk_at dksX1_plain_2 1 rfl rfl)
theorem dX1_plain_50 : decode cX1_plain 50 = .ok (.iconst 1, 1) := dk_4 (dk_at dksX1_plain_2 2 rfl rfl)
theorem dX1_plain_51 : decode cX1_plain 51 = .ok (.invokestatic 45, 3) := dk_184 0 45 (dk_at dksX1_plain_2 3 rfl rfl)
theorem dX1_plain_54 : decode cX1_plain 54 = .ok (.bipush 57, 2) := dk_16 57 (dk_at dksX1_plain_2 6 rfl rfl)
theorem dX1_plain_56 : decode cX1_plain 56 = .ok (.iconst 2, 1) := dk_5 (dk_at dksX1_plain_2 8 rfl rfl)
theorem dX1_plain_57 : decode cX1_plain 57 = .ok (.iconst 2, 1) := dk_5 (dk_at dksX1_plain_2 9 rfl rfl)
theorem dX1_plain_58 : decode cX1_plain 58 = .ok (.iconst 1, 1) := dk_4 (dk_at dksX1_plain_2 10 rfl rfl)
theorem dX1_plain_59 : decode cX1_plain 59 = .ok (.invokespecial 51, 3) := dk_183 0 51 (dk_at dksX1_plain_2 11 rfl rfl)
theorem dX1_plain_62 : decode cX1_plain 62 = .ok (.invokeinterface 54 2, 5) := by decide +kernel
theorem dX1_plain_67 : decode cX1_plain 67 = .ok (.pop, 1) := dk_87 (dk_at dksX1_plain_2 19 rfl rfl)
theorem dX1_plain_68 : decode cX1_plain 68 = .ok (.aload_n 0, 1) := dk_42 (dk_at dksX1_plain_2 20 rfl rfl)
theorem dX1_plain_69 : decode cX1_plain 69 = .ok (.getfield 10, 3) := dk_180 0 10 (dk_at dksX1_plain_2 21 rfl rfl)
theorem dX1_plain_72 : decode cX1_plain 72 = .ok (.new 43, 3) := dk_187 0 43 (dk_at dksX1_plain_3 0 rfl rfl)
theorem dX1_plain_75 : decode cX1_plain 75 = .ok (.dup, 1) := dk_89 (dk_at dksX1_plain_3 3 rfl rfl)
theorem dX1_plain_76 : decode cX1_plain 76 = .ok (.iconst 2, 1) := dk_5 (dk_at dksX1_plain_3 4 rfl rfl)
theorem dX1_plain_77 : decode cX1_plain 77 = .ok (.iconst 2, 1) := dk_5 (dk_at dksX1_plain_3 5 rfl rfl)
theorem dX1_plain_78 : decode cX1_plain 78 = .ok (.invokestatic 45, 3) := dk_184 0 45 (dk_at dksX1_plain_3 6 rfl rfl)
theorem dX1_plain_81 : decode cX1_plain 81 = .ok (.bipush 31, 2) := dk_16 31 (dk_at dksX1_plain_3 9 rfl rfl)
theorem dX1_plain_83 : decode cX1_plain 83 = .ok (.iconst 0, 1) := dk_3 (dk_at dksX1_plain_3 11 rfl rfl)
theorem dX1_plain_84 : decode cX1_plain 84 = .ok (.iconst 1, 1) := dk_4 (dk_at dksX1_plain_3 12 rfl rfl)
theorem dX1_plain_85 : decode cX1_plain 85 = .ok (.iconst 0, 1) := dk_3 (dk_at dksX1_plain_3 13 rfl rfl)
theorem dX1_plain_86 : decode cX1_plain 86 = .ok (.invokespecial 51, 3) := dk_183 0 51 (dk_at dksX1_plain_3 14 rfl rfl)
theorem dX1_plain_89 : decode cX1_plain 89 = .ok (.invokeinterface 54 2, 5) := by decide +kernel
theorem dX1_plain_94 : decode cX1_plain 94 = .ok (.pop, 1) := dk_87 (dk_at dksX1_plain_3 22 rfl rfl)
theorem dX1_plain_95 : decode cX1_plain 95 = .ok (.aload_n 0, 1) := dk_42 (dk_at dksX1_plain_3 23 rfl rfl)
theorem dX1_plain_96 : decode cX1_plain 96 = .ok (.getfield 10, 3) := dk_180 0 10 (dk_at dksX1_plain_4 0 rfl rfl)
theorem dX1_plain_99 : decode cX1_plain 99 = .ok (.new 43, 3) := dk_187 0 43 (dk_at dksX1_plain_4 3 rfl rfl)
theorem dX1_plain_102 : decode cX1_plain 102 = .ok (.dup, 1) := dk_89 (dk_at dksX1_plain_4 6 rfl rfl)
theorem dX1_plain_103 : decode cX1_plain 103 = .ok (.iconst 3, 1) := dk_6 (dk_at dksX1_plain_4 7 rfl rfl)
theorem dX1_plain_104 : decode cX1_plain 104 = .ok (.iconst 3, 1) := dk_6 (dk_at dksX1_plain_4 8 rfl rfl)
theorem dX1_plain_105 : decode cX1_plain 105 = .ok (.invokestatic 45, 3) := dk_184 0 45 (dk_at dksX1_plain_4 9 rfl rfl)
theorem dX1_plain_108 : decode cX1_plain 108 = .ok (.sipush 999, 3) := dk_17 3 231 (dk_at dksX1_plain_4 12 rfl rfl)
theorem dX1_plain_111 : decode cX1_plain 111 = .ok (.bipush 9, 2) := dk_16 9 (dk_at dksX1_plain_4 15 rfl rfl)
theorem dX1_plain_113 : decode cX1_plain 113 = .ok (.iconst 3, 1) := dk_6 (dk_at dksX1_plain_4 17 rfl rfl)
theorem dX1_plain_114 : decode cX1_plain 114 = .ok (.iconst 2, 1) := dk_5 (dk_at dksX1_plain_4 18 rfl rfl)
theorem dX1_plain_115 : decode cX1_plain 115 = .ok (.invokespecial 51, 3) := dk_183 0 51 (dk_at dksX1_plain_4 19 rfl rfl)
theorem dX1_plain_118 : decode cX1_plain 118 = .ok (.invokeinterface 54 2, 5) := by decide +kernel
theorem dX1_plain_123 : decode cX1_plain 123 = .ok (.pop, 1) := dk_87 (dk_at dksX1_plain_5 5 rfl rfl)
theorem dX1_plain_124 : decode cX1_plain 124 = .ok (.aload_n 0, 1) := dk_42 (dk_at dksX1_plain_5 6 rfl rfl)
theorem dX1_plain_125 : decode cX1_plain 125 = .ok (.areturn, 1) := dk_176 (dk_at dksX1_plain_5 7 rfl rfl)
abbrev cX1_feed : ByteArray := prog_1_method_18_code
def yX1_feed : MethodName := ⟨RX1, "feed", "(IIIII)I"⟩
def dkwX1_feed_2 : List UInt8 := [172]
abbrev dktX1_feed_2 : List UInt8 := dkwX1_feed_2 ++ []
def dkwX1_feed_1 : List UInt8 := [182, 0, 99, 42, 29, 182, 0, 99, 42, 21, 4, 182, 0, 99, 42, 21, 5, 182, 0, 99, 42, 180, 0, 96]
abbrev dktX1_feed_1 : List UInt8 := dkwX1_feed_1 ++ dktX1_feed_2
def dkwX1_feed_0 : List UInt8 := [42, 180, 0, 96, 16, 20, 96, 17, 2, 188, 164, 0, 5, 2, 172, 42, 27, 182, 0, 99, 42, 28]
abbrev dktX1_feed_0 : List UInt8 := dkwX1_feed_0 ++ dktX1_feed_1
theorem dksX1_feed_0 : cX1_feed.data.toList.drop 0 = dktX1_feed_0 := by decide +kernel
theorem dksX1_feed_1 : cX1_feed.data.toList.drop 22 = dktX1_feed_1 := dk_seg dksX1_feed_0 22 rfl rfl
theorem dksX1_feed_2 : cX1_feed.data.toList.drop 46 = dktX1_feed_2 := dk_seg dksX1_feed_1 24 rfl rfl
theorem dX1_feed_0 : decode cX1_feed 0 = .ok (.aload_n 0, 1) := dk_42 (dk_at dksX1_feed_0 0 rfl rfl)
theorem dX1_feed_1 : decode cX1_feed 1 = .ok (.getfield 96, 3) := dk_180 0 96 (dk_at dksX1_feed_0 1 rfl rfl)
theorem dX1_feed_4 : decode cX1_feed 4 = .ok (.bipush 20, 2) := dk_16 20 (dk_at dksX1_feed_0 4 rfl rfl)
theorem dX1_feed_6 : decode cX1_feed 6 = .ok (.iadd, 1) := dk_96 (dk_at dksX1_feed_0 6 rfl rfl)
theorem dX1_feed_7 : decode cX1_feed 7 = .ok (.sipush 700, 3) := dk_17 2 188 (dk_at dksX1_feed_0 7 rfl rfl)
theorem dX1_feed_10 : decode cX1_feed 10 = .ok (.if_icmp .le 5, 3) := dk_164 0 5 (dk_at dksX1_feed_0 10 rfl rfl)
theorem dX1_feed_13 : decode cX1_feed 13 = .ok (.iconst (-1), 1) := dk_2 (dk_at dksX1_feed_0 13 rfl rfl)
theorem dX1_feed_14 : decode cX1_feed 14 = .ok (.ireturn, 1) := dk_172 (dk_at dksX1_feed_0 14 rfl rfl)
theorem dX1_feed_15 : decode cX1_feed 15 = .ok (.aload_n 0, 1) := dk_42 (dk_at dksX1_feed_0 15 rfl rfl)
theorem dX1_feed_16 : decode cX1_feed 16 = .ok (.iload_n 1, 1) := dk_27 (dk_at dksX1_feed_0 16 rfl rfl)
theorem dX1_feed_17 : decode cX1_feed 17 = .ok (.invokevirtual 99, 3) := dk_182 0 99 (dk_at dksX1_feed_0 17 rfl rfl)
theorem dX1_feed_20 : decode cX1_feed 20 = .ok (.aload_n 0, 1) := dk_42 (dk_at dksX1_feed_0 20 rfl rfl)
theorem dX1_feed_21 : decode cX1_feed 21 = .ok (.iload_n 2, 1) := dk_28 (dk_at dksX1_feed_0 21 rfl rfl)
theorem dX1_feed_22 : decode cX1_feed 22 = .ok (.invokevirtual 99, 3) := dk_182 0 99 (dk_at dksX1_feed_1 0 rfl rfl)
theorem dX1_feed_25 : decode cX1_feed 25 = .ok (.aload_n 0, 1) := dk_42 (dk_at dksX1_feed_1 3 rfl rfl)
theorem dX1_feed_26 : decode cX1_feed 26 = .ok (.iload_n 3, 1) := dk_29 (dk_at dksX1_feed_1 4 rfl rfl)
theorem dX1_feed_27 : decode cX1_feed 27 = .ok (.invokevirtual 99, 3) := dk_182 0 99 (dk_at dksX1_feed_1 5 rfl rfl)
theorem dX1_feed_30 : decode cX1_feed 30 = .ok (.aload_n 0, 1) := dk_42 (dk_at dksX1_feed_1 8 rfl rfl)
theorem dX1_feed_31 : decode cX1_feed 31 = .ok (.iload 4, 2) := dk_21 4 (dk_at dksX1_feed_1 9 rfl rfl)
theorem dX1_feed_33 : decode cX1_feed 33 = .ok (.invokevirtual 99, 3) := dk_182 0 99 (dk_at dksX1_feed_1 11 rfl rfl)
theorem dX1_feed_36 : decode cX1_feed 36 = .ok (.aload_n 0, 1) := dk_42 (dk_at dksX1_feed_1 14 rfl rfl)
theorem dX1_feed_37 : decode cX1_feed 37 = .ok (.iload 5, 2) := dk_21 5 (dk_at dksX1_feed_1 15 rfl rfl)
theorem dX1_feed_39 : decode cX1_feed 39 = .ok (.invokevirtual 99, 3) := dk_182 0 99 (dk_at dksX1_feed_1 17 rfl rfl)
theorem dX1_feed_42 : decode cX1_feed 42 = .ok (.aload_n 0, 1) := dk_42 (dk_at dksX1_feed_1 20 rfl rfl)
theorem dX1_feed_43 : decode cX1_feed 43 = .ok (.getfield 96, 3) := dk_180 0 96 (dk_at dksX1_feed_1 21 rfl rfl)
theorem dX1_feed_46 : decode cX1_feed 46 = .ok (.ireturn, 1) := dk_172 (dk_at dksX1_feed_2 0 rfl rfl)
abbrev cX1_append : ByteArray := prog_1_method_17_code
def yX1_append : MethodName := ⟨RX1, "append", "(I)V"⟩
def dkwX1_append_1 : List UInt8 := [180, 0, 96, 4, 96, 181, 0, 96, 132, 2, 248, 167, 255, 226, 177]
abbrev dktX1_append_1 : List UInt8 := dkwX1_append_1 ++ []
def dkwX1_append_0 : List UInt8 := [16, 24, 61, 28, 155, 0, 32, 42, 180, 0, 63, 42, 180, 0, 96, 27, 28, 122, 145, 84, 42, 89]
abbrev dktX1_append_0 : List UInt8 := dkwX1_append_0 ++ dktX1_append_1
theorem dksX1_append_0 : cX1_append.data.toList.drop 0 = dktX1_append_0 := by decide +kernel
theorem dksX1_append_1 : cX1_append.data.toList.drop 22 = dktX1_append_1 := dk_seg dksX1_append_0 22 rfl rfl
theorem dX1_append_0 : decode cX1_append 0 = .ok (.bipush 24, 2) := dk_16 24 (dk_at dksX1_append_0 0 rfl rfl)
theorem dX1_append_2 : decode cX1_append 2 = .ok (.istore_n 2, 1) := dk_61 (dk_at dksX1_append_0 2 rfl rfl)
theorem dX1_append_3 : decode cX1_append 3 = .ok (.iload_n 2, 1) := dk_28 (dk_at dksX1_append_0 3 rfl rfl)
theorem dX1_append_4 : decode cX1_append 4 = .ok (.ifCond .lt 32, 3) := dk_155 0 32 (dk_at dksX1_append_0 4 rfl rfl)
theorem dX1_append_7 : decode cX1_append 7 = .ok (.aload_n 0, 1) := dk_42 (dk_at dksX1_append_0 7 rfl rfl)
theorem dX1_append_8 : decode cX1_append 8 = .ok (.getfield 63, 3) := dk_180 0 63 (dk_at dksX1_append_0 8 rfl rfl)
theorem dX1_append_11 : decode cX1_append 11 = .ok (.aload_n 0, 1) := dk_42 (dk_at dksX1_append_0 11 rfl rfl)
theorem dX1_append_12 : decode cX1_append 12 = .ok (.getfield 96, 3) := dk_180 0 96 (dk_at dksX1_append_0 12 rfl rfl)
theorem dX1_append_15 : decode cX1_append 15 = .ok (.iload_n 1, 1) := dk_27 (dk_at dksX1_append_0 15 rfl rfl)
theorem dX1_append_16 : decode cX1_append 16 = .ok (.iload_n 2, 1) := dk_28 (dk_at dksX1_append_0 16 rfl rfl)
theorem dX1_append_17 : decode cX1_append 17 = .ok (.ishr, 1) := dk_122 (dk_at dksX1_append_0 17 rfl rfl)
theorem dX1_append_18 : decode cX1_append 18 = .ok (.i2b, 1) := dk_145 (dk_at dksX1_append_0 18 rfl rfl)
theorem dX1_append_19 : decode cX1_append 19 = .ok (.bastore, 1) := dk_84 (dk_at dksX1_append_0 19 rfl rfl)
theorem dX1_append_20 : decode cX1_append 20 = .ok (.aload_n 0, 1) := dk_42 (dk_at dksX1_append_0 20 rfl rfl)
theorem dX1_append_21 : decode cX1_append 21 = .ok (.dup, 1) := dk_89 (dk_at dksX1_append_0 21 rfl rfl)
theorem dX1_append_22 : decode cX1_append 22 = .ok (.getfield 96, 3) := dk_180 0 96 (dk_at dksX1_append_1 0 rfl rfl)
theorem dX1_append_25 : decode cX1_append 25 = .ok (.iconst 1, 1) := dk_4 (dk_at dksX1_append_1 3 rfl rfl)
theorem dX1_append_26 : decode cX1_append 26 = .ok (.iadd, 1) := dk_96 (dk_at dksX1_append_1 4 rfl rfl)
theorem dX1_append_27 : decode cX1_append 27 = .ok (.putfield 96, 3) := dk_181 0 96 (dk_at dksX1_append_1 5 rfl rfl)
theorem dX1_append_30 : decode cX1_append 30 = .ok (.iinc 2 (-8), 3) := dk_132 2 248 (dk_at dksX1_append_1 8 rfl rfl)
theorem dX1_append_33 : decode cX1_append 33 = .ok (.goto (-30), 3) := dk_167 255 226 (dk_at dksX1_append_1 11 rfl rfl)
theorem dX1_append_36 : decode cX1_append 36 = .ok (.return_, 1) := dk_177 (dk_at dksX1_append_1 14 rfl rfl)
abbrev cX1_errorPosition : ByteArray := prog_1_method_22_code
def yX1_errorPosition : MethodName := ⟨RX1, "errorPosition", "()I"⟩
theorem dX1_errorPosition_0 : decode cX1_errorPosition 0 = .ok (.aload_n 0, 1) := by decide +kernel
theorem dX1_errorPosition_1 : decode cX1_errorPosition 1 = .ok (.getfield 67, 3) := by decide +kernel
theorem dX1_errorPosition_4 : decode cX1_errorPosition 4 = .ok (.ireturn, 1) := by decide +kernel
abbrev cX1_ranked : ByteArray := prog_1_method_38_code
def yX1_ranked : MethodName := ⟨RX1, "ranked", "(I)I"⟩
def dkwX1_ranked_2 : List UInt8 := [132, 4, 1, 167, 255, 227, 29, 27, 160, 0, 5, 28, 172, 132, 2, 1, 167, 255, 197, 2, 172]
abbrev dktX1_ranked_2 : List UInt8 := dkwX1_ranked_2 ++ []
def dkwX1_ranked_1 : List UInt8 := [180, 0, 75, 180, 0, 178, 190, 162, 0, 22, 29, 42, 21, 4, 28, 182, 1, 33, 184, 0, 158, 96, 62]
abbrev dktX1_ranked_1 : List UInt8 := dkwX1_ranked_1 ++ dktX1_ranked_2
def dkwX1_ranked_0 : List UInt8 := [3, 61, 28, 42, 180, 0, 75, 180, 0, 178, 190, 162, 0, 53, 3, 62, 3, 54, 4, 21, 4, 42]
abbrev dktX1_ranked_0 : List UInt8 := dkwX1_ranked_0 ++ dktX1_ranked_1
theorem dksX1_ranked_0 : cX1_ranked.data.toList.drop 0 = dktX1_ranked_0 := by decide +kernel
theorem dksX1_ranked_1 : cX1_ranked.data.toList.drop 22 = dktX1_ranked_1 := dk_seg dksX1_ranked_0 22 rfl rfl
theorem dksX1_ranked_2 : cX1_ranked.data.toList.drop 45 = dktX1_ranked_2 := dk_seg dksX1_ranked_1 23 rfl rfl
theorem dX1_ranked_0 : decode cX1_ranked 0 = .ok (.iconst 0, 1) := dk_3 (dk_at dksX1_ranked_0 0 rfl rfl)
theorem dX1_ranked_1 : decode cX1_ranked 1 = .ok (.istore_n 2, 1) := dk_61 (dk_at dksX1_ranked_0 1 rfl rfl)
theorem dX1_ranked_2 : decode cX1_ranked 2 = .ok (.iload_n 2, 1) := dk_28 (dk_at dksX1_ranked_0 2 rfl rfl)
theorem dX1_ranked_3 : decode cX1_ranked 3 = .ok (.aload_n 0, 1) := dk_42 (dk_at dksX1_ranked_0 3 rfl rfl)
theorem dX1_ranked_4 : decode cX1_ranked 4 = .ok (.getfield 75, 3) := dk_180 0 75 (dk_at dksX1_ranked_0 4 rfl rfl)
theorem dX1_ranked_7 : decode cX1_ranked 7 = .ok (.getfield 178, 3) := dk_180 0 178 (dk_at dksX1_ranked_0 7 rfl rfl)
theorem dX1_ranked_10 : decode cX1_ranked 10 = .ok (.arraylength, 1) := dk_190 (dk_at dksX1_ranked_0 10 rfl rfl)
theorem dX1_ranked_11 : decode cX1_ranked 11 = .ok (.if_icmp .ge 53, 3) := dk_162 0 53 (dk_at dksX1_ranked_0 11 rfl rfl)
theorem dX1_ranked_14 : decode cX1_ranked 14 = .ok (.iconst 0, 1) := dk_3 (dk_at dksX1_ranked_0 14 rfl rfl)
theorem dX1_ranked_15 : decode cX1_ranked 15 = .ok (.istore_n 3, 1) := dk_62 (dk_at dksX1_ranked_0 15 rfl rfl)
theorem dX1_ranked_16 : decode cX1_ranked 16 = .ok (.iconst 0, 1) := dk_3 (dk_at dksX1_ranked_0 16 rfl rfl)
theorem dX1_ranked_17 : decode cX1_ranked 17 = .ok (.istore 4, 2) := dk_54 4 (dk_at dksX1_ranked_0 17 rfl rfl)
theorem dX1_ranked_19 : decode cX1_ranked 19 = .ok (.iload 4, 2) := dk_21 4 (dk_at dksX1_ranked_0 19 rfl rfl)
theorem dX1_ranked_21 : decode cX1_ranked 21 = .ok (.aload_n 0, 1) := dk_42 (dk_at dksX1_ranked_0 21 rfl rfl)
theorem dX1_ranked_22 : decode cX1_ranked 22 = .ok (.getfield 75, 3) := dk_180 0 75 (dk_at dksX1_ranked_1 0 rfl rfl)
theorem dX1_ranked_25 : decode cX1_ranked 25 = .ok (.getfield 178, 3) := dk_180 0 178 (dk_at dksX1_ranked_1 3 rfl rfl)
theorem dX1_ranked_28 : decode cX1_ranked 28 = .ok (.arraylength, 1) := dk_190 (dk_at dksX1_ranked_1 6 rfl rfl)
theorem dX1_ranked_29 : decode cX1_ranked 29 = .ok (.if_icmp .ge 22, 3) := dk_162 0 22 (dk_at dksX1_ranked_1 7 rfl rfl)
theorem dX1_ranked_32 : decode cX1_ranked 32 = .ok (.iload_n 3, 1) := dk_29 (dk_at dksX1_ranked_1 10 rfl rfl)
theorem dX1_ranked_33 : decode cX1_ranked 33 = .ok (.aload_n 0, 1) := dk_42 (dk_at dksX1_ranked_1 11 rfl rfl)
theorem dX1_ranked_34 : decode cX1_ranked 34 = .ok (.iload 4, 2) := dk_21 4 (dk_at dksX1_ranked_1 12 rfl rfl)
theorem dX1_ranked_36 : decode cX1_ranked 36 = .ok (.iload_n 2, 1) := dk_28 (dk_at dksX1_ranked_1 14 rfl rfl)
theorem dX1_ranked_37 : decode cX1_ranked 37 = .ok (.invokevirtual 289, 3) := dk_182 1 33 (dk_at dksX1_ranked_1 15 rfl rfl)
theorem dX1_ranked_40 : decode cX1_ranked 40 = .ok (.invokestatic 158, 3) := dk_184 0 158 (dk_at dksX1_ranked_1 18 rfl rfl)
theorem dX1_ranked_43 : decode cX1_ranked 43 = .ok (.iadd, 1) := dk_96 (dk_at dksX1_ranked_1 21 rfl rfl)
theorem dX1_ranked_44 : decode cX1_ranked 44 = .ok (.istore_n 3, 1) := dk_62 (dk_at dksX1_ranked_1 22 rfl rfl)
theorem dX1_ranked_45 : decode cX1_ranked 45 = .ok (.iinc 4 1, 3) := dk_132 4 1 (dk_at dksX1_ranked_2 0 rfl rfl)
theorem dX1_ranked_48 : decode cX1_ranked 48 = .ok (.goto (-29), 3) := dk_167 255 227 (dk_at dksX1_ranked_2 3 rfl rfl)
theorem dX1_ranked_51 : decode cX1_ranked 51 = .ok (.iload_n 3, 1) := dk_29 (dk_at dksX1_ranked_2 6 rfl rfl)
theorem dX1_ranked_52 : decode cX1_ranked 52 = .ok (.iload_n 1, 1) := dk_27 (dk_at dksX1_ranked_2 7 rfl rfl)
theorem dX1_ranked_53 : decode cX1_ranked 53 = .ok (.if_icmp .ne 5, 3) := dk_160 0 5 (dk_at dksX1_ranked_2 8 rfl rfl)
theorem dX1_ranked_56 : decode cX1_ranked 56 = .ok (.iload_n 2, 1) := dk_28 (dk_at dksX1_ranked_2 11 rfl rfl)
theorem dX1_ranked_57 : decode cX1_ranked 57 = .ok (.ireturn, 1) := dk_172 (dk_at dksX1_ranked_2 12 rfl rfl)
theorem dX1_ranked_58 : decode cX1_ranked 58 = .ok (.iinc 2 1, 3) := dk_132 2 1 (dk_at dksX1_ranked_2 13 rfl rfl)
theorem dX1_ranked_61 : decode cX1_ranked 61 = .ok (.goto (-59), 3) := dk_167 255 197 (dk_at dksX1_ranked_2 16 rfl rfl)
theorem dX1_ranked_64 : decode cX1_ranked 64 = .ok (.iconst (-1), 1) := dk_2 (dk_at dksX1_ranked_2 19 rfl rfl)
theorem dX1_ranked_65 : decode cX1_ranked 65 = .ok (.ireturn, 1) := dk_172 (dk_at dksX1_ranked_2 20 rfl rfl)
abbrev cX1_isAhead : ByteArray := prog_1_method_37_code
def yX1_isAhead : MethodName := ⟨RX1, "isAhead", "(II)Z"⟩
def dkwX1_isAhead_2 : List UInt8 := [3, 167, 0, 13, 27, 28, 162, 0, 7, 4, 167, 0, 4, 3, 172]
abbrev dktX1_isAhead_2 : List UInt8 := dkwX1_isAhead_2 ++ []
def dkwX1_isAhead_1 : List UInt8 := [180, 0, 75, 180, 0, 178, 27, 46, 42, 180, 0, 75, 180, 0, 178, 28, 46, 164, 0, 7, 4, 167, 0, 17]
abbrev dktX1_isAhead_1 : List UInt8 := dkwX1_isAhead_1 ++ dktX1_isAhead_2
def dkwX1_isAhead_0 : List UInt8 := [42, 180, 0, 75, 180, 0, 178, 27, 46, 42, 180, 0, 75, 180, 0, 178, 28, 46, 159, 0, 32, 42]
abbrev dktX1_isAhead_0 : List UInt8 := dkwX1_isAhead_0 ++ dktX1_isAhead_1
theorem dksX1_isAhead_0 : cX1_isAhead.data.toList.drop 0 = dktX1_isAhead_0 := by decide +kernel
theorem dksX1_isAhead_1 : cX1_isAhead.data.toList.drop 22 = dktX1_isAhead_1 := dk_seg dksX1_isAhead_0 22 rfl rfl
theorem dksX1_isAhead_2 : cX1_isAhead.data.toList.drop 46 = dktX1_isAhead_2 := dk_seg dksX1_isAhead_1 24 rfl rfl
theorem dX1_isAhead_0 : decode cX1_isAhead 0 = .ok (.aload_n 0, 1) := dk_42 (dk_at dksX1_isAhead_0 0 rfl rfl)
theorem dX1_isAhead_1 : decode cX1_isAhead 1 = .ok (.getfield 75, 3) := dk_180 0 75 (dk_at dksX1_isAhead_0 1 rfl rfl)
theorem dX1_isAhead_4 : decode cX1_isAhead 4 = .ok (.getfield 178, 3) := dk_180 0 178 (dk_at dksX1_isAhead_0 4 rfl rfl)
theorem dX1_isAhead_7 : decode cX1_isAhead 7 = .ok (.iload_n 1, 1) := dk_27 (dk_at dksX1_isAhead_0 7 rfl rfl)
theorem dX1_isAhead_8 : decode cX1_isAhead 8 = .ok (.iaload, 1) := dk_46 (dk_at dksX1_isAhead_0 8 rfl rfl)
theorem dX1_isAhead_9 : decode cX1_isAhead 9 = .ok (.aload_n 0, 1) := dk_42 (dk_at dksX1_isAhead_0 9 rfl rfl)
theorem dX1_isAhead_10 : decode cX1_isAhead 10 = .ok (.getfield 75, 3) := dk_180 0 75 (dk_at dksX1_isAhead_0 10 rfl rfl)
theorem dX1_isAhead_13 : decode cX1_isAhead 13 = .ok (.getfield 178, 3) := dk_180 0 178 (dk_at dksX1_isAhead_0 13 rfl rfl)
theorem dX1_isAhead_16 : decode cX1_isAhead 16 = .ok (.iload_n 2, 1) := dk_28 (dk_at dksX1_isAhead_0 16 rfl rfl)
theorem dX1_isAhead_17 : decode cX1_isAhead 17 = .ok (.iaload, 1) := dk_46 (dk_at dksX1_isAhead_0 17 rfl rfl)
theorem dX1_isAhead_18 : decode cX1_isAhead 18 = .ok (.if_icmp .eq 32, 3) := dk_159 0 32 (dk_at dksX1_isAhead_0 18 rfl rfl)
theorem dX1_isAhead_21 : decode cX1_isAhead 21 = .ok (.aload_n 0, 1) := dk_42 (dk_at dksX1_isAhead_0 21 rfl rfl)
theorem dX1_isAhead_22 : decode cX1_isAhead 22 = .ok (.getfield 75, 3) := dk_180 0 75 (dk_at dksX1_isAhead_1 0 rfl rfl)
theorem dX1_isAhead_25 : decode cX1_isAhead 25 = .ok (.getfield 178, 3) := dk_180 0 178 (dk_at dksX1_isAhead_1 3 rfl rfl)
theorem dX1_isAhead_28 : decode cX1_isAhead 28 = .ok (.iload_n 1, 1) := dk_27 (dk_at dksX1_isAhead_1 6 rfl rfl)
theorem dX1_isAhead_29 : decode cX1_isAhead 29 = .ok (.iaload, 1) := dk_46 (dk_at dksX1_isAhead_1 7 rfl rfl)
theorem dX1_isAhead_30 : decode cX1_isAhead 30 = .ok (.aload_n 0, 1) := dk_42 (dk_at dksX1_isAhead_1 8 rfl rfl)
theorem dX1_isAhead_31 : decode cX1_isAhead 31 = .ok (.getfield 75, 3) := dk_180 0 75 (dk_at dksX1_isAhead_1 9 rfl rfl)
theorem dX1_isAhead_34 : decode cX1_isAhead 34 = .ok (.getfield 178, 3) := dk_180 0 178 (dk_at dksX1_isAhead_1 12 rfl rfl)
theorem dX1_isAhead_37 : decode cX1_isAhead 37 = .ok (.iload_n 2, 1) := dk_28 (dk_at dksX1_isAhead_1 15 rfl rfl)
theorem dX1_isAhead_38 : decode cX1_isAhead 38 = .ok (.iaload, 1) := dk_46 (dk_at dksX1_isAhead_1 16 rfl rfl)
theorem dX1_isAhead_39 : decode cX1_isAhead 39 = .ok (.if_icmp .le 7, 3) := dk_164 0 7 (dk_at dksX1_isAhead_1 17 rfl rfl)
theorem dX1_isAhead_42 : decode cX1_isAhead 42 = .ok (.iconst 1, 1) := dk_4 (dk_at dksX1_isAhead_1 20 rfl rfl)
theorem dX1_isAhead_43 : decode cX1_isAhead 43 = .ok (.goto 17, 3) := dk_167 0 17 (dk_at dksX1_isAhead_1 21 rfl rfl)
theorem dX1_isAhead_46 : decode cX1_isAhead 46 = .ok (.iconst 0, 1) := dk_3 (dk_at dksX1_isAhead_2 0 rfl rfl)
theorem dX1_isAhead_47 : decode cX1_isAhead 47 = .ok (.goto 13, 3) := dk_167 0 13 (dk_at dksX1_isAhead_2 1 rfl rfl)
theorem dX1_isAhead_50 : decode cX1_isAhead 50 = .ok (.iload_n 1, 1) := dk_27 (dk_at dksX1_isAhead_2 4 rfl rfl)
theorem dX1_isAhead_51 : decode cX1_isAhead 51 = .ok (.iload_n 2, 1) := dk_28 (dk_at dksX1_isAhead_2 5 rfl rfl)
theorem dX1_isAhead_52 : decode cX1_isAhead 52 = .ok (.if_icmp .ge 7, 3) := dk_162 0 7 (dk_at dksX1_isAhead_2 6 rfl rfl)
theorem dX1_isAhead_55 : decode cX1_isAhead 55 = .ok (.iconst 1, 1) := dk_4 (dk_at dksX1_isAhead_2 9 rfl rfl)
theorem dX1_isAhead_56 : decode cX1_isAhead 56 = .ok (.goto 4, 3) := dk_167 0 4 (dk_at dksX1_isAhead_2 10 rfl rfl)
theorem dX1_isAhead_59 : decode cX1_isAhead 59 = .ok (.iconst 0, 1) := dk_3 (dk_at dksX1_isAhead_2 13 rfl rfl)
theorem dX1_isAhead_60 : decode cX1_isAhead 60 = .ok (.ireturn, 1) := dk_172 (dk_at dksX1_isAhead_2 14 rfl rfl)
abbrev cX1_asInt : ByteArray := prog_1_method_2_code
def yX1_asInt : MethodName := ⟨RX1, "asInt", "(Z)I"⟩
def dkwX1_asInt_0 : List UInt8 := [26, 153, 0, 7, 4, 167, 0, 4, 3, 172]
abbrev dktX1_asInt_0 : List UInt8 := dkwX1_asInt_0 ++ []
theorem dksX1_asInt_0 : cX1_asInt.data.toList.drop 0 = dktX1_asInt_0 := by decide +kernel
theorem dX1_asInt_0 : decode cX1_asInt 0 = .ok (.iload_n 0, 1) := dk_26 (dk_at dksX1_asInt_0 0 rfl rfl)
theorem dX1_asInt_1 : decode cX1_asInt 1 = .ok (.ifCond .eq 7, 3) := dk_153 0 7 (dk_at dksX1_asInt_0 1 rfl rfl)
theorem dX1_asInt_4 : decode cX1_asInt 4 = .ok (.iconst 1, 1) := dk_4 (dk_at dksX1_asInt_0 4 rfl rfl)
theorem dX1_asInt_5 : decode cX1_asInt 5 = .ok (.goto 4, 3) := dk_167 0 4 (dk_at dksX1_asInt_0 5 rfl rfl)
theorem dX1_asInt_8 : decode cX1_asInt 8 = .ok (.iconst 0, 1) := dk_3 (dk_at dksX1_asInt_0 8 rfl rfl)
theorem dX1_asInt_9 : decode cX1_asInt 9 = .ok (.ireturn, 1) := dk_172 (dk_at dksX1_asInt_0 9 rfl rfl)
abbrev cX1_richest : ByteArray := prog_1_method_40_code
def yX1_richest : MethodName := ⟨RX1, "richest", "()I"⟩
def dkwX1_richest_1 : List UInt8 := [46, 42, 180, 0, 75, 180, 0, 178, 27, 46, 164, 0, 5, 28, 60, 132, 2, 1, 167, 255, 218, 27, 172]
abbrev dktX1_richest_1 : List UInt8 := dkwX1_richest_1 ++ []
def dkwX1_richest_0 : List UInt8 := [3, 60, 4, 61, 28, 42, 180, 0, 75, 180, 0, 178, 190, 162, 0, 32, 42, 180, 0, 75, 180, 0, 178, 28]
abbrev dktX1_richest_0 : List UInt8 := dkwX1_richest_0 ++ dktX1_richest_1
theorem dksX1_richest_0 : cX1_richest.data.toList.drop 0 = dktX1_richest_0 := by decide +kernel
theorem dksX1_richest_1 : cX1_richest.data.toList.drop 24 = dktX1_richest_1 := dk_seg dksX1_richest_0 24 rfl rfl
theorem dX1_richest_0 : decode cX1_richest 0 = .ok (.iconst 0, 1) := dk_3 (dk_at dksX1_richest_0 0 rfl rfl)
theorem dX1_richest_1 : decode cX1_richest 1 = .ok (.istore_n 1, 1) := dk_60 (dk_at dksX1_richest_0 1 rfl rfl)
theorem dX1_richest_2 : decode cX1_richest 2 = .ok (.iconst 1, 1) := dk_4 (dk_at dksX1_richest_0 2 rfl rfl)
theorem dX1_richest_3 : decode cX1_richest 3 = .ok (.istore_n 2, 1) := dk_61 (dk_at dksX1_richest_0 3 rfl rfl)
theorem dX1_richest_4 : decode cX1_richest 4 = .ok (.iload_n 2, 1) := dk_28 (dk_at dksX1_richest_0 4 rfl rfl)
theorem dX1_richest_5 : decode cX1_richest 5 = .ok (.aload_n 0, 1) := dk_42 (dk_at dksX1_richest_0 5 rfl rfl)
theorem dX1_richest_6 : decode cX1_richest 6 = .ok (.getfield 75, 3) := dk_180 0 75 (dk_at dksX1_richest_0 6 rfl rfl)
theorem dX1_richest_9 : decode cX1_richest 9 = .ok (.getfield 178, 3) := dk_180 0 178 (dk_at dksX1_richest_0 9 rfl rfl)
theorem dX1_richest_12 : decode cX1_richest 12 = .ok (.arraylength, 1) := dk_190 (dk_at dksX1_richest_0 12 rfl rfl)
theorem dX1_richest_13 : decode cX1_richest 13 = .ok (.if_icmp .ge 32, 3) := dk_162 0 32 (dk_at dksX1_richest_0 13 rfl rfl)
theorem dX1_richest_16 : decode cX1_richest 16 = .ok (.aload_n 0, 1) := dk_42 (dk_at dksX1_richest_0 16 rfl rfl)
theorem dX1_richest_17 : decode cX1_richest 17 = .ok (.getfield 75, 3) := dk_180 0 75 (dk_at dksX1_richest_0 17 rfl rfl)
theorem dX1_richest_20 : decode cX1_richest 20 = .ok (.getfield 178, 3) := dk_180 0 178 (dk_at dksX1_richest_0 20 rfl rfl)
theorem dX1_richest_23 : decode cX1_richest 23 = .ok (.iload_n 2, 1) := dk_28 (dk_at dksX1_richest_0 23 rfl rfl)
theorem dX1_richest_24 : decode cX1_richest 24 = .ok (.iaload, 1) := dk_46 (dk_at dksX1_richest_1 0 rfl rfl)
theorem dX1_richest_25 : decode cX1_richest 25 = .ok (.aload_n 0, 1) := dk_42 (dk_at dksX1_richest_1 1 rfl rfl)
theorem dX1_richest_26 : decode cX1_richest 26 = .ok (.getfield 75, 3) := dk_180 0 75 (dk_at dksX1_richest_1 2 rfl rfl)
theorem dX1_richest_29 : decode cX1_richest 29 = .ok (.getfield 178, 3) := dk_180 0 178 (dk_at dksX1_richest_1 5 rfl rfl)
theorem dX1_richest_32 : decode cX1_richest 32 = .ok (.iload_n 1, 1) := dk_27 (dk_at dksX1_richest_1 8 rfl rfl)
theorem dX1_richest_33 : decode cX1_richest 33 = .ok (.iaload, 1) := dk_46 (dk_at dksX1_richest_1 9 rfl rfl)
theorem dX1_richest_34 : decode cX1_richest 34 = .ok (.if_icmp .le 5, 3) := dk_164 0 5 (dk_at dksX1_richest_1 10 rfl rfl)
theorem dX1_richest_37 : decode cX1_richest 37 = .ok (.iload_n 2, 1) := dk_28 (dk_at dksX1_richest_1 13 rfl rfl)
theorem dX1_richest_38 : decode cX1_richest 38 = .ok (.istore_n 1, 1) := dk_60 (dk_at dksX1_richest_1 14 rfl rfl)
theorem dX1_richest_39 : decode cX1_richest 39 = .ok (.iinc 2 1, 3) := dk_132 2 1 (dk_at dksX1_richest_1 15 rfl rfl)
theorem dX1_richest_42 : decode cX1_richest 42 = .ok (.goto (-38), 3) := dk_167 255 218 (dk_at dksX1_richest_1 18 rfl rfl)
theorem dX1_richest_45 : decode cX1_richest 45 = .ok (.iload_n 1, 1) := dk_27 (dk_at dksX1_richest_1 21 rfl rfl)
theorem dX1_richest_46 : decode cX1_richest 46 = .ok (.ireturn, 1) := dk_172 (dk_at dksX1_richest_1 22 rfl rfl)
abbrev cX1_gap : ByteArray := prog_1_method_41_code
def yX1_gap : MethodName := ⟨RX1, "gap", "()I"⟩
def dkwX1_gap_9 : List UInt8 := [167, 255, 210, 28, 172]
abbrev dktX1_gap_9 : List UInt8 := dkwX1_gap_9 ++ []
def dkwX1_gap_8 : List UInt8 := [180, 0, 229, 42, 180, 0, 75, 180, 0, 172, 161, 0, 7, 4, 167, 0, 4, 3, 184, 0, 158, 96, 61]
abbrev dktX1_gap_8 : List UInt8 := dkwX1_gap_8 ++ dktX1_gap_9
def dkwX1_gap_7 : List UInt8 := [78, 45, 185, 0, 145, 1, 0, 153, 0, 43, 45, 185, 0, 151, 1, 0, 192, 0, 43, 58, 4, 28, 25, 4]
abbrev dktX1_gap_7 : List UInt8 := dkwX1_gap_7 ++ dktX1_gap_8
def dkwX1_gap_6 : List UInt8 := [25, 4, 180, 0, 235, 182, 0, 239, 96, 61, 167, 255, 213, 187, 1, 41, 89, 42, 183, 1, 43, 182, 1, 46]
abbrev dktX1_gap_6 : List UInt8 := dkwX1_gap_6 ++ dktX1_gap_7
def dkwX1_gap_5 : List UInt8 := [185, 0, 151, 1, 0, 192, 0, 43, 58, 4, 28, 25, 4, 180, 0, 155, 154, 0, 7, 3, 167, 0, 11]
abbrev dktX1_gap_5 : List UInt8 := dkwX1_gap_5 ++ dktX1_gap_6
def dkwX1_gap_4 : List UInt8 := [61, 42, 180, 0, 75, 180, 0, 10, 185, 0, 141, 1, 0, 78, 45, 185, 0, 145, 1, 0, 153, 0, 40, 45]
abbrev dktX1_gap_4 : List UInt8 := dkwX1_gap_4 ++ dktX1_gap_5
def dkwX1_gap_3 : List UInt8 := [21, 4, 29, 162, 0, 20, 44, 21, 4, 46, 54, 5, 27, 21, 5, 96, 60, 132, 4, 1, 167, 255, 236, 27]
abbrev dktX1_gap_3 : List UInt8 := dkwX1_gap_3 ++ dktX1_gap_4
def dkwX1_gap_2 : List UInt8 := [21, 5, 96, 60, 132, 4, 1, 167, 255, 236, 42, 180, 0, 75, 180, 1, 19, 77, 44, 190, 62, 3, 54, 4]
abbrev dktX1_gap_2 : List UInt8 := dkwX1_gap_2 ++ dktX1_gap_3
def dkwX1_gap_1 : List UInt8 := [180, 0, 178, 77, 44, 190, 62, 3, 54, 4, 21, 4, 29, 162, 0, 20, 44, 21, 4, 46, 54, 5, 27]
abbrev dktX1_gap_1 : List UInt8 := dkwX1_gap_1 ++ dktX1_gap_2
def dkwX1_gap_0 : List UInt8 := [42, 180, 0, 75, 180, 0, 188, 42, 180, 0, 75, 180, 0, 197, 6, 46, 100, 60, 42, 180, 0, 75]
abbrev dktX1_gap_0 : List UInt8 := dkwX1_gap_0 ++ dktX1_gap_1
theorem dksX1_gap_0 : cX1_gap.data.toList.drop 0 = dktX1_gap_0 := by decide +kernel
theorem dksX1_gap_1 : cX1_gap.data.toList.drop 22 = dktX1_gap_1 := dk_seg dksX1_gap_0 22 rfl rfl
theorem dksX1_gap_2 : cX1_gap.data.toList.drop 45 = dktX1_gap_2 := dk_seg dksX1_gap_1 23 rfl rfl
theorem dksX1_gap_3 : cX1_gap.data.toList.drop 69 = dktX1_gap_3 := dk_seg dksX1_gap_2 24 rfl rfl
theorem dksX1_gap_4 : cX1_gap.data.toList.drop 93 = dktX1_gap_4 := dk_seg dksX1_gap_3 24 rfl rfl
theorem dksX1_gap_5 : cX1_gap.data.toList.drop 117 = dktX1_gap_5 := dk_seg dksX1_gap_4 24 rfl rfl
theorem dksX1_gap_6 : cX1_gap.data.toList.drop 140 = dktX1_gap_6 := dk_seg dksX1_gap_5 23 rfl rfl
theorem dksX1_gap_7 : cX1_gap.data.toList.drop 164 = dktX1_gap_7 := dk_seg dksX1_gap_6 24 rfl rfl
theorem dksX1_gap_8 : cX1_gap.data.toList.drop 188 = dktX1_gap_8 := dk_seg dksX1_gap_7 24 rfl rfl
theorem dksX1_gap_9 : cX1_gap.data.toList.drop 211 = dktX1_gap_9 := dk_seg dksX1_gap_8 23 rfl rfl
theorem dX1_gap_0 : decode cX1_gap 0 = .ok (.aload_n 0, 1) := dk_42 (dk_at dksX1_gap_0 0 rfl rfl)
theorem dX1_gap_1 : decode cX1_gap 1 = .ok (.getfield 75, 3) := dk_180 0 75 (dk_at dksX1_gap_0 1 rfl rfl)
theorem dX1_gap_4 : decode cX1_gap 4 = .ok (.getfield 188, 3) := dk_180 0 188 (dk_at dksX1_gap_0 4 rfl rfl)
theorem dX1_gap_7 : decode cX1_gap 7 = .ok (.aload_n 0, 1) := dk_42 (dk_at dksX1_gap_0 7 rfl rfl)
theorem dX1_gap_8 : decode cX1_gap 8 = .ok (.getfield 75, 3) := dk_180 0 75 (dk_at dksX1_gap_0 8 rfl rfl)
theorem dX1_gap_11 : decode cX1_gap 11 = .ok (.getfield 197, 3) := dk_180 0 197 (dk_at dksX1_gap_0 11 rfl rfl)
theorem dX1_gap_14 : decode cX1_gap 14 = .ok (.iconst 3, 1) := dk_6 (dk_at dksX1_gap_0 14 rfl rfl)
theorem dX1_gap_15 : decode cX1_gap 15 = .ok (.iaload, 1) := dk_46 (dk_at dksX1_gap_0 15 rfl rfl)
theorem dX1_gap_16 : decode cX1_gap 16 = .ok (.isub, 1) := dk_100 (dk_at dksX1_gap_0 16 rfl rfl)
theorem dX1_gap_17 : decode cX1_gap 17 = .ok (.istore_n 1, 1) := dk_60 (dk_at dksX1_gap_0 17 rfl rfl)
theorem dX1_gap_18 : decode cX1_gap 18 = .ok (.aload_n 0, 1) := dk_42 (dk_at dksX1_gap_0 18 rfl rfl)
theorem dX1_gap_19 : decode cX1_gap 19 = .ok (.getfield 75, 3) := dk_180 0 75 (dk_at dksX1_gap_0 19 rfl rfl)
theorem dX1_gap_22 : decode cX1_gap 22 = .ok (.getfield 178, 3) := dk_180 0 178 (dk_at dksX1_gap_1 0 rfl rfl)
theorem dX1_gap_25 : decode cX1_gap 25 = .ok (.astore_n 2, 1) := dk_77 (dk_at dksX1_gap_1 3 rfl rfl)
theorem dX1_gap_26 : decode cX1_gap 26 = .ok (.aload_n 2, 1) := dk_44 (dk_at dksX1_gap_1 4 rfl rfl)
theorem dX1_gap_27 : decode cX1_gap 27 = .ok (.arraylength, 1) := dk_190 (dk_at dksX1_gap_1 5 rfl rfl)
theorem dX1_gap_28 : decode cX1_gap 28 = .ok (.istore_n 3, 1) := dk_62 (dk_at dksX1_gap_1 6 rfl rfl)
theorem dX1_gap_29 : decode cX1_gap 29 = .ok (.iconst 0, 1) := dk_3 (dk_at dksX1_gap_1 7 rfl rfl)
theorem dX1_gap_30 : decode cX1_gap 30 = .ok (.istore 4, 2) := dk_54 4 (dk_at dksX1_gap_1 8 rfl rfl)
theorem dX1_gap_32 : decode cX1_gap 32 = .ok (.iload 4, 2) := dk_21 4 (dk_at dksX1_gap_1 10 rfl rfl)
theorem dX1_gap_34 : decode cX1_gap 34 = .ok (.iload_n 3, 1) := dk_29 (dk_at dksX1_gap_1 12 rfl rfl)
theorem dX1_gap_35 : decode cX1_gap 35 = .ok (.if_icmp .ge 20, 3) := dk_162 0 20 (dk_at dksX1_gap_1 13 rfl rfl)
theorem dX1_gap_38 : decode cX1_gap 38 = .ok (.aload_n 2, 1) := dk_44 (dk_at dksX1_gap_1 16 rfl rfl)
theorem dX1_gap_39 : decode cX1_gap 39 = .ok (.iload 4, 2) := dk_21 4 (dk_at dksX1_gap_1 17 rfl rfl)
theorem dX1_gap_41 : decode cX1_gap 41 = .ok (.iaload, 1) := dk_46 (dk_at dksX1_gap_1 19 rfl rfl)
theorem dX1_gap_42 : decode cX1_gap 42 = .ok (.istore 5, 2) := dk_54 5 (dk_at dksX1_gap_1 20 rfl rfl)
theorem dX1_gap_44 : decode cX1_gap 44 = .ok (.iload_n 1, 1) := dk_27 (dk_at dksX1_gap_1 22 rfl rfl)
theorem dX1_gap_45 : decode cX1_gap 45 = .ok (.iload 5, 2) := dk_21 5 (dk_at dksX1_gap_2 0 rfl rfl)
theorem dX1_gap_47 : decode cX1_gap 47 = .ok (.iadd, 1) := dk_96 (dk_at dksX1_gap_2 2 rfl rfl)
theorem dX1_gap_48 : decode cX1_gap 48 = .ok (.istore_n 1, 1) := dk_60 (dk_at dksX1_gap_2 3 rfl rfl)
theorem dX1_gap_49 : decode cX1_gap 49 = .ok (.iinc 4 1, 3) := dk_132 4 1 (dk_at dksX1_gap_2 4 rfl rfl)
theorem dX1_gap_52 : decode cX1_gap 52 = .ok (.goto (-20), 3) := dk_167 255 236 (dk_at dksX1_gap_2 7 rfl rfl)
theorem dX1_gap_55 : decode cX1_gap 55 = .ok (.aload_n 0, 1) := dk_42 (dk_at dksX1_gap_2 10 rfl rfl)
theorem dX1_gap_56 : decode cX1_gap 56 = .ok (.getfield 75, 3) := dk_180 0 75 (dk_at dksX1_gap_2 11 rfl rfl)
theorem dX1_gap_59 : decode cX1_gap 59 = .ok (.getfield 275, 3) := dk_180 1 19 (dk_at dksX1_gap_2 14 rfl rfl)
theorem dX1_gap_62 : decode cX1_gap 62 = .ok (.astore_n 2, 1) := dk_77 (dk_at dksX1_gap_2 17 rfl rfl)
theorem dX1_gap_63 : decode cX1_gap 63 = .ok (.aload_n 2, 1) := dk_44 (dk_at dksX1_gap_2 18 rfl rfl)
theorem dX1_gap_64 : decode cX1_gap 64 = .ok (.arraylength, 1) := dk_190 (dk_at dksX1_gap_2 19 rfl rfl)
theorem dX1_gap_65 : decode cX1_gap 65 = .ok (.istore_n 3, 1) := dk_62 (dk_at dksX1_gap_2 20 rfl rfl)
theorem dX1_gap_66 : decode cX1_gap 66 = .ok (.iconst 0, 1) := dk_3 (dk_at dksX1_gap_2 21 rfl rfl)
theorem dX1_gap_67 : decode cX1_gap 67 = .ok (.istore 4, 2) := dk_54 4 (dk_at dksX1_gap_2 22 rfl rfl)
theorem dX1_gap_69 : decode cX1_gap 69 = .ok (.iload 4, 2) := dk_21 4 (dk_at dksX1_gap_3 0 rfl rfl)
theorem dX1_gap_71 : decode cX1_gap 71 = .ok (.iload_n 3, 1) := dk_29 (dk_at dksX1_gap_3 2 rfl rfl)
theorem dX1_gap_72 : decode cX1_gap 72 = .ok (.if_icmp .ge 20, 3) := dk_162 0 20 (dk_at dksX1_gap_3 3 rfl rfl)
theorem dX1_gap_75 : decode cX1_gap 75 = .ok (.aload_n 2, 1) := dk_44 (dk_at dksX1_gap_3 6 rfl rfl)
theorem dX1_gap_76 : decode cX1_gap 76 = .ok (.iload 4, 2) := dk_21 4 (dk_at dksX1_gap_3 7 rfl rfl)
theorem dX1_gap_78 : decode cX1_gap 78 = .ok (.iaload, 1) := dk_46 (dk_at dksX1_gap_3 9 rfl rfl)
theorem dX1_gap_79 : decode cX1_gap 79 = .ok (.istore 5, 2) := dk_54 5 (dk_at dksX1_gap_3 10 rfl rfl)
theorem dX1_gap_81 : decode cX1_gap 81 = .ok (.iload_n 1, 1) := dk_27 (dk_at dksX1_gap_3 12 rfl rfl)
theorem dX1_gap_82 : decode cX1_gap 82 = .ok (.iload 5, 2) := dk_21 5 (dk_at dksX1_gap_3 13 rfl rfl)
theorem dX1_gap_84 : decode cX1_gap 84 = .ok (.iadd, 1) := dk_96 (dk_at dksX1_gap_3 15 rfl rfl)
theorem dX1_gap_85 : decode cX1_gap 85 = .ok (.istore_n 1, 1) := dk_60 (dk_at dksX1_gap_3 16 rfl rfl)
theorem dX1_gap_86 : decode cX1_gap 86 = .ok (.iinc 4 1, 3) := dk_132 4 1 (dk_at dksX1_gap_3 17 rfl rfl)
theorem dX1_gap_89 : decode cX1_gap 89 = .ok (.goto (-20), 3) := dk_167 255 236 (dk_at dksX1_gap_3 20 rfl rfl)
theorem dX1_gap_92 : decode cX1_gap 92 = .ok (.iload_n 1, 1) := dk_27 (dk_at dksX1_gap_3 23 rfl rfl)
theorem dX1_gap_93 : decode cX1_gap 93 = .ok (.istore_n 2, 1) := dk_61 (dk_at dksX1_gap_4 0 rfl rfl)
theorem dX1_gap_94 : decode cX1_gap 94 = .ok (.aload_n 0, 1) := dk_42 (dk_at dksX1_gap_4 1 rfl rfl)
theorem dX1_gap_95 : decode cX1_gap 95 = .ok (.getfield 75, 3) := dk_180 0 75 (dk_at dksX1_gap_4 2 rfl rfl)
theorem dX1_gap_98 : decode cX1_gap 98 = .ok (.getfield 10, 3) := dk_180 0 10 (dk_at dksX1_gap_4 5 rfl rfl)
theorem dX1_gap_101 : decode cX1_gap 101 = .ok (.invokeinterface 141 1, 5) := by decide +kernel
theorem dX1_gap_106 : decode cX1_gap 106 = .ok (.astore_n 3, 1) := dk_78 (dk_at dksX1_gap_4 13 rfl rfl)
theorem dX1_gap_107 : decode cX1_gap 107 = .ok (.aload_n 3, 1) := dk_45 (dk_at dksX1_gap_4 14 rfl rfl)
theorem dX1_gap_108 : decode cX1_gap 108 = .ok (.invokeinterface 145 1, 5) := by decide +kernel
theorem dX1_gap_113 : decode cX1_gap 113 = .ok (.ifCond .eq 40, 3) := dk_153 0 40 (dk_at dksX1_gap_4 20 rfl rfl)
theorem dX1_gap_116 : decode cX1_gap 116 = .ok (.aload_n 3, 1) := dk_45 (dk_at dksX1_gap_4 23 rfl rfl)
theorem dX1_gap_117 : decode cX1_gap 117 = .ok (.invokeinterface 151 1, 5) := by decide +kernel
theorem dX1_gap_122 : decode cX1_gap 122 = .ok (.checkcast 43, 3) := dk_192 0 43 (dk_at dksX1_gap_5 5 rfl rfl)
theorem dX1_gap_125 : decode cX1_gap 125 = .ok (.astore 4, 2) := dk_58 4 (dk_at dksX1_gap_5 8 rfl rfl)
theorem dX1_gap_127 : decode cX1_gap 127 = .ok (.iload_n 2, 1) := dk_28 (dk_at dksX1_gap_5 10 rfl rfl)
theorem dX1_gap_128 : decode cX1_gap 128 = .ok (.aload 4, 2) := dk_25 4 (dk_at dksX1_gap_5 11 rfl rfl)
theorem dX1_gap_130 : decode cX1_gap 130 = .ok (.getfield 155, 3) := dk_180 0 155 (dk_at dksX1_gap_5 13 rfl rfl)
theorem dX1_gap_133 : decode cX1_gap 133 = .ok (.ifCond .ne 7, 3) := dk_154 0 7 (dk_at dksX1_gap_5 16 rfl rfl)
theorem dX1_gap_136 : decode cX1_gap 136 = .ok (.iconst 0, 1) := dk_3 (dk_at dksX1_gap_5 19 rfl rfl)
theorem dX1_gap_137 : decode cX1_gap 137 = .ok (.goto 11, 3) := dk_167 0 11 (dk_at dksX1_gap_5 20 rfl rfl)
theorem dX1_gap_140 : decode cX1_gap 140 = .ok (.aload 4, 2) := dk_25 4 (dk_at dksX1_gap_6 0 rfl rfl)
theorem dX1_gap_142 : decode cX1_gap 142 = .ok (.getfield 235, 3) := dk_180 0 235 (dk_at dksX1_gap_6 2 rfl rfl)
theorem dX1_gap_145 : decode cX1_gap 145 = .ok (.invokevirtual 239, 3) := dk_182 0 239 (dk_at dksX1_gap_6 5 rfl rfl)
theorem dX1_gap_148 : decode cX1_gap 148 = .ok (.iadd, 1) := dk_96 (dk_at dksX1_gap_6 8 rfl rfl)
theorem dX1_gap_149 : decode cX1_gap 149 = .ok (.istore_n 2, 1) := dk_61 (dk_at dksX1_gap_6 9 rfl rfl)
theorem dX1_gap_150 : decode cX1_gap 150 = .ok (.goto (-43), 3) := dk_167 255 213 (dk_at dksX1_gap_6 10 rfl rfl)
theorem dX1_gap_153 : decode cX1_gap 153 = .ok (.new 297, 3) := dk_187 1 41 (dk_at dksX1_gap_6 13 rfl rfl)
theorem dX1_gap_156 : decode cX1_gap 156 = .ok (.dup, 1) := dk_89 (dk_at dksX1_gap_6 16 rfl rfl)
theorem dX1_gap_157 : decode cX1_gap 157 = .ok (.aload_n 0, 1) := dk_42 (dk_at dksX1_gap_6 17 rfl rfl)
theorem dX1_gap_158 : decode cX1_gap 158 = .ok (.invokespecial 299, 3) := dk_183 1 43 (dk_at dksX1_gap_6 18 rfl rfl)
theorem dX1_gap_161 : decode cX1_gap 161 = .ok (.invokevirtual 302, 3) := dk_182 1 46 (dk_at dksX1_gap_6 21 rfl rfl)
theorem dX1_gap_164 : decode cX1_gap 164 = .ok (.astore_n 3, 1) := dk_78 (dk_at dksX1_gap_7 0 rfl rfl)
theorem dX1_gap_165 : decode cX1_gap 165 = .ok (.aload_n 3, 1) := dk_45 (dk_at dksX1_gap_7 1 rfl rfl)
theorem dX1_gap_166 : decode cX1_gap 166 = .ok (.invokeinterface 145 1, 5) := by decide +kernel
theorem dX1_gap_171 : decode cX1_gap 171 = .ok (.ifCond .eq 43, 3) := dk_153 0 43 (dk_at dksX1_gap_7 7 rfl rfl)
theorem dX1_gap_174 : decode cX1_gap 174 = .ok (.aload_n 3, 1) := dk_45 (dk_at dksX1_gap_7 10 rfl rfl)
theorem dX1_gap_175 : decode cX1_gap 175 = .ok (.invokeinterface 151 1, 5) := by decide +kernel
theorem dX1_gap_180 : decode cX1_gap 180 = .ok (.checkcast 43, 3) := dk_192 0 43 (dk_at dksX1_gap_7 16 rfl rfl)
theorem dX1_gap_183 : decode cX1_gap 183 = .ok (.astore 4, 2) := dk_58 4 (dk_at dksX1_gap_7 19 rfl rfl)
theorem dX1_gap_185 : decode cX1_gap 185 = .ok (.iload_n 2, 1) := dk_28 (dk_at dksX1_gap_7 21 rfl rfl)
theorem dX1_gap_186 : decode cX1_gap 186 = .ok (.aload 4, 2) := dk_25 4 (dk_at dksX1_gap_7 22 rfl rfl)
theorem dX1_gap_188 : decode cX1_gap 188 = .ok (.getfield 229, 3) := dk_180 0 229 (dk_at dksX1_gap_8 0 rfl rfl)
theorem dX1_gap_191 : decode cX1_gap 191 = .ok (.aload_n 0, 1) := dk_42 (dk_at dksX1_gap_8 3 rfl rfl)
theorem dX1_gap_192 : decode cX1_gap 192 = .ok (.getfield 75, 3) := dk_180 0 75 (dk_at dksX1_gap_8 4 rfl rfl)
theorem dX1_gap_195 : decode cX1_gap 195 = .ok (.getfield 172, 3) := dk_180 0 172 (dk_at dksX1_gap_8 7 rfl rfl)
theorem dX1_gap_198 : decode cX1_gap 198 = .ok (.if_icmp .lt 7, 3) := dk_161 0 7 (dk_at dksX1_gap_8 10 rfl rfl)
theorem dX1_gap_201 : decode cX1_gap 201 = .ok (.iconst 1, 1) := dk_4 (dk_at dksX1_gap_8 13 rfl rfl)
theorem dX1_gap_202 : decode cX1_gap 202 = .ok (.goto 4, 3) := dk_167 0 4 (dk_at dksX1_gap_8 14 rfl rfl)
theorem dX1_gap_205 : decode cX1_gap 205 = .ok (.iconst 0, 1) := dk_3 (dk_at dksX1_gap_8 17 rfl rfl)
theorem dX1_gap_206 : decode cX1_gap 206 = .ok (.invokestatic 158, 3) := dk_184 0 158 (dk_at dksX1_gap_8 18 rfl rfl)
theorem dX1_gap_209 : decode cX1_gap 209 = .ok (.iadd, 1) := dk_96 (dk_at dksX1_gap_8 21 rfl rfl)
theorem dX1_gap_210 : decode cX1_gap 210 = .ok (.istore_n 2, 1) := dk_61 (dk_at dksX1_gap_8 22 rfl rfl)
theorem dX1_gap_211 : decode cX1_gap 211 = .ok (.goto (-46), 3) := dk_167 255 210 (dk_at dksX1_gap_9 0 rfl rfl)
theorem dX1_gap_214 : decode cX1_gap 214 = .ok (.iload_n 2, 1) := dk_28 (dk_at dksX1_gap_9 3 rfl rfl)
theorem dX1_gap_215 : decode cX1_gap 215 = .ok (.ireturn, 1) := dk_172 (dk_at dksX1_gap_9 4 rfl rfl)
abbrev cX1_turnIn : ByteArray := prog_1_method_43_code
def yX1_turnIn : MethodName := ⟨RX1, "turnIn", "(Z)I"⟩
def dkwX1_turnIn_2 : List UInt8 := [172]
abbrev dktX1_turnIn_2 : List UInt8 := dkwX1_turnIn_2 ++ []
def dkwX1_turnIn_1 : List UInt8 := [180, 0, 162, 29, 96, 42, 180, 0, 75, 180, 0, 169, 112, 28, 159, 0, 9, 132, 3, 1, 167, 255, 232, 29]
abbrev dktX1_turnIn_1 : List UInt8 := dkwX1_turnIn_1 ++ dktX1_turnIn_2
def dkwX1_turnIn_0 : List UInt8 := [27, 153, 0, 15, 42, 180, 0, 75, 180, 0, 169, 5, 108, 167, 0, 4, 3, 61, 3, 62, 42, 180, 0, 75]
abbrev dktX1_turnIn_0 : List UInt8 := dkwX1_turnIn_0 ++ dktX1_turnIn_1
theorem dksX1_turnIn_0 : cX1_turnIn.data.toList.drop 0 = dktX1_turnIn_0 := by decide +kernel
theorem dksX1_turnIn_1 : cX1_turnIn.data.toList.drop 24 = dktX1_turnIn_1 := dk_seg dksX1_turnIn_0 24 rfl rfl
theorem dksX1_turnIn_2 : cX1_turnIn.data.toList.drop 48 = dktX1_turnIn_2 := dk_seg dksX1_turnIn_1 24 rfl rfl
theorem dX1_turnIn_0 : decode cX1_turnIn 0 = .ok (.iload_n 1, 1) := dk_27 (dk_at dksX1_turnIn_0 0 rfl rfl)
theorem dX1_turnIn_1 : decode cX1_turnIn 1 = .ok (.ifCond .eq 15, 3) := dk_153 0 15 (dk_at dksX1_turnIn_0 1 rfl rfl)
theorem dX1_turnIn_4 : decode cX1_turnIn 4 = .ok (.aload_n 0, 1) := dk_42 (dk_at dksX1_turnIn_0 4 rfl rfl)
theorem dX1_turnIn_5 : decode cX1_turnIn 5 = .ok (.getfield 75, 3) := dk_180 0 75 (dk_at dksX1_turnIn_0 5 rfl rfl)
theorem dX1_turnIn_8 : decode cX1_turnIn 8 = .ok (.getfield 169, 3) := dk_180 0 169 (dk_at dksX1_turnIn_0 8 rfl rfl)
theorem dX1_turnIn_11 : decode cX1_turnIn 11 = .ok (.iconst 2, 1) := dk_5 (dk_at dksX1_turnIn_0 11 rfl rfl)
theorem dX1_turnIn_12 : decode cX1_turnIn 12 = .ok (.idiv, 1) := dk_108 (dk_at dksX1_turnIn_0 12 rfl rfl)
theorem dX1_turnIn_13 : decode cX1_turnIn 13 = .ok (.goto 4, 3) := dk_167 0 4 (dk_at dksX1_turnIn_0 13 rfl rfl)
theorem dX1_turnIn_16 : decode cX1_turnIn 16 = .ok (.iconst 0, 1) := dk_3 (dk_at dksX1_turnIn_0 16 rfl rfl)
theorem dX1_turnIn_17 : decode cX1_turnIn 17 = .ok (.istore_n 2, 1) := dk_61 (dk_at dksX1_turnIn_0 17 rfl rfl)
theorem dX1_turnIn_18 : decode cX1_turnIn 18 = .ok (.iconst 0, 1) := dk_3 (dk_at dksX1_turnIn_0 18 rfl rfl)
theorem dX1_turnIn_19 : decode cX1_turnIn 19 = .ok (.istore_n 3, 1) := dk_62 (dk_at dksX1_turnIn_0 19 rfl rfl)
theorem dX1_turnIn_20 : decode cX1_turnIn 20 = .ok (.aload_n 0, 1) := dk_42 (dk_at dksX1_turnIn_0 20 rfl rfl)
theorem dX1_turnIn_21 : decode cX1_turnIn 21 = .ok (.getfield 75, 3) := dk_180 0 75 (dk_at dksX1_turnIn_0 21 rfl rfl)
theorem dX1_turnIn_24 : decode cX1_turnIn 24 = .ok (.getfield 162, 3) := dk_180 0 162 (dk_at dksX1_turnIn_1 0 rfl rfl)
theorem dX1_turnIn_27 : decode cX1_turnIn 27 = .ok (.iload_n 3, 1) := dk_29 (dk_at dksX1_turnIn_1 3 rfl rfl)
theorem dX1_turnIn_28 : decode cX1_turnIn 28 = .ok (.iadd, 1) := dk_96 (dk_at dksX1_turnIn_1 4 rfl rfl)
theorem dX1_turnIn_29 : decode cX1_turnIn 29 = .ok (.aload_n 0, 1) := dk_42 (dk_at dksX1_turnIn_1 5 rfl rfl)
theorem dX1_turnIn_30 : decode cX1_turnIn 30 = .ok (.getfield 75, 3) := dk_180 0 75 (dk_at dksX1_turnIn_1 6 rfl rfl)
theorem dX1_turnIn_33 : decode cX1_turnIn 33 = .ok (.getfield 169, 3) := dk_180 0 169 (dk_at dksX1_turnIn_1 9 rfl rfl)
theorem dX1_turnIn_36 : decode cX1_turnIn 36 = .ok (.irem, 1) := dk_112 (dk_at dksX1_turnIn_1 12 rfl rfl)
theorem dX1_turnIn_37 : decode cX1_turnIn 37 = .ok (.iload_n 2, 1) := dk_28 (dk_at dksX1_turnIn_1 13 rfl rfl)
theorem dX1_turnIn_38 : decode cX1_turnIn 38 = .ok (.if_icmp .eq 9, 3) := dk_159 0 9 (dk_at dksX1_turnIn_1 14 rfl rfl)
theorem dX1_turnIn_41 : decode cX1_turnIn 41 = .ok (.iinc 3 1, 3) := dk_132 3 1 (dk_at dksX1_turnIn_1 17 rfl rfl)
theorem dX1_turnIn_44 : decode cX1_turnIn 44 = .ok (.goto (-24), 3) := dk_167 255 232 (dk_at dksX1_turnIn_1 20 rfl rfl)
theorem dX1_turnIn_47 : decode cX1_turnIn 47 = .ok (.iload_n 3, 1) := dk_29 (dk_at dksX1_turnIn_1 23 rfl rfl)
theorem dX1_turnIn_48 : decode cX1_turnIn 48 = .ok (.ireturn, 1) := dk_172 (dk_at dksX1_turnIn_2 0 rfl rfl)
abbrev cX1_nextLost : ByteArray := prog_1_method_47_code
def yX1_nextLost : MethodName := ⟨RX1, "nextLost", "()I"⟩
def dkwX1_nextLost_3 : List UInt8 := [21, 5, 61, 167, 255, 201, 27, 172]
abbrev dktX1_nextLost_3 : List UInt8 := dkwX1_nextLost_3 ++ []
def dkwX1_nextLost_2 : List UInt8 := [54, 5, 21, 5, 2, 159, 255, 222, 21, 5, 28, 161, 0, 6, 167, 255, 213, 25, 4, 180, 1, 3, 60]
abbrev dktX1_nextLost_2 : List UInt8 := dkwX1_nextLost_2 ++ dktX1_nextLost_3
def dkwX1_nextLost_1 : List UInt8 := [153, 0, 52, 45, 185, 0, 151, 1, 0, 192, 0, 43, 58, 4, 42, 180, 0, 75, 25, 4, 182, 1, 55]
abbrev dktX1_nextLost_1 : List UInt8 := dkwX1_nextLost_1 ++ dktX1_nextLost_2
def dkwX1_nextLost_0 : List UInt8 := [2, 60, 19, 1, 58, 61, 187, 1, 41, 89, 42, 183, 1, 43, 182, 1, 46, 78, 45, 185, 0, 145, 1, 0]
abbrev dktX1_nextLost_0 : List UInt8 := dkwX1_nextLost_0 ++ dktX1_nextLost_1
theorem dksX1_nextLost_0 : cX1_nextLost.data.toList.drop 0 = dktX1_nextLost_0 := by decide +kernel
theorem dksX1_nextLost_1 : cX1_nextLost.data.toList.drop 24 = dktX1_nextLost_1 := dk_seg dksX1_nextLost_0 24 rfl rfl
theorem dksX1_nextLost_2 : cX1_nextLost.data.toList.drop 47 = dktX1_nextLost_2 := dk_seg dksX1_nextLost_1 23 rfl rfl
theorem dksX1_nextLost_3 : cX1_nextLost.data.toList.drop 70 = dktX1_nextLost_3 := dk_seg dksX1_nextLost_2 23 rfl rfl
theorem dX1_nextLost_0 : decode cX1_nextLost 0 = .ok (.iconst (-1), 1) := dk_2 (dk_at dksX1_nextLost_0 0 rfl rfl)
theorem dX1_nextLost_1 : decode cX1_nextLost 1 = .ok (.istore_n 1, 1) := dk_60 (dk_at dksX1_nextLost_0 1 rfl rfl)
theorem dX1_nextLost_2 : decode cX1_nextLost 2 = .ok (.ldc_w 314, 3) := dk_19 1 58 (dk_at dksX1_nextLost_0 2 rfl rfl)
theorem dX1_nextLost_5 : decode cX1_nextLost 5 = .ok (.istore_n 2, 1) := dk_61 (dk_at dksX1_nextLost_0 5 rfl rfl)
theorem dX1_nextLost_6 : decode cX1_nextLost 6 = .ok (.new 297, 3) := dk_187 1 41 (dk_at dksX1_nextLost_0 6 rfl rfl)
theorem dX1_nextLost_9 : decode cX1_nextLost 9 = .ok (.dup, 1) := dk_89 (dk_at dksX1_nextLost_0 9 rfl rfl)
theorem dX1_nextLost_10 : decode cX1_nextLost 10 = .ok (.aload_n 0, 1) := dk_42 (dk_at dksX1_nextLost_0 10 rfl rfl)
theorem dX1_nextLost_11 : decode cX1_nextLost 11 = .ok (.invokespecial 299, 3) := dk_183 1 43 (dk_at dksX1_nextLost_0 11 rfl rfl)
theorem dX1_nextLost_14 : decode cX1_nextLost 14 = .ok (.invokevirtual 302, 3) := dk_182 1 46 (dk_at dksX1_nextLost_0 14 rfl rfl)
theorem dX1_nextLost_17 : decode cX1_nextLost 17 = .ok (.astore_n 3, 1) := dk_78 (dk_at dksX1_nextLost_0 17 rfl rfl)
theorem dX1_nextLost_18 : decode cX1_nextLost 18 = .ok (.aload_n 3, 1) := dk_45 (dk_at dksX1_nextLost_0 18 rfl rfl)
theorem dX1_nextLost_19 : decode cX1_nextLost 19 = .ok (.invokeinterface 145 1, 5) := by decide +kernel
theorem dX1_nextLost_24 : decode cX1_nextLost 24 = .ok (.ifCond .eq 52, 3) := dk_153 0 52 (dk_at dksX1_nextLost_1 0 rfl rfl)
theorem dX1_nextLost_27 : decode cX1_nextLost 27 = .ok (.aload_n 3, 1) := dk_45 (dk_at dksX1_nextLost_1 3 rfl rfl)
theorem dX1_nextLost_28 : decode cX1_nextLost 28 = .ok (.invokeinterface 151 1, 5) := by decide +kernel
theorem dX1_nextLost_33 : decode cX1_nextLost 33 = .ok (.checkcast 43, 3) := dk_192 0 43 (dk_at dksX1_nextLost_1 9 rfl rfl)
theorem dX1_nextLost_36 : decode cX1_nextLost 36 = .ok (.astore 4, 2) := dk_58 4 (dk_at dksX1_nextLost_1 12 rfl rfl)
theorem dX1_nextLost_38 : decode cX1_nextLost 38 = .ok (.aload_n 0, 1) := dk_42 (dk_at dksX1_nextLost_1 14 rfl rfl)
theorem dX1_nextLost_39 : decode cX1_nextLost 39 = .ok (.getfield 75, 3) := dk_180 0 75 (dk_at dksX1_nextLost_1 15 rfl rfl)
theorem dX1_nextLost_42 : decode cX1_nextLost 42 = .ok (.aload 4, 2) := dk_25 4 (dk_at dksX1_nextLost_1 18 rfl rfl)
theorem dX1_nextLost_44 : decode cX1_nextLost 44 = .ok (.invokevirtual 311, 3) := dk_182 1 55 (dk_at dksX1_nextLost_1 20 rfl rfl)
theorem dX1_nextLost_47 : decode cX1_nextLost 47 = .ok (.istore 5, 2) := dk_54 5 (dk_at dksX1_nextLost_2 0 rfl rfl)
theorem dX1_nextLost_49 : decode cX1_nextLost 49 = .ok (.iload 5, 2) := dk_21 5 (dk_at dksX1_nextLost_2 2 rfl rfl)
theorem dX1_nextLost_51 : decode cX1_nextLost 51 = .ok (.iconst (-1), 1) := dk_2 (dk_at dksX1_nextLost_2 4 rfl rfl)
theorem dX1_nextLost_52 : decode cX1_nextLost 52 = .ok (.if_icmp .eq (-34), 3) := dk_159 255 222 (dk_at dksX1_nextLost_2 5 rfl rfl)
theorem dX1_nextLost_55 : decode cX1_nextLost 55 = .ok (.iload 5, 2) := dk_21 5 (dk_at dksX1_nextLost_2 8 rfl rfl)
theorem dX1_nextLost_57 : decode cX1_nextLost 57 = .ok (.iload_n 2, 1) := dk_28 (dk_at dksX1_nextLost_2 10 rfl rfl)
theorem dX1_nextLost_58 : decode cX1_nextLost 58 = .ok (.if_icmp .lt 6, 3) := dk_161 0 6 (dk_at dksX1_nextLost_2 11 rfl rfl)
theorem dX1_nextLost_61 : decode cX1_nextLost 61 = .ok (.goto (-43), 3) := dk_167 255 213 (dk_at dksX1_nextLost_2 14 rfl rfl)
theorem dX1_nextLost_64 : decode cX1_nextLost 64 = .ok (.aload 4, 2) := dk_25 4 (dk_at dksX1_nextLost_2 17 rfl rfl)
theorem dX1_nextLost_66 : decode cX1_nextLost 66 = .ok (.getfield 259, 3) := dk_180 1 3 (dk_at dksX1_nextLost_2 19 rfl rfl)
theorem dX1_nextLost_69 : decode cX1_nextLost 69 = .ok (.istore_n 1, 1) := dk_60 (dk_at dksX1_nextLost_2 22 rfl rfl)
theorem dX1_nextLost_70 : decode cX1_nextLost 70 = .ok (.iload 5, 2) := dk_21 5 (dk_at dksX1_nextLost_3 0 rfl rfl)
theorem dX1_nextLost_72 : decode cX1_nextLost 72 = .ok (.istore_n 2, 1) := dk_61 (dk_at dksX1_nextLost_3 2 rfl rfl)
theorem dX1_nextLost_73 : decode cX1_nextLost 73 = .ok (.goto (-55), 3) := dk_167 255 201 (dk_at dksX1_nextLost_3 3 rfl rfl)
theorem dX1_nextLost_76 : decode cX1_nextLost 76 = .ok (.iload_n 1, 1) := dk_27 (dk_at dksX1_nextLost_3 6 rfl rfl)
theorem dX1_nextLost_77 : decode cX1_nextLost 77 = .ok (.ireturn, 1) := dk_172 (dk_at dksX1_nextLost_3 7 rfl rfl)
abbrev cX1_bestClaim : ByteArray := prog_1_method_56_code
def yX1_bestClaim : MethodName := ⟨RX1, "bestClaim", "()I"⟩
def dkwX1_bestClaim_4 : List UInt8 := [29, 60, 28, 21, 4, 184, 1, 82, 61, 132, 3, 1, 167, 255, 159, 27, 172]
abbrev dktX1_bestClaim_4 : List UInt8 := dkwX1_bestClaim_4 ++ []
def dkwX1_bestClaim_3 : List UInt8 := [153, 0, 11, 25, 6, 180, 0, 217, 167, 0, 4, 3, 96, 54, 4, 167, 255, 202, 21, 4, 28, 164, 0, 5]
abbrev dktX1_bestClaim_3 : List UInt8 := dkwX1_bestClaim_3 ++ dktX1_bestClaim_4
def dkwX1_bestClaim_2 : List UInt8 := [192, 0, 43, 58, 6, 21, 4, 25, 6, 180, 0, 220, 29, 160, 0, 20, 42, 25, 6, 182, 1, 91]
abbrev dktX1_bestClaim_2 : List UInt8 := dkwX1_bestClaim_2 ++ dktX1_bestClaim_3
def dkwX1_bestClaim_1 : List UInt8 := [185, 0, 141, 1, 0, 58, 5, 25, 5, 185, 0, 145, 1, 0, 153, 0, 50, 25, 5, 185, 0, 151, 1, 0]
abbrev dktX1_bestClaim_1 : List UInt8 := dkwX1_bestClaim_1 ++ dktX1_bestClaim_2
def dkwX1_bestClaim_0 : List UInt8 := [2, 60, 3, 61, 4, 62, 29, 8, 163, 0, 98, 3, 54, 4, 42, 180, 0, 75, 180, 0, 10]
abbrev dktX1_bestClaim_0 : List UInt8 := dkwX1_bestClaim_0 ++ dktX1_bestClaim_1
theorem dksX1_bestClaim_0 : cX1_bestClaim.data.toList.drop 0 = dktX1_bestClaim_0 := by decide +kernel
theorem dksX1_bestClaim_1 : cX1_bestClaim.data.toList.drop 21 = dktX1_bestClaim_1 := dk_seg dksX1_bestClaim_0 21 rfl rfl
theorem dksX1_bestClaim_2 : cX1_bestClaim.data.toList.drop 45 = dktX1_bestClaim_2 := dk_seg dksX1_bestClaim_1 24 rfl rfl
theorem dksX1_bestClaim_3 : cX1_bestClaim.data.toList.drop 67 = dktX1_bestClaim_3 := dk_seg dksX1_bestClaim_2 22 rfl rfl
theorem dksX1_bestClaim_4 : cX1_bestClaim.data.toList.drop 91 = dktX1_bestClaim_4 := dk_seg dksX1_bestClaim_3 24 rfl rfl
theorem dX1_bestClaim_0 : decode cX1_bestClaim 0 = .ok (.iconst (-1), 1) := dk_2 (dk_at dksX1_bestClaim_0 0 rfl rfl)
theorem dX1_bestClaim_1 : decode cX1_bestClaim 1 = .ok (.istore_n 1, 1) := dk_60 (dk_at dksX1_bestClaim_0 1 rfl rfl)
theorem dX1_bestClaim_2 : decode cX1_bestClaim 2 = .ok (.iconst 0, 1) := dk_3 (dk_at dksX1_bestClaim_0 2 rfl rfl)
theorem dX1_bestClaim_3 : decode cX1_bestClaim 3 = .ok (.istore_n 2, 1) := dk_61 (dk_at dksX1_bestClaim_0 3 rfl rfl)
theorem dX1_bestClaim_4 : decode cX1_bestClaim 4 = .ok (.iconst 1, 1) := dk_4 (dk_at dksX1_bestClaim_0 4 rfl rfl)
theorem dX1_bestClaim_5 : decode cX1_bestClaim 5 = .ok (.istore_n 3, 1) := dk_62 (dk_at dksX1_bestClaim_0 5 rfl rfl)
theorem dX1_bestClaim_6 : decode cX1_bestClaim 6 = .ok (.iload_n 3, 1) := dk_29 (dk_at dksX1_bestClaim_0 6 rfl rfl)
theorem dX1_bestClaim_7 : decode cX1_bestClaim 7 = .ok (.iconst 5, 1) := dk_8 (dk_at dksX1_bestClaim_0 7 rfl rfl)
theorem dX1_bestClaim_8 : decode cX1_bestClaim 8 = .ok (.if_icmp .gt 98, 3) := dk_163 0 98 (dk_at dksX1_bestClaim_0 8 rfl rfl)
theorem dX1_bestClaim_11 : decode cX1_bestClaim 11 = .ok (.iconst 0, 1) := dk_3 (dk_at dksX1_bestClaim_0 11 rfl rfl)
theorem dX1_bestClaim_12 : decode cX1_bestClaim 12 = .ok (.istore 4, 2) := dk_54 4 (dk_at dksX1_bestClaim_0 12 rfl rfl)
theorem dX1_bestClaim_14 : decode cX1_bestClaim 14 = .ok (.aload_n 0, 1) := dk_42 (dk_at dksX1_bestClaim_0 14 rfl rfl)
theorem dX1_bestClaim_15 : decode cX1_bestClaim 15 = .ok (.getfield 75, 3) := dk_180 0 75 (dk_at dksX1_bestClaim_0 15 rfl rfl)
theorem dX1_bestClaim_18 : decode cX1_bestClaim 18 = .ok (.getfield 10, 3) := dk_180 0 10 (dk_at dksX1_bestClaim_0 18 rfl rfl)
theorem dX1_bestClaim_21 : decode cX1_bestClaim 21 = .ok (.invokeinterface 141 1, 5) := by decide +kernel
theorem dX1_bestClaim_26 : decode cX1_bestClaim 26 = .ok (.astore 5, 2) := dk_58 5 (dk_at dksX1_bestClaim_1 5 rfl rfl)
theorem dX1_bestClaim_28 : decode cX1_bestClaim 28 = .ok (.aload 5, 2) := dk_25 5 (dk_at dksX1_bestClaim_1 7 rfl rfl)
theorem dX1_bestClaim_30 : decode cX1_bestClaim 30 = .ok (.invokeinterface 145 1, 5) := by decide +kernel
theorem dX1_bestClaim_35 : decode cX1_bestClaim 35 = .ok (.ifCond .eq 50, 3) := dk_153 0 50 (dk_at dksX1_bestClaim_1 14 rfl rfl)
theorem dX1_bestClaim_38 : decode cX1_bestClaim 38 = .ok (.aload 5, 2) := dk_25 5 (dk_at dksX1_bestClaim_1 17 rfl rfl)
theorem dX1_bestClaim_40 : decode cX1_bestClaim 40 = .ok (.invokeinterface 151 1, 5) := by decide +kernel
theorem dX1_bestClaim_45 : decode cX1_bestClaim 45 = .ok (.checkcast 43, 3) := dk_192 0 43 (dk_at dksX1_bestClaim_2 0 rfl rfl)
theorem dX1_bestClaim_48 : decode cX1_bestClaim 48 = .ok (.astore 6, 2) := dk_58 6 (dk_at dksX1_bestClaim_2 3 rfl rfl)
theorem dX1_bestClaim_50 : decode cX1_bestClaim 50 = .ok (.iload 4, 2) := dk_21 4 (dk_at dksX1_bestClaim_2 5 rfl rfl)
theorem dX1_bestClaim_52 : decode cX1_bestClaim 52 = .ok (.aload 6, 2) := dk_25 6 (dk_at dksX1_bestClaim_2 7 rfl rfl)
theorem dX1_bestClaim_54 : decode cX1_bestClaim 54 = .ok (.getfield 220, 3) := dk_180 0 220 (dk_at dksX1_bestClaim_2 9 rfl rfl)
theorem dX1_bestClaim_57 : decode cX1_bestClaim 57 = .ok (.iload_n 3, 1) := dk_29 (dk_at dksX1_bestClaim_2 12 rfl rfl)
theorem dX1_bestClaim_58 : decode cX1_bestClaim 58 = .ok (.if_icmp .ne 20, 3) := dk_160 0 20 (dk_at dksX1_bestClaim_2 13 rfl rfl)
theorem dX1_bestClaim_61 : decode cX1_bestClaim 61 = .ok (.aload_n 0, 1) := dk_42 (dk_at dksX1_bestClaim_2 16 rfl rfl)
theorem dX1_bestClaim_62 : decode cX1_bestClaim 62 = .ok (.aload 6, 2) := dk_25 6 (dk_at dksX1_bestClaim_2 17 rfl rfl)
theorem dX1_bestClaim_64 : decode cX1_bestClaim 64 = .ok (.invokevirtual 347, 3) := dk_182 1 91 (dk_at dksX1_bestClaim_2 19 rfl rfl)
theorem dX1_bestClaim_67 : decode cX1_bestClaim 67 = .ok (.ifCond .eq 11, 3) := dk_153 0 11 (dk_at dksX1_bestClaim_3 0 rfl rfl)
theorem dX1_bestClaim_70 : decode cX1_bestClaim 70 = .ok (.aload 6, 2) := dk_25 6 (dk_at dksX1_bestClaim_3 3 rfl rfl)
theorem dX1_bestClaim_72 : decode cX1_bestClaim 72 = .ok (.getfield 217, 3) := dk_180 0 217 (dk_at dksX1_bestClaim_3 5 rfl rfl)
theorem dX1_bestClaim_75 : decode cX1_bestClaim 75 = .ok (.goto 4, 3) := dk_167 0 4 (dk_at dksX1_bestClaim_3 8 rfl rfl)
theorem dX1_bestClaim_78 : decode cX1_bestClaim 78 = .ok (.iconst 0, 1) := dk_3 (dk_at dksX1_bestClaim_3 11 rfl rfl)
theorem dX1_bestClaim_79 : decode cX1_bestClaim 79 = .ok (.iadd, 1) := dk_96 (dk_at dksX1_bestClaim_3 12 rfl rfl)
theorem dX1_bestClaim_80 : decode cX1_bestClaim 80 = .ok (.istore 4, 2) := dk_54 4 (dk_at dksX1_bestClaim_3 13 rfl rfl)
theorem dX1_bestClaim_82 : decode cX1_bestClaim 82 = .ok (.goto (-54), 3) := dk_167 255 202 (dk_at dksX1_bestClaim_3 15 rfl rfl)
theorem dX1_bestClaim_85 : decode cX1_bestClaim 85 = .ok (.iload 4, 2) := dk_21 4 (dk_at dksX1_bestClaim_3 18 rfl rfl)
theorem dX1_bestClaim_87 : decode cX1_bestClaim 87 = .ok (.iload_n 2, 1) := dk_28 (dk_at dksX1_bestClaim_3 20 rfl rfl)
theorem dX1_bestClaim_88 : decode cX1_bestClaim 88 = .ok (.if_icmp .le 5, 3) := dk_164 0 5 (dk_at dksX1_bestClaim_3 21 rfl rfl)
theorem dX1_bestClaim_91 : decode cX1_bestClaim 91 = .ok (.iload_n 3, 1) := dk_29 (dk_at dksX1_bestClaim_4 0 rfl rfl)
theorem dX1_bestClaim_92 : decode cX1_bestClaim 92 = .ok (.istore_n 1, 1) := dk_60 (dk_at dksX1_bestClaim_4 1 rfl rfl)
theorem dX1_bestClaim_93 : decode cX1_bestClaim 93 = .ok (.iload_n 2, 1) := dk_28 (dk_at dksX1_bestClaim_4 2 rfl rfl)
theorem dX1_bestClaim_94 : decode cX1_bestClaim 94 = .ok (.iload 4, 2) := dk_21 4 (dk_at dksX1_bestClaim_4 3 rfl rfl)
theorem dX1_bestClaim_96 : decode cX1_bestClaim 96 = .ok (.invokestatic 338, 3) := dk_184 1 82 (dk_at dksX1_bestClaim_4 5 rfl rfl)
theorem dX1_bestClaim_99 : decode cX1_bestClaim 99 = .ok (.istore_n 2, 1) := dk_61 (dk_at dksX1_bestClaim_4 8 rfl rfl)
theorem dX1_bestClaim_100 : decode cX1_bestClaim 100 = .ok (.iinc 3 1, 3) := dk_132 3 1 (dk_at dksX1_bestClaim_4 9 rfl rfl)
theorem dX1_bestClaim_103 : decode cX1_bestClaim 103 = .ok (.goto (-97), 3) := dk_167 255 159 (dk_at dksX1_bestClaim_4 12 rfl rfl)
theorem dX1_bestClaim_106 : decode cX1_bestClaim 106 = .ok (.iload_n 1, 1) := dk_27 (dk_at dksX1_bestClaim_4 15 rfl rfl)
theorem dX1_bestClaim_107 : decode cX1_bestClaim 107 = .ok (.ireturn, 1) := dk_172 (dk_at dksX1_bestClaim_4 16 rfl rfl)
abbrev cX1_isClaimable : ByteArray := prog_1_method_54_code
def yX1_isClaimable : MethodName := ⟨RX1, "isClaimable", "(LWreckShares$Good;)Z"⟩
def dkwX1_isClaimable_1 : List UInt8 := [180, 0, 75, 180, 0, 162, 43, 180, 0, 232, 163, 0, 7, 4, 167, 0, 4, 3, 172]
abbrev dktX1_isClaimable_1 : List UInt8 := dkwX1_isClaimable_1 ++ []
def dkwX1_isClaimable_0 : List UInt8 := [43, 180, 0, 155, 4, 160, 0, 35, 43, 180, 0, 220, 153, 0, 28, 43, 180, 0, 245, 154, 0, 21, 42]
abbrev dktX1_isClaimable_0 : List UInt8 := dkwX1_isClaimable_0 ++ dktX1_isClaimable_1
theorem dksX1_isClaimable_0 : cX1_isClaimable.data.toList.drop 0 = dktX1_isClaimable_0 := by decide +kernel
theorem dksX1_isClaimable_1 : cX1_isClaimable.data.toList.drop 23 = dktX1_isClaimable_1 := dk_seg dksX1_isClaimable_0 23 rfl rfl
theorem dX1_isClaimable_0 : decode cX1_isClaimable 0 = .ok (.aload_n 1, 1) := dk_43 (dk_at dksX1_isClaimable_0 0 rfl rfl)
theorem dX1_isClaimable_1 : decode cX1_isClaimable 1 = .ok (.getfield 155, 3) := dk_180 0 155 (dk_at dksX1_isClaimable_0 1 rfl rfl)
theorem dX1_isClaimable_4 : decode cX1_isClaimable 4 = .ok (.iconst 1, 1) := dk_4 (dk_at dksX1_isClaimable_0 4 rfl rfl)
theorem dX1_isClaimable_5 : decode cX1_isClaimable 5 = .ok (.if_icmp .ne 35, 3) := dk_160 0 35 (dk_at dksX1_isClaimable_0 5 rfl rfl)
theorem dX1_isClaimable_8 : decode cX1_isClaimable 8 = .ok (.aload_n 1, 1) := dk_43 (dk_at dksX1_isClaimable_0 8 rfl rfl)
theorem dX1_isClaimable_9 : decode cX1_isClaimable 9 = .ok (.getfield 220, 3) := dk_180 0 220 (dk_at dksX1_isClaimable_0 9 rfl rfl)
theorem dX1_isClaimable_12 : decode cX1_isClaimable 12 = .ok (.ifCond .eq 28, 3) := dk_153 0 28 (dk_at dksX1_isClaimable_0 12 rfl rfl)
theorem dX1_isClaimable_15 : decode cX1_isClaimable 15 = .ok (.aload_n 1, 1) := dk_43 (dk_at dksX1_isClaimable_0 15 rfl rfl)
theorem dX1_isClaimable_16 : decode cX1_isClaimable 16 = .ok (.getfield 245, 3) := dk_180 0 245 (dk_at dksX1_isClaimable_0 16 rfl rfl)
theorem dX1_isClaimable_19 : decode cX1_isClaimable 19 = .ok (.ifCond .ne 21, 3) := dk_154 0 21 (dk_at dksX1_isClaimable_0 19 rfl rfl)
theorem dX1_isClaimable_22 : decode cX1_isClaimable 22 = .ok (.aload_n 0, 1) := dk_42 (dk_at dksX1_isClaimable_0 22 rfl rfl)
theorem dX1_isClaimable_23 : decode cX1_isClaimable 23 = .ok (.getfield 75, 3) := dk_180 0 75 (dk_at dksX1_isClaimable_1 0 rfl rfl)
theorem dX1_isClaimable_26 : decode cX1_isClaimable 26 = .ok (.getfield 162, 3) := dk_180 0 162 (dk_at dksX1_isClaimable_1 3 rfl rfl)
theorem dX1_isClaimable_29 : decode cX1_isClaimable 29 = .ok (.aload_n 1, 1) := dk_43 (dk_at dksX1_isClaimable_1 6 rfl rfl)
theorem dX1_isClaimable_30 : decode cX1_isClaimable 30 = .ok (.getfield 232, 3) := dk_180 0 232 (dk_at dksX1_isClaimable_1 7 rfl rfl)
theorem dX1_isClaimable_33 : decode cX1_isClaimable 33 = .ok (.if_icmp .gt 7, 3) := dk_163 0 7 (dk_at dksX1_isClaimable_1 10 rfl rfl)
theorem dX1_isClaimable_36 : decode cX1_isClaimable 36 = .ok (.iconst 1, 1) := dk_4 (dk_at dksX1_isClaimable_1 13 rfl rfl)
theorem dX1_isClaimable_37 : decode cX1_isClaimable 37 = .ok (.goto 4, 3) := dk_167 0 4 (dk_at dksX1_isClaimable_1 14 rfl rfl)
theorem dX1_isClaimable_40 : decode cX1_isClaimable 40 = .ok (.iconst 0, 1) := dk_3 (dk_at dksX1_isClaimable_1 17 rfl rfl)
theorem dX1_isClaimable_41 : decode cX1_isClaimable 41 = .ok (.ireturn, 1) := dk_172 (dk_at dksX1_isClaimable_1 18 rfl rfl)
abbrev cX1_firstDue : ByteArray := prog_1_method_57_code
def yX1_firstDue : MethodName := ⟨RX1, "firstDue", "()I"⟩
def dkwX1_firstDue_3 : List UInt8 := [199, 0, 7, 2, 167, 0, 7, 43, 180, 1, 3, 172]
abbrev dktX1_firstDue_3 : List UInt8 := dkwX1_firstDue_3 ++ []
def dkwX1_firstDue_2 : List UInt8 := [154, 0, 20, 43, 198, 0, 14, 45, 180, 0, 232, 43, 180, 0, 232, 162, 0, 5, 45, 76, 167, 255, 205, 43]
abbrev dktX1_firstDue_2 : List UInt8 := dkwX1_firstDue_2 ++ dktX1_firstDue_3
def dkwX1_firstDue_1 : List UInt8 := [44, 185, 0, 151, 1, 0, 192, 0, 43, 78, 45, 180, 0, 155, 4, 160, 0, 27, 45, 180, 0, 245]
abbrev dktX1_firstDue_1 : List UInt8 := dkwX1_firstDue_1 ++ dktX1_firstDue_2
def dkwX1_firstDue_0 : List UInt8 := [1, 76, 42, 180, 0, 75, 180, 0, 10, 185, 0, 141, 1, 0, 77, 44, 185, 0, 145, 1, 0, 153, 0, 48]
abbrev dktX1_firstDue_0 : List UInt8 := dkwX1_firstDue_0 ++ dktX1_firstDue_1
theorem dksX1_firstDue_0 : cX1_firstDue.data.toList.drop 0 = dktX1_firstDue_0 := by decide +kernel
theorem dksX1_firstDue_1 : cX1_firstDue.data.toList.drop 24 = dktX1_firstDue_1 := dk_seg dksX1_firstDue_0 24 rfl rfl
theorem dksX1_firstDue_2 : cX1_firstDue.data.toList.drop 46 = dktX1_firstDue_2 := dk_seg dksX1_firstDue_1 22 rfl rfl
theorem dksX1_firstDue_3 : cX1_firstDue.data.toList.drop 70 = dktX1_firstDue_3 := dk_seg dksX1_firstDue_2 24 rfl rfl
theorem dX1_firstDue_0 : decode cX1_firstDue 0 = .ok (.aconst_null, 1) := dk_1 (dk_at dksX1_firstDue_0 0 rfl rfl)
theorem dX1_firstDue_1 : decode cX1_firstDue 1 = .ok (.astore_n 1, 1) := dk_76 (dk_at dksX1_firstDue_0 1 rfl rfl)
theorem dX1_firstDue_2 : decode cX1_firstDue 2 = .ok (.aload_n 0, 1) := dk_42 (dk_at dksX1_firstDue_0 2 rfl rfl)
theorem dX1_firstDue_3 : decode cX1_firstDue 3 = .ok (.getfield 75, 3) := dk_180 0 75 (dk_at dksX1_firstDue_0 3 rfl rfl)
theorem dX1_firstDue_6 : decode cX1_firstDue 6 = .ok (.getfield 10, 3) := dk_180 0 10 (dk_at dksX1_firstDue_0 6 rfl rfl)
theorem dX1_firstDue_9 : decode cX1_firstDue 9 = .ok (.invokeinterface 141 1, 5) := by decide +kernel
theorem dX1_firstDue_14 : decode cX1_firstDue 14 = .ok (.astore_n 2, 1) := dk_77 (dk_at dksX1_firstDue_0 14 rfl rfl)
theorem dX1_firstDue_15 : decode cX1_firstDue 15 = .ok (.aload_n 2, 1) := dk_44 (dk_at dksX1_firstDue_0 15 rfl rfl)
theorem dX1_firstDue_16 : decode cX1_firstDue 16 = .ok (.invokeinterface 145 1, 5) := by decide +kernel
theorem dX1_firstDue_21 : decode cX1_firstDue 21 = .ok (.ifCond .eq 48, 3) := dk_153 0 48 (dk_at dksX1_firstDue_0 21 rfl rfl)
theorem dX1_firstDue_24 : decode cX1_firstDue 24 = .ok (.aload_n 2, 1) := dk_44 (dk_at dksX1_firstDue_1 0 rfl rfl)
theorem dX1_firstDue_25 : decode cX1_firstDue 25 = .ok (.invokeinterface 151 1, 5) := by decide +kernel
theorem dX1_firstDue_30 : decode cX1_firstDue 30 = .ok (.checkcast 43, 3) := dk_192 0 43 (dk_at dksX1_firstDue_1 6 rfl rfl)
theorem dX1_firstDue_33 : decode cX1_firstDue 33 = .ok (.astore_n 3, 1) := dk_78 (dk_at dksX1_firstDue_1 9 rfl rfl)
theorem dX1_firstDue_34 : decode cX1_firstDue 34 = .ok (.aload_n 3, 1) := dk_45 (dk_at dksX1_firstDue_1 10 rfl rfl)
theorem dX1_firstDue_35 : decode cX1_firstDue 35 = .ok (.getfield 155, 3) := dk_180 0 155 (dk_at dksX1_firstDue_1 11 rfl rfl)
theorem dX1_firstDue_38 : decode cX1_firstDue 38 = .ok (.iconst 1, 1) := dk_4 (dk_at dksX1_firstDue_1 14 rfl rfl)
theorem dX1_firstDue_39 : decode cX1_firstDue 39 = .ok (.if_icmp .ne 27, 3) := dk_160 0 27 (dk_at dksX1_firstDue_1 15 rfl rfl)
theorem dX1_firstDue_42 : decode cX1_firstDue 42 = .ok (.aload_n 3, 1) := dk_45 (dk_at dksX1_firstDue_1 18 rfl rfl)
theorem dX1_firstDue_43 : decode cX1_firstDue 43 = .ok (.getfield 245, 3) := dk_180 0 245 (dk_at dksX1_firstDue_1 19 rfl rfl)
theorem dX1_firstDue_46 : decode cX1_firstDue 46 = .ok (.ifCond .ne 20, 3) := dk_154 0 20 (dk_at dksX1_firstDue_2 0 rfl rfl)
theorem dX1_firstDue_49 : decode cX1_firstDue 49 = .ok (.aload_n 1, 1) := dk_43 (dk_at dksX1_firstDue_2 3 rfl rfl)
theorem dX1_firstDue_50 : decode cX1_firstDue 50 = .ok (.ifnull 14, 3) := dk_198 0 14 (dk_at dksX1_firstDue_2 4 rfl rfl)
theorem dX1_firstDue_53 : decode cX1_firstDue 53 = .ok (.aload_n 3, 1) := dk_45 (dk_at dksX1_firstDue_2 7 rfl rfl)
theorem dX1_firstDue_54 : decode cX1_firstDue 54 = .ok (.getfield 232, 3) := dk_180 0 232 (dk_at dksX1_firstDue_2 8 rfl rfl)
theorem dX1_firstDue_57 : decode cX1_firstDue 57 = .ok (.aload_n 1, 1) := dk_43 (dk_at dksX1_firstDue_2 11 rfl rfl)
theorem dX1_firstDue_58 : decode cX1_firstDue 58 = .ok (.getfield 232, 3) := dk_180 0 232 (dk_at dksX1_firstDue_2 12 rfl rfl)
theorem dX1_firstDue_61 : decode cX1_firstDue 61 = .ok (.if_icmp .ge 5, 3) := dk_162 0 5 (dk_at dksX1_firstDue_2 15 rfl rfl)
theorem dX1_firstDue_64 : decode cX1_firstDue 64 = .ok (.aload_n 3, 1) := dk_45 (dk_at dksX1_firstDue_2 18 rfl rfl)
theorem dX1_firstDue_65 : decode cX1_firstDue 65 = .ok (.astore_n 1, 1) := dk_76 (dk_at dksX1_firstDue_2 19 rfl rfl)
theorem dX1_firstDue_66 : decode cX1_firstDue 66 = .ok (.goto (-51), 3) := dk_167 255 205 (dk_at dksX1_firstDue_2 20 rfl rfl)
theorem dX1_firstDue_69 : decode cX1_firstDue 69 = .ok (.aload_n 1, 1) := dk_43 (dk_at dksX1_firstDue_2 23 rfl rfl)
theorem dX1_firstDue_70 : decode cX1_firstDue 70 = .ok (.ifnonnull 7, 3) := dk_199 0 7 (dk_at dksX1_firstDue_3 0 rfl rfl)
theorem dX1_firstDue_73 : decode cX1_firstDue 73 = .ok (.iconst (-1), 1) := dk_2 (dk_at dksX1_firstDue_3 3 rfl rfl)
theorem dX1_firstDue_74 : decode cX1_firstDue 74 = .ok (.goto 7, 3) := dk_167 0 7 (dk_at dksX1_firstDue_3 4 rfl rfl)
theorem dX1_firstDue_77 : decode cX1_firstDue 77 = .ok (.aload_n 1, 1) := dk_43 (dk_at dksX1_firstDue_3 7 rfl rfl)
theorem dX1_firstDue_78 : decode cX1_firstDue 78 = .ok (.getfield 259, 3) := dk_180 1 3 (dk_at dksX1_firstDue_3 8 rfl rfl)
theorem dX1_firstDue_81 : decode cX1_firstDue 81 = .ok (.ireturn, 1) := dk_172 (dk_at dksX1_firstDue_3 11 rfl rfl)
abbrev cX1_bestHaul : ByteArray := prog_1_method_63_code
def yX1_bestHaul : MethodName := ⟨RX1, "bestHaul", "()I"⟩
def dkwX1_bestHaul_5 : List UInt8 := [199, 0, 7, 2, 167, 0, 7, 44, 180, 1, 3, 172]
abbrev dktX1_bestHaul_5 : List UInt8 := dkwX1_bestHaul_5 ++ []
def dkwX1_bestHaul_4 : List UInt8 := [198, 0, 15, 25, 4, 180, 0, 217, 44, 180, 0, 217, 164, 0, 6, 25, 4, 77, 167, 255, 168, 44]
abbrev dktX1_bestHaul_4 : List UInt8 := dkwX1_bestHaul_4 ++ dktX1_bestHaul_5
def dkwX1_bestHaul_3 : List UInt8 := [96, 25, 4, 180, 0, 226, 161, 0, 7, 4, 167, 0, 4, 3, 54, 5, 21, 5, 153, 0, 22, 44]
abbrev dktX1_bestHaul_3 : List UInt8 := dkwX1_bestHaul_3 ++ dktX1_bestHaul_4
def dkwX1_bestHaul_2 : List UInt8 := [25, 4, 42, 180, 0, 75, 180, 0, 162, 182, 0, 165, 153, 0, 25, 25, 4, 180, 0, 235, 182, 0, 239, 27]
abbrev dktX1_bestHaul_2 : List UInt8 := dkwX1_bestHaul_2 ++ dktX1_bestHaul_3
def dkwX1_bestHaul_1 : List UInt8 := [185, 0, 145, 1, 0, 153, 0, 85, 45, 185, 0, 151, 1, 0, 192, 0, 43, 58, 4, 42, 180, 0, 75]
abbrev dktX1_bestHaul_1 : List UInt8 := dkwX1_bestHaul_1 ++ dktX1_bestHaul_2
def dkwX1_bestHaul_0 : List UInt8 := [42, 180, 0, 75, 182, 0, 191, 60, 1, 77, 187, 1, 41, 89, 42, 183, 1, 43, 182, 1, 46, 78, 45]
abbrev dktX1_bestHaul_0 : List UInt8 := dkwX1_bestHaul_0 ++ dktX1_bestHaul_1
theorem dksX1_bestHaul_0 : cX1_bestHaul.data.toList.drop 0 = dktX1_bestHaul_0 := by decide +kernel
theorem dksX1_bestHaul_1 : cX1_bestHaul.data.toList.drop 23 = dktX1_bestHaul_1 := dk_seg dksX1_bestHaul_0 23 rfl rfl
theorem dksX1_bestHaul_2 : cX1_bestHaul.data.toList.drop 46 = dktX1_bestHaul_2 := dk_seg dksX1_bestHaul_1 23 rfl rfl
theorem dksX1_bestHaul_3 : cX1_bestHaul.data.toList.drop 70 = dktX1_bestHaul_3 := dk_seg dksX1_bestHaul_2 24 rfl rfl
theorem dksX1_bestHaul_4 : cX1_bestHaul.data.toList.drop 92 = dktX1_bestHaul_4 := dk_seg dksX1_bestHaul_3 22 rfl rfl
theorem dksX1_bestHaul_5 : cX1_bestHaul.data.toList.drop 114 = dktX1_bestHaul_5 := dk_seg dksX1_bestHaul_4 22 rfl rfl
theorem dX1_bestHaul_0 : decode cX1_bestHaul 0 = .ok (.aload_n 0, 1) := dk_42 (dk_at dksX1_bestHaul_0 0 rfl rfl)
theorem dX1_bestHaul_1 : decode cX1_bestHaul 1 = .ok (.getfield 75, 3) := dk_180 0 75 (dk_at dksX1_bestHaul_0 1 rfl rfl)
theorem dX1_bestHaul_4 : decode cX1_bestHaul 4 = .ok (.invokevirtual 191, 3) := dk_182 0 191 (dk_at dksX1_bestHaul_0 4 rfl rfl)
theorem dX1_bestHaul_7 : decode cX1_bestHaul 7 = .ok (.istore_n 1, 1) := dk_60 (dk_at dksX1_bestHaul_0 7 rfl rfl)
theorem dX1_bestHaul_8 : decode cX1_bestHaul 8 = .ok (.aconst_null, 1) := dk_1 (dk_at dksX1_bestHaul_0 8 rfl rfl)
theorem dX1_bestHaul_9 : decode cX1_bestHaul 9 = .ok (.astore_n 2, 1) := dk_77 (dk_at dksX1_bestHaul_0 9 rfl rfl)
theorem dX1_bestHaul_10 : decode cX1_bestHaul 10 = .ok (.new 297, 3) := dk_187 1 41 (dk_at dksX1_bestHaul_0 10 rfl rfl)
theorem dX1_bestHaul_13 : decode cX1_bestHaul 13 = .ok (.dup, 1) := dk_89 (dk_at dksX1_bestHaul_0 13 rfl rfl)
theorem dX1_bestHaul_14 : decode cX1_bestHaul 14 = .ok (.aload_n 0, 1) := dk_42 (dk_at dksX1_bestHaul_0 14 rfl rfl)
theorem dX1_bestHaul_15 : decode cX1_bestHaul 15 = .ok (.invokespecial 299, 3) := dk_183 1 43 (dk_at dksX1_bestHaul_0 15 rfl rfl)
theorem dX1_bestHaul_18 : decode cX1_bestHaul 18 = .ok (.invokevirtual 302, 3) := dk_182 1 46 (dk_at dksX1_bestHaul_0 18 rfl rfl)
theorem dX1_bestHaul_21 : decode cX1_bestHaul 21 = .ok (.astore_n 3, 1) := dk_78 (dk_at dksX1_bestHaul_0 21 rfl rfl)
theorem dX1_bestHaul_22 : decode cX1_bestHaul 22 = .ok (.aload_n 3, 1) := dk_45 (dk_at dksX1_bestHaul_0 22 rfl rfl)
theorem dX1_bestHaul_23 : decode cX1_bestHaul 23 = .ok (.invokeinterface 145 1, 5) := by decide +kernel
theorem dX1_bestHaul_28 : decode cX1_bestHaul 28 = .ok (.ifCond .eq 85, 3) := dk_153 0 85 (dk_at dksX1_bestHaul_1 5 rfl rfl)
theorem dX1_bestHaul_31 : decode cX1_bestHaul 31 = .ok (.aload_n 3, 1) := dk_45 (dk_at dksX1_bestHaul_1 8 rfl rfl)
theorem dX1_bestHaul_32 : decode cX1_bestHaul 32 = .ok (.invokeinterface 151 1, 5) := by decide +kernel
theorem dX1_bestHaul_37 : decode cX1_bestHaul 37 = .ok (.checkcast 43, 3) := dk_192 0 43 (dk_at dksX1_bestHaul_1 14 rfl rfl)
theorem dX1_bestHaul_40 : decode cX1_bestHaul 40 = .ok (.astore 4, 2) := dk_58 4 (dk_at dksX1_bestHaul_1 17 rfl rfl)
theorem dX1_bestHaul_42 : decode cX1_bestHaul 42 = .ok (.aload_n 0, 1) := dk_42 (dk_at dksX1_bestHaul_1 19 rfl rfl)
theorem dX1_bestHaul_43 : decode cX1_bestHaul 43 = .ok (.getfield 75, 3) := dk_180 0 75 (dk_at dksX1_bestHaul_1 20 rfl rfl)
theorem dX1_bestHaul_46 : decode cX1_bestHaul 46 = .ok (.aload 4, 2) := dk_25 4 (dk_at dksX1_bestHaul_2 0 rfl rfl)
theorem dX1_bestHaul_48 : decode cX1_bestHaul 48 = .ok (.aload_n 0, 1) := dk_42 (dk_at dksX1_bestHaul_2 2 rfl rfl)
theorem dX1_bestHaul_49 : decode cX1_bestHaul 49 = .ok (.getfield 75, 3) := dk_180 0 75 (dk_at dksX1_bestHaul_2 3 rfl rfl)
theorem dX1_bestHaul_52 : decode cX1_bestHaul 52 = .ok (.getfield 162, 3) := dk_180 0 162 (dk_at dksX1_bestHaul_2 6 rfl rfl)
theorem dX1_bestHaul_55 : decode cX1_bestHaul 55 = .ok (.invokevirtual 165, 3) := dk_182 0 165 (dk_at dksX1_bestHaul_2 9 rfl rfl)
theorem dX1_bestHaul_58 : decode cX1_bestHaul 58 = .ok (.ifCond .eq 25, 3) := dk_153 0 25 (dk_at dksX1_bestHaul_2 12 rfl rfl)
theorem dX1_bestHaul_61 : decode cX1_bestHaul 61 = .ok (.aload 4, 2) := dk_25 4 (dk_at dksX1_bestHaul_2 15 rfl rfl)
theorem dX1_bestHaul_63 : decode cX1_bestHaul 63 = .ok (.getfield 235, 3) := dk_180 0 235 (dk_at dksX1_bestHaul_2 17 rfl rfl)
theorem dX1_bestHaul_66 : decode cX1_bestHaul 66 = .ok (.invokevirtual 239, 3) := dk_182 0 239 (dk_at dksX1_bestHaul_2 20 rfl rfl)
theorem dX1_bestHaul_69 : decode cX1_bestHaul 69 = .ok (.iload_n 1, 1) := dk_27 (dk_at dksX1_bestHaul_2 23 rfl rfl)
theorem dX1_bestHaul_70 : decode cX1_bestHaul 70 = .ok (.iadd, 1) := dk_96 (dk_at dksX1_bestHaul_3 0 rfl rfl)
theorem dX1_bestHaul_71 : decode cX1_bestHaul 71 = .ok (.aload 4, 2) := dk_25 4 (dk_at dksX1_bestHaul_3 1 rfl rfl)
theorem dX1_bestHaul_73 : decode cX1_bestHaul 73 = .ok (.getfield 226, 3) := dk_180 0 226 (dk_at dksX1_bestHaul_3 3 rfl rfl)
theorem dX1_bestHaul_76 : decode cX1_bestHaul 76 = .ok (.if_icmp .lt 7, 3) := dk_161 0 7 (dk_at dksX1_bestHaul_3 6 rfl rfl)
theorem dX1_bestHaul_79 : decode cX1_bestHaul 79 = .ok (.iconst 1, 1) := dk_4 (dk_at dksX1_bestHaul_3 9 rfl rfl)
theorem dX1_bestHaul_80 : decode cX1_bestHaul 80 = .ok (.goto 4, 3) := dk_167 0 4 (dk_at dksX1_bestHaul_3 10 rfl rfl)
theorem dX1_bestHaul_83 : decode cX1_bestHaul 83 = .ok (.iconst 0, 1) := dk_3 (dk_at dksX1_bestHaul_3 13 rfl rfl)
theorem dX1_bestHaul_84 : decode cX1_bestHaul 84 = .ok (.istore 5, 2) := dk_54 5 (dk_at dksX1_bestHaul_3 14 rfl rfl)
theorem dX1_bestHaul_86 : decode cX1_bestHaul 86 = .ok (.iload 5, 2) := dk_21 5 (dk_at dksX1_bestHaul_3 16 rfl rfl)
theorem dX1_bestHaul_88 : decode cX1_bestHaul 88 = .ok (.ifCond .eq 22, 3) := dk_153 0 22 (dk_at dksX1_bestHaul_3 18 rfl rfl)
theorem dX1_bestHaul_91 : decode cX1_bestHaul 91 = .ok (.aload_n 2, 1) := dk_44 (dk_at dksX1_bestHaul_3 21 rfl rfl)
theorem dX1_bestHaul_92 : decode cX1_bestHaul 92 = .ok (.ifnull 15, 3) := dk_198 0 15 (dk_at dksX1_bestHaul_4 0 rfl rfl)
theorem dX1_bestHaul_95 : decode cX1_bestHaul 95 = .ok (.aload 4, 2) := dk_25 4 (dk_at dksX1_bestHaul_4 3 rfl rfl)
theorem dX1_bestHaul_97 : decode cX1_bestHaul 97 = .ok (.getfield 217, 3) := dk_180 0 217 (dk_at dksX1_bestHaul_4 5 rfl rfl)
theorem dX1_bestHaul_100 : decode cX1_bestHaul 100 = .ok (.aload_n 2, 1) := dk_44 (dk_at dksX1_bestHaul_4 8 rfl rfl)
theorem dX1_bestHaul_101 : decode cX1_bestHaul 101 = .ok (.getfield 217, 3) := dk_180 0 217 (dk_at dksX1_bestHaul_4 9 rfl rfl)
theorem dX1_bestHaul_104 : decode cX1_bestHaul 104 = .ok (.if_icmp .le 6, 3) := dk_164 0 6 (dk_at dksX1_bestHaul_4 12 rfl rfl)
theorem dX1_bestHaul_107 : decode cX1_bestHaul 107 = .ok (.aload 4, 2) := dk_25 4 (dk_at dksX1_bestHaul_4 15 rfl rfl)
theorem dX1_bestHaul_109 : decode cX1_bestHaul 109 = .ok (.astore_n 2, 1) := dk_77 (dk_at dksX1_bestHaul_4 17 rfl rfl)
theorem dX1_bestHaul_110 : decode cX1_bestHaul 110 = .ok (.goto (-88), 3) := dk_167 255 168 (dk_at dksX1_bestHaul_4 18 rfl rfl)
theorem dX1_bestHaul_113 : decode cX1_bestHaul 113 = .ok (.aload_n 2, 1) := dk_44 (dk_at dksX1_bestHaul_4 21 rfl rfl)
theorem dX1_bestHaul_114 : decode cX1_bestHaul 114 = .ok (.ifnonnull 7, 3) := dk_199 0 7 (dk_at dksX1_bestHaul_5 0 rfl rfl)
theorem dX1_bestHaul_117 : decode cX1_bestHaul 117 = .ok (.iconst (-1), 1) := dk_2 (dk_at dksX1_bestHaul_5 3 rfl rfl)
theorem dX1_bestHaul_118 : decode cX1_bestHaul 118 = .ok (.goto 7, 3) := dk_167 0 7 (dk_at dksX1_bestHaul_5 4 rfl rfl)
theorem dX1_bestHaul_121 : decode cX1_bestHaul 121 = .ok (.aload_n 2, 1) := dk_44 (dk_at dksX1_bestHaul_5 7 rfl rfl)
theorem dX1_bestHaul_122 : decode cX1_bestHaul 122 = .ok (.getfield 259, 3) := dk_180 1 3 (dk_at dksX1_bestHaul_5 8 rfl rfl)
theorem dX1_bestHaul_125 : decode cX1_bestHaul 125 = .ok (.ireturn, 1) := dk_172 (dk_at dksX1_bestHaul_5 11 rfl rfl)
abbrev cX1_savedShare : ByteArray := prog_1_method_64_code
def yX1_savedShare : MethodName := ⟨RX1, "savedShare", "()F"⟩
def dkwX1_savedShare_1 : List UInt8 := [11, 167, 0, 16, 42, 180, 0, 75, 180, 0, 197, 4, 46, 134, 27, 134, 110, 174]
abbrev dktX1_savedShare_1 : List UInt8 := dkwX1_savedShare_1 ++ []
def dkwX1_savedShare_0 : List UInt8 := [42, 180, 0, 75, 180, 0, 197, 4, 46, 42, 180, 0, 75, 180, 0, 197, 8, 46, 96, 60, 27, 154, 0, 7]
abbrev dktX1_savedShare_0 : List UInt8 := dkwX1_savedShare_0 ++ dktX1_savedShare_1
theorem dksX1_savedShare_0 : cX1_savedShare.data.toList.drop 0 = dktX1_savedShare_0 := by decide +kernel
theorem dksX1_savedShare_1 : cX1_savedShare.data.toList.drop 24 = dktX1_savedShare_1 := dk_seg dksX1_savedShare_0 24 rfl rfl
theorem dX1_savedShare_0 : decode cX1_savedShare 0 = .ok (.aload_n 0, 1) := dk_42 (dk_at dksX1_savedShare_0 0 rfl rfl)
theorem dX1_savedShare_1 : decode cX1_savedShare 1 = .ok (.getfield 75, 3) := dk_180 0 75 (dk_at dksX1_savedShare_0 1 rfl rfl)
theorem dX1_savedShare_4 : decode cX1_savedShare 4 = .ok (.getfield 197, 3) := dk_180 0 197 (dk_at dksX1_savedShare_0 4 rfl rfl)
theorem dX1_savedShare_7 : decode cX1_savedShare 7 = .ok (.iconst 1, 1) := dk_4 (dk_at dksX1_savedShare_0 7 rfl rfl)
theorem dX1_savedShare_8 : decode cX1_savedShare 8 = .ok (.iaload, 1) := dk_46 (dk_at dksX1_savedShare_0 8 rfl rfl)
theorem dX1_savedShare_9 : decode cX1_savedShare 9 = .ok (.aload_n 0, 1) := dk_42 (dk_at dksX1_savedShare_0 9 rfl rfl)
theorem dX1_savedShare_10 : decode cX1_savedShare 10 = .ok (.getfield 75, 3) := dk_180 0 75 (dk_at dksX1_savedShare_0 10 rfl rfl)
theorem dX1_savedShare_13 : decode cX1_savedShare 13 = .ok (.getfield 197, 3) := dk_180 0 197 (dk_at dksX1_savedShare_0 13 rfl rfl)
theorem dX1_savedShare_16 : decode cX1_savedShare 16 = .ok (.iconst 5, 1) := dk_8 (dk_at dksX1_savedShare_0 16 rfl rfl)
theorem dX1_savedShare_17 : decode cX1_savedShare 17 = .ok (.iaload, 1) := dk_46 (dk_at dksX1_savedShare_0 17 rfl rfl)
theorem dX1_savedShare_18 : decode cX1_savedShare 18 = .ok (.iadd, 1) := dk_96 (dk_at dksX1_savedShare_0 18 rfl rfl)
theorem dX1_savedShare_19 : decode cX1_savedShare 19 = .ok (.istore_n 1, 1) := dk_60 (dk_at dksX1_savedShare_0 19 rfl rfl)
theorem dX1_savedShare_20 : decode cX1_savedShare 20 = .ok (.iload_n 1, 1) := dk_27 (dk_at dksX1_savedShare_0 20 rfl rfl)
theorem dX1_savedShare_21 : decode cX1_savedShare 21 = .ok (.ifCond .ne 7, 3) := dk_154 0 7 (dk_at dksX1_savedShare_0 21 rfl rfl)
theorem dX1_savedShare_24 : decode cX1_savedShare 24 = .ok (.fconst 0, 1) := dk_11 (dk_at dksX1_savedShare_1 0 rfl rfl)
theorem dX1_savedShare_25 : decode cX1_savedShare 25 = .ok (.goto 16, 3) := dk_167 0 16 (dk_at dksX1_savedShare_1 1 rfl rfl)
theorem dX1_savedShare_28 : decode cX1_savedShare 28 = .ok (.aload_n 0, 1) := dk_42 (dk_at dksX1_savedShare_1 4 rfl rfl)
theorem dX1_savedShare_29 : decode cX1_savedShare 29 = .ok (.getfield 75, 3) := dk_180 0 75 (dk_at dksX1_savedShare_1 5 rfl rfl)
theorem dX1_savedShare_32 : decode cX1_savedShare 32 = .ok (.getfield 197, 3) := dk_180 0 197 (dk_at dksX1_savedShare_1 8 rfl rfl)
theorem dX1_savedShare_35 : decode cX1_savedShare 35 = .ok (.iconst 1, 1) := dk_4 (dk_at dksX1_savedShare_1 11 rfl rfl)
theorem dX1_savedShare_36 : decode cX1_savedShare 36 = .ok (.iaload, 1) := dk_46 (dk_at dksX1_savedShare_1 12 rfl rfl)
theorem dX1_savedShare_37 : decode cX1_savedShare 37 = .ok (.i2f, 1) := dk_134 (dk_at dksX1_savedShare_1 13 rfl rfl)
theorem dX1_savedShare_38 : decode cX1_savedShare 38 = .ok (.iload_n 1, 1) := dk_27 (dk_at dksX1_savedShare_1 14 rfl rfl)
theorem dX1_savedShare_39 : decode cX1_savedShare 39 = .ok (.i2f, 1) := dk_134 (dk_at dksX1_savedShare_1 15 rfl rfl)
theorem dX1_savedShare_40 : decode cX1_savedShare 40 = .ok (.fdiv, 1) := dk_110 (dk_at dksX1_savedShare_1 16 rfl rfl)
theorem dX1_savedShare_41 : decode cX1_savedShare 41 = .ok (.freturn, 1) := dk_174 (dk_at dksX1_savedShare_1 17 rfl rfl)
abbrev cX1_crownPart : ByteArray := prog_1_method_65_code
def yX1_crownPart : MethodName := ⟨RX1, "crownPart", "()D"⟩
def dkwX1_crownPart_1 : List UInt8 := [42, 180, 0, 75, 180, 0, 197, 6, 46, 135, 111, 175]
abbrev dktX1_crownPart_1 : List UInt8 := dkwX1_crownPart_1 ++ []
def dkwX1_crownPart_0 : List UInt8 := [42, 180, 0, 75, 180, 0, 197, 6, 46, 154, 0, 7, 14, 167, 0, 22, 42, 180, 0, 75, 180, 0, 188, 135]
abbrev dktX1_crownPart_0 : List UInt8 := dkwX1_crownPart_0 ++ dktX1_crownPart_1
theorem dksX1_crownPart_0 : cX1_crownPart.data.toList.drop 0 = dktX1_crownPart_0 := by decide +kernel
theorem dksX1_crownPart_1 : cX1_crownPart.data.toList.drop 24 = dktX1_crownPart_1 := dk_seg dksX1_crownPart_0 24 rfl rfl
theorem dX1_crownPart_0 : decode cX1_crownPart 0 = .ok (.aload_n 0, 1) := dk_42 (dk_at dksX1_crownPart_0 0 rfl rfl)
theorem dX1_crownPart_1 : decode cX1_crownPart 1 = .ok (.getfield 75, 3) := dk_180 0 75 (dk_at dksX1_crownPart_0 1 rfl rfl)
theorem dX1_crownPart_4 : decode cX1_crownPart 4 = .ok (.getfield 197, 3) := dk_180 0 197 (dk_at dksX1_crownPart_0 4 rfl rfl)
theorem dX1_crownPart_7 : decode cX1_crownPart 7 = .ok (.iconst 3, 1) := dk_6 (dk_at dksX1_crownPart_0 7 rfl rfl)
theorem dX1_crownPart_8 : decode cX1_crownPart 8 = .ok (.iaload, 1) := dk_46 (dk_at dksX1_crownPart_0 8 rfl rfl)
theorem dX1_crownPart_9 : decode cX1_crownPart 9 = .ok (.ifCond .ne 7, 3) := dk_154 0 7 (dk_at dksX1_crownPart_0 9 rfl rfl)
theorem dX1_crownPart_12 : decode cX1_crownPart 12 = .ok (.dconst 0, 1) := dk_14 (dk_at dksX1_crownPart_0 12 rfl rfl)
theorem dX1_crownPart_13 : decode cX1_crownPart 13 = .ok (.goto 22, 3) := dk_167 0 22 (dk_at dksX1_crownPart_0 13 rfl rfl)
theorem dX1_crownPart_16 : decode cX1_crownPart 16 = .ok (.aload_n 0, 1) := dk_42 (dk_at dksX1_crownPart_0 16 rfl rfl)
theorem dX1_crownPart_17 : decode cX1_crownPart 17 = .ok (.getfield 75, 3) := dk_180 0 75 (dk_at dksX1_crownPart_0 17 rfl rfl)
theorem dX1_crownPart_20 : decode cX1_crownPart 20 = .ok (.getfield 188, 3) := dk_180 0 188 (dk_at dksX1_crownPart_0 20 rfl rfl)
theorem dX1_crownPart_23 : decode cX1_crownPart 23 = .ok (.i2d, 1) := dk_135 (dk_at dksX1_crownPart_0 23 rfl rfl)
theorem dX1_crownPart_24 : decode cX1_crownPart 24 = .ok (.aload_n 0, 1) := dk_42 (dk_at dksX1_crownPart_1 0 rfl rfl)
theorem dX1_crownPart_25 : decode cX1_crownPart 25 = .ok (.getfield 75, 3) := dk_180 0 75 (dk_at dksX1_crownPart_1 1 rfl rfl)
theorem dX1_crownPart_28 : decode cX1_crownPart 28 = .ok (.getfield 197, 3) := dk_180 0 197 (dk_at dksX1_crownPart_1 4 rfl rfl)
theorem dX1_crownPart_31 : decode cX1_crownPart 31 = .ok (.iconst 3, 1) := dk_6 (dk_at dksX1_crownPart_1 7 rfl rfl)
theorem dX1_crownPart_32 : decode cX1_crownPart 32 = .ok (.iaload, 1) := dk_46 (dk_at dksX1_crownPart_1 8 rfl rfl)
theorem dX1_crownPart_33 : decode cX1_crownPart 33 = .ok (.i2d, 1) := dk_135 (dk_at dksX1_crownPart_1 9 rfl rfl)
theorem dX1_crownPart_34 : decode cX1_crownPart 34 = .ok (.ddiv, 1) := dk_111 (dk_at dksX1_crownPart_1 10 rfl rfl)
theorem dX1_crownPart_35 : decode cX1_crownPart 35 = .ok (.dreturn, 1) := dk_175 (dk_at dksX1_crownPart_1 11 rfl rfl)
abbrev cX1_offAll : ByteArray := prog_1_method_70_code
def yX1_offAll : MethodName := ⟨RX1, "offAll", "()I"⟩
def dkwX1_offAll_0 : List UInt8 := [42, 184, 1, 138, 182, 1, 131, 172]
abbrev dktX1_offAll_0 : List UInt8 := dkwX1_offAll_0 ++ []
theorem dksX1_offAll_0 : cX1_offAll.data.toList.drop 0 = dktX1_offAll_0 := by decide +kernel
theorem dX1_offAll_0 : decode cX1_offAll 0 = .ok (.aload_n 0, 1) := dk_42 (dk_at dksX1_offAll_0 0 rfl rfl)
theorem dX1_offAll_1 : decode cX1_offAll 1 = .ok (.invokestatic 394, 3) := dk_184 1 138 (dk_at dksX1_offAll_0 1 rfl rfl)
theorem dX1_offAll_4 : decode cX1_offAll 4 = .ok (.invokevirtual 387, 3) := dk_182 1 131 (dk_at dksX1_offAll_0 4 rfl rfl)
theorem dX1_offAll_7 : decode cX1_offAll 7 = .ok (.ireturn, 1) := dk_172 (dk_at dksX1_offAll_0 7 rfl rfl)
abbrev cX1_lettingAll : ByteArray := prog_1_method_8_code
def yX1_lettingAll : MethodName := ⟨RX1, "lettingAll", "()LWreckShares$Deed;"⟩
theorem dX1_lettingAll_0 : decode cX1_lettingAll 0 = .ok (.invokedynamic 29, 5) := by decide +kernel
theorem dX1_lettingAll_5 : decode cX1_lettingAll 5 = .ok (.areturn, 1) := by decide +kernel
abbrev cX1_lambda_lettingAll_2 : ByteArray := prog_1_method_93_code
def yX1_lambda_lettingAll_2 : MethodName := ⟨RX1, "lambda$lettingAll$2", "(LWreckShares$Shore;)I"⟩
theorem dX1_lambda_lettingAll_2_0 : decode cX1_lambda_lettingAll_2 0 = .ok (.aload_n 0, 1) := by decide +kernel
theorem dX1_lambda_lettingAll_2_1 : decode cX1_lambda_lettingAll_2 1 = .ok (.invokevirtual 484, 3) := by decide +kernel
theorem dX1_lambda_lettingAll_2_4 : decode cX1_lambda_lettingAll_2 4 = .ok (.ireturn, 1) := by decide +kernel
abbrev cX1_done : ByteArray := prog_1_method_67_code
def yX1_done : MethodName := ⟨RX1, "done", "(LWreckShares$Deed;)I"⟩
def dkwX1_done_1 : List UInt8 := [4, 167, 0, 4, 3, 92, 46, 4, 96, 79, 29, 155, 0, 8, 42, 44, 182, 1, 124, 29, 172]
abbrev dktX1_done_1 : List UInt8 := dkwX1_done_1 ++ []
def dkwX1_done_0 : List UInt8 := [42, 180, 0, 75, 182, 1, 116, 77, 43, 44, 185, 1, 119, 2, 0, 62, 42, 180, 0, 86, 29, 156, 0, 7]
abbrev dktX1_done_0 : List UInt8 := dkwX1_done_0 ++ dktX1_done_1
theorem dksX1_done_0 : cX1_done.data.toList.drop 0 = dktX1_done_0 := by decide +kernel
theorem dksX1_done_1 : cX1_done.data.toList.drop 24 = dktX1_done_1 := dk_seg dksX1_done_0 24 rfl rfl
theorem dX1_done_0 : decode cX1_done 0 = .ok (.aload_n 0, 1) := dk_42 (dk_at dksX1_done_0 0 rfl rfl)
theorem dX1_done_1 : decode cX1_done 1 = .ok (.getfield 75, 3) := dk_180 0 75 (dk_at dksX1_done_0 1 rfl rfl)
theorem dX1_done_4 : decode cX1_done 4 = .ok (.invokevirtual 372, 3) := dk_182 1 116 (dk_at dksX1_done_0 4 rfl rfl)
theorem dX1_done_7 : decode cX1_done 7 = .ok (.astore_n 2, 1) := dk_77 (dk_at dksX1_done_0 7 rfl rfl)
theorem dX1_done_8 : decode cX1_done 8 = .ok (.aload_n 1, 1) := dk_43 (dk_at dksX1_done_0 8 rfl rfl)
theorem dX1_done_9 : decode cX1_done 9 = .ok (.aload_n 2, 1) := dk_44 (dk_at dksX1_done_0 9 rfl rfl)
theorem dX1_done_10 : decode cX1_done 10 = .ok (.invokeinterface 375 2, 5) := by decide +kernel
theorem dX1_done_15 : decode cX1_done 15 = .ok (.istore_n 3, 1) := dk_62 (dk_at dksX1_done_0 15 rfl rfl)
theorem dX1_done_16 : decode cX1_done 16 = .ok (.aload_n 0, 1) := dk_42 (dk_at dksX1_done_0 16 rfl rfl)
theorem dX1_done_17 : decode cX1_done 17 = .ok (.getfield 86, 3) := dk_180 0 86 (dk_at dksX1_done_0 17 rfl rfl)
theorem dX1_done_20 : decode cX1_done 20 = .ok (.iload_n 3, 1) := dk_29 (dk_at dksX1_done_0 20 rfl rfl)
theorem dX1_done_21 : decode cX1_done 21 = .ok (.ifCond .ge 7, 3) := dk_156 0 7 (dk_at dksX1_done_0 21 rfl rfl)
theorem dX1_done_24 : decode cX1_done 24 = .ok (.iconst 1, 1) := dk_4 (dk_at dksX1_done_1 0 rfl rfl)
theorem dX1_done_25 : decode cX1_done 25 = .ok (.goto 4, 3) := dk_167 0 4 (dk_at dksX1_done_1 1 rfl rfl)
theorem dX1_done_28 : decode cX1_done 28 = .ok (.iconst 0, 1) := dk_3 (dk_at dksX1_done_1 4 rfl rfl)
theorem dX1_done_29 : decode cX1_done 29 = .ok (.dup2, 1) := dk_92 (dk_at dksX1_done_1 5 rfl rfl)
theorem dX1_done_30 : decode cX1_done 30 = .ok (.iaload, 1) := dk_46 (dk_at dksX1_done_1 6 rfl rfl)
theorem dX1_done_31 : decode cX1_done 31 = .ok (.iconst 1, 1) := dk_4 (dk_at dksX1_done_1 7 rfl rfl)
theorem dX1_done_32 : decode cX1_done 32 = .ok (.iadd, 1) := dk_96 (dk_at dksX1_done_1 8 rfl rfl)
theorem dX1_done_33 : decode cX1_done 33 = .ok (.iastore, 1) := dk_79 (dk_at dksX1_done_1 9 rfl rfl)
theorem dX1_done_34 : decode cX1_done 34 = .ok (.iload_n 3, 1) := dk_29 (dk_at dksX1_done_1 10 rfl rfl)
theorem dX1_done_35 : decode cX1_done 35 = .ok (.ifCond .lt 8, 3) := dk_155 0 8 (dk_at dksX1_done_1 11 rfl rfl)
theorem dX1_done_38 : decode cX1_done 38 = .ok (.aload_n 0, 1) := dk_42 (dk_at dksX1_done_1 14 rfl rfl)
theorem dX1_done_39 : decode cX1_done 39 = .ok (.aload_n 2, 1) := dk_44 (dk_at dksX1_done_1 15 rfl rfl)
theorem dX1_done_40 : decode cX1_done 40 = .ok (.invokevirtual 380, 3) := dk_182 1 124 (dk_at dksX1_done_1 16 rfl rfl)
theorem dX1_done_43 : decode cX1_done 43 = .ok (.iload_n 3, 1) := dk_29 (dk_at dksX1_done_1 19 rfl rfl)
theorem dX1_done_44 : decode cX1_done 44 = .ok (.ireturn, 1) := dk_172 (dk_at dksX1_done_1 20 rfl rfl)
abbrev cX1_keeps : ByteArray := prog_1_method_66_code
def yX1_keeps : MethodName := ⟨RX1, "keeps", "(LWreckShares$Shore;)V"⟩
def dkwX1_keeps_1 : List UInt8 := [42, 180, 0, 75, 182, 1, 112, 42, 43, 181, 0, 75, 177]
abbrev dktX1_keeps_1 : List UInt8 := dkwX1_keeps_1 ++ []
def dkwX1_keeps_0 : List UInt8 := [42, 180, 0, 82, 182, 1, 108, 16, 8, 160, 0, 11, 42, 180, 0, 82, 182, 1, 109, 87, 42, 180, 0, 82]
abbrev dktX1_keeps_0 : List UInt8 := dkwX1_keeps_0 ++ dktX1_keeps_1
theorem dksX1_keeps_0 : cX1_keeps.data.toList.drop 0 = dktX1_keeps_0 := by decide +kernel
theorem dksX1_keeps_1 : cX1_keeps.data.toList.drop 24 = dktX1_keeps_1 := dk_seg dksX1_keeps_0 24 rfl rfl
theorem dX1_keeps_0 : decode cX1_keeps 0 = .ok (.aload_n 0, 1) := dk_42 (dk_at dksX1_keeps_0 0 rfl rfl)
theorem dX1_keeps_1 : decode cX1_keeps 1 = .ok (.getfield 82, 3) := dk_180 0 82 (dk_at dksX1_keeps_0 1 rfl rfl)
theorem dX1_keeps_4 : decode cX1_keeps 4 = .ok (.invokevirtual 364, 3) := dk_182 1 108 (dk_at dksX1_keeps_0 4 rfl rfl)
theorem dX1_keeps_7 : decode cX1_keeps 7 = .ok (.bipush 8, 2) := dk_16 8 (dk_at dksX1_keeps_0 7 rfl rfl)
theorem dX1_keeps_9 : decode cX1_keeps 9 = .ok (.if_icmp .ne 11, 3) := dk_160 0 11 (dk_at dksX1_keeps_0 9 rfl rfl)
theorem dX1_keeps_12 : decode cX1_keeps 12 = .ok (.aload_n 0, 1) := dk_42 (dk_at dksX1_keeps_0 12 rfl rfl)
theorem dX1_keeps_13 : decode cX1_keeps 13 = .ok (.getfield 82, 3) := dk_180 0 82 (dk_at dksX1_keeps_0 13 rfl rfl)
theorem dX1_keeps_16 : decode cX1_keeps 16 = .ok (.invokevirtual 365, 3) := dk_182 1 109 (dk_at dksX1_keeps_0 16 rfl rfl)
theorem dX1_keeps_19 : decode cX1_keeps 19 = .ok (.pop, 1) := dk_87 (dk_at dksX1_keeps_0 19 rfl rfl)
theorem dX1_keeps_20 : decode cX1_keeps 20 = .ok (.aload_n 0, 1) := dk_42 (dk_at dksX1_keeps_0 20 rfl rfl)
theorem dX1_keeps_21 : decode cX1_keeps 21 = .ok (.getfield 82, 3) := dk_180 0 82 (dk_at dksX1_keeps_0 21 rfl rfl)
theorem dX1_keeps_24 : decode cX1_keeps 24 = .ok (.aload_n 0, 1) := dk_42 (dk_at dksX1_keeps_1 0 rfl rfl)
theorem dX1_keeps_25 : decode cX1_keeps 25 = .ok (.getfield 75, 3) := dk_180 0 75 (dk_at dksX1_keeps_1 1 rfl rfl)
theorem dX1_keeps_28 : decode cX1_keeps 28 = .ok (.invokevirtual 368, 3) := dk_182 1 112 (dk_at dksX1_keeps_1 4 rfl rfl)
theorem dX1_keeps_31 : decode cX1_keeps 31 = .ok (.aload_n 0, 1) := dk_42 (dk_at dksX1_keeps_1 7 rfl rfl)
theorem dX1_keeps_32 : decode cX1_keeps 32 = .ok (.aload_n 1, 1) := dk_43 (dk_at dksX1_keeps_1 8 rfl rfl)
theorem dX1_keeps_33 : decode cX1_keeps 33 = .ok (.putfield 75, 3) := dk_181 0 75 (dk_at dksX1_keeps_1 9 rfl rfl)
theorem dX1_keeps_36 : decode cX1_keeps 36 = .ok (.return_, 1) := dk_177 (dk_at dksX1_keeps_1 12 rfl rfl)
abbrev cX1_divideAll : ByteArray := prog_1_method_75_code
def yX1_divideAll : MethodName := ⟨RX1, "divideAll", "()I"⟩
def dkwX1_divideAll_0 : List UInt8 := [42, 184, 1, 153, 182, 1, 131, 172]
abbrev dktX1_divideAll_0 : List UInt8 := dkwX1_divideAll_0 ++ []
theorem dksX1_divideAll_0 : cX1_divideAll.data.toList.drop 0 = dktX1_divideAll_0 := by decide +kernel
theorem dX1_divideAll_0 : decode cX1_divideAll 0 = .ok (.aload_n 0, 1) := dk_42 (dk_at dksX1_divideAll_0 0 rfl rfl)
theorem dX1_divideAll_1 : decode cX1_divideAll 1 = .ok (.invokestatic 409, 3) := dk_184 1 153 (dk_at dksX1_divideAll_0 1 rfl rfl)
theorem dX1_divideAll_4 : decode cX1_divideAll 4 = .ok (.invokevirtual 387, 3) := dk_182 1 131 (dk_at dksX1_divideAll_0 4 rfl rfl)
theorem dX1_divideAll_7 : decode cX1_divideAll 7 = .ok (.ireturn, 1) := dk_172 (dk_at dksX1_divideAll_0 7 rfl rfl)
abbrev cX1_dividingAll : ByteArray := prog_1_method_13_code
def yX1_dividingAll : MethodName := ⟨RX1, "dividingAll", "()LWreckShares$Deed;"⟩
theorem dX1_dividingAll_0 : decode cX1_dividingAll 0 = .ok (.invokedynamic 38, 5) := by decide +kernel
theorem dX1_dividingAll_5 : decode cX1_dividingAll 5 = .ok (.areturn, 1) := by decide +kernel
abbrev cX1_lambda_dividingAll_7 : ByteArray := prog_1_method_88_code
def yX1_lambda_dividingAll_7 : MethodName := ⟨RX1, "lambda$dividingAll$7", "(LWreckShares$Shore;)I"⟩
theorem dX1_lambda_dividingAll_7_0 : decode cX1_lambda_dividingAll_7 0 = .ok (.aload_n 0, 1) := by decide +kernel
theorem dX1_lambda_dividingAll_7_1 : decode cX1_lambda_dividingAll_7 1 = .ok (.invokevirtual 464, 3) := by decide +kernel
theorem dX1_lambda_dividingAll_7_4 : decode cX1_lambda_dividingAll_7 4 = .ok (.ireturn, 1) := by decide +kernel
abbrev cX1_formattedByte : ByteArray := prog_1_method_79_code
def yX1_formattedByte : MethodName := ⟨RX1, "formattedByte", "(I)I"⟩
def dkwX1_formattedByte_1 : List UInt8 := [182, 1, 171, 167, 0, 4, 2, 172]
abbrev dktX1_formattedByte_1 : List UInt8 := dkwX1_formattedByte_1 ++ []
def dkwX1_formattedByte_0 : List UInt8 := [27, 3, 42, 180, 0, 92, 182, 1, 189, 4, 100, 184, 0, 103, 153, 0, 14, 42, 180, 0, 92, 27]
abbrev dktX1_formattedByte_0 : List UInt8 := dkwX1_formattedByte_0 ++ dktX1_formattedByte_1
theorem dksX1_formattedByte_0 : cX1_formattedByte.data.toList.drop 0 = dktX1_formattedByte_0 := by decide +kernel
theorem dksX1_formattedByte_1 : cX1_formattedByte.data.toList.drop 22 = dktX1_formattedByte_1 := dk_seg dksX1_formattedByte_0 22 rfl rfl
theorem dX1_formattedByte_0 : decode cX1_formattedByte 0 = .ok (.iload_n 1, 1) := dk_27 (dk_at dksX1_formattedByte_0 0 rfl rfl)
theorem dX1_formattedByte_1 : decode cX1_formattedByte 1 = .ok (.iconst 0, 1) := dk_3 (dk_at dksX1_formattedByte_0 1 rfl rfl)
theorem dX1_formattedByte_2 : decode cX1_formattedByte 2 = .ok (.aload_n 0, 1) := dk_42 (dk_at dksX1_formattedByte_0 2 rfl rfl)
theorem dX1_formattedByte_3 : decode cX1_formattedByte 3 = .ok (.getfield 92, 3) := dk_180 0 92 (dk_at dksX1_formattedByte_0 3 rfl rfl)
theorem dX1_formattedByte_6 : decode cX1_formattedByte 6 = .ok (.invokevirtual 445, 3) := dk_182 1 189 (dk_at dksX1_formattedByte_0 6 rfl rfl)
theorem dX1_formattedByte_9 : decode cX1_formattedByte 9 = .ok (.iconst 1, 1) := dk_4 (dk_at dksX1_formattedByte_0 9 rfl rfl)
theorem dX1_formattedByte_10 : decode cX1_formattedByte 10 = .ok (.isub, 1) := dk_100 (dk_at dksX1_formattedByte_0 10 rfl rfl)
theorem dX1_formattedByte_11 : decode cX1_formattedByte 11 = .ok (.invokestatic 103, 3) := dk_184 0 103 (dk_at dksX1_formattedByte_0 11 rfl rfl)
theorem dX1_formattedByte_14 : decode cX1_formattedByte 14 = .ok (.ifCond .eq 14, 3) := dk_153 0 14 (dk_at dksX1_formattedByte_0 14 rfl rfl)
theorem dX1_formattedByte_17 : decode cX1_formattedByte 17 = .ok (.aload_n 0, 1) := dk_42 (dk_at dksX1_formattedByte_0 17 rfl rfl)
theorem dX1_formattedByte_18 : decode cX1_formattedByte 18 = .ok (.getfield 92, 3) := dk_180 0 92 (dk_at dksX1_formattedByte_0 18 rfl rfl)
theorem dX1_formattedByte_21 : decode cX1_formattedByte 21 = .ok (.iload_n 1, 1) := dk_27 (dk_at dksX1_formattedByte_0 21 rfl rfl)
theorem dX1_formattedByte_22 : decode cX1_formattedByte 22 = .ok (.invokevirtual 427, 3) := dk_182 1 171 (dk_at dksX1_formattedByte_1 0 rfl rfl)
theorem dX1_formattedByte_25 : decode cX1_formattedByte 25 = .ok (.goto 4, 3) := dk_167 0 4 (dk_at dksX1_formattedByte_1 3 rfl rfl)
theorem dX1_formattedByte_28 : decode cX1_formattedByte 28 = .ok (.iconst (-1), 1) := dk_2 (dk_at dksX1_formattedByte_1 6 rfl rfl)
theorem dX1_formattedByte_29 : decode cX1_formattedByte 29 = .ok (.ireturn, 1) := dk_172 (dk_at dksX1_formattedByte_1 7 rfl rfl)
abbrev cX1_isIn : ByteArray := prog_1_method_1_code
def yX1_isIn : MethodName := ⟨RX1, "isIn", "(III)Z"⟩
def dkwX1_isIn_0 : List UInt8 := [26, 27, 161, 0, 12, 26, 28, 163, 0, 7, 4, 167, 0, 4, 3, 172]
abbrev dktX1_isIn_0 : List UInt8 := dkwX1_isIn_0 ++ []
theorem dksX1_isIn_0 : cX1_isIn.data.toList.drop 0 = dktX1_isIn_0 := by decide +kernel
theorem dX1_isIn_0 : decode cX1_isIn 0 = .ok (.iload_n 0, 1) := dk_26 (dk_at dksX1_isIn_0 0 rfl rfl)
theorem dX1_isIn_1 : decode cX1_isIn 1 = .ok (.iload_n 1, 1) := dk_27 (dk_at dksX1_isIn_0 1 rfl rfl)
theorem dX1_isIn_2 : decode cX1_isIn 2 = .ok (.if_icmp .lt 12, 3) := dk_161 0 12 (dk_at dksX1_isIn_0 2 rfl rfl)
theorem dX1_isIn_5 : decode cX1_isIn 5 = .ok (.iload_n 0, 1) := dk_26 (dk_at dksX1_isIn_0 5 rfl rfl)
theorem dX1_isIn_6 : decode cX1_isIn 6 = .ok (.iload_n 2, 1) := dk_28 (dk_at dksX1_isIn_0 6 rfl rfl)
theorem dX1_isIn_7 : decode cX1_isIn 7 = .ok (.if_icmp .gt 7, 3) := dk_163 0 7 (dk_at dksX1_isIn_0 7 rfl rfl)
theorem dX1_isIn_10 : decode cX1_isIn 10 = .ok (.iconst 1, 1) := dk_4 (dk_at dksX1_isIn_0 10 rfl rfl)
theorem dX1_isIn_11 : decode cX1_isIn 11 = .ok (.goto 4, 3) := dk_167 0 4 (dk_at dksX1_isIn_0 11 rfl rfl)
theorem dX1_isIn_14 : decode cX1_isIn 14 = .ok (.iconst 0, 1) := dk_3 (dk_at dksX1_isIn_0 14 rfl rfl)
theorem dX1_isIn_15 : decode cX1_isIn 15 = .ok (.ireturn, 1) := dk_172 (dk_at dksX1_isIn_0 15 rfl rfl)
abbrev cX1_undoCount : ByteArray := prog_1_method_80_code
def yX1_undoCount : MethodName := ⟨RX1, "undoCount", "()I"⟩
def dkwX1_undoCount_0 : List UInt8 := [42, 180, 0, 82, 182, 1, 108, 172]
abbrev dktX1_undoCount_0 : List UInt8 := dkwX1_undoCount_0 ++ []
theorem dksX1_undoCount_0 : cX1_undoCount.data.toList.drop 0 = dktX1_undoCount_0 := by decide +kernel
theorem dX1_undoCount_0 : decode cX1_undoCount 0 = .ok (.aload_n 0, 1) := dk_42 (dk_at dksX1_undoCount_0 0 rfl rfl)
theorem dX1_undoCount_1 : decode cX1_undoCount 1 = .ok (.getfield 82, 3) := dk_180 0 82 (dk_at dksX1_undoCount_0 1 rfl rfl)
theorem dX1_undoCount_4 : decode cX1_undoCount 4 = .ok (.invokevirtual 364, 3) := dk_182 1 108 (dk_at dksX1_undoCount_0 4 rfl rfl)
theorem dX1_undoCount_7 : decode cX1_undoCount 7 = .ok (.ireturn, 1) := dk_172 (dk_at dksX1_undoCount_0 7 rfl rfl)
abbrev cX1_undo : ByteArray := prog_1_method_81_code
def yX1_undo : MethodName := ⟨RX1, "undo", "()I"⟩
def dkwX1_undo_1 : List UInt8 := [181, 0, 75, 42, 180, 0, 86, 5, 92, 46, 4, 96, 79, 42, 180, 0, 82, 182, 1, 108, 172]
abbrev dktX1_undo_1 : List UInt8 := dkwX1_undo_1 ++ []
def dkwX1_undo_0 : List UInt8 := [42, 180, 0, 82, 182, 1, 192, 153, 0, 5, 2, 172, 42, 42, 180, 0, 82, 182, 1, 195, 192, 0, 11]
abbrev dktX1_undo_0 : List UInt8 := dkwX1_undo_0 ++ dktX1_undo_1
theorem dksX1_undo_0 : cX1_undo.data.toList.drop 0 = dktX1_undo_0 := by decide +kernel
theorem dksX1_undo_1 : cX1_undo.data.toList.drop 23 = dktX1_undo_1 := dk_seg dksX1_undo_0 23 rfl rfl
theorem dX1_undo_0 : decode cX1_undo 0 = .ok (.aload_n 0, 1) := dk_42 (dk_at dksX1_undo_0 0 rfl rfl)
theorem dX1_undo_1 : decode cX1_undo 1 = .ok (.getfield 82, 3) := dk_180 0 82 (dk_at dksX1_undo_0 1 rfl rfl)
theorem dX1_undo_4 : decode cX1_undo 4 = .ok (.invokevirtual 448, 3) := dk_182 1 192 (dk_at dksX1_undo_0 4 rfl rfl)
theorem dX1_undo_7 : decode cX1_undo 7 = .ok (.ifCond .eq 5, 3) := dk_153 0 5 (dk_at dksX1_undo_0 7 rfl rfl)
theorem dX1_undo_10 : decode cX1_undo 10 = .ok (.iconst (-1), 1) := dk_2 (dk_at dksX1_undo_0 10 rfl rfl)
theorem dX1_undo_11 : decode cX1_undo 11 = .ok (.ireturn, 1) := dk_172 (dk_at dksX1_undo_0 11 rfl rfl)
theorem dX1_undo_12 : decode cX1_undo 12 = .ok (.aload_n 0, 1) := dk_42 (dk_at dksX1_undo_0 12 rfl rfl)
theorem dX1_undo_13 : decode cX1_undo 13 = .ok (.aload_n 0, 1) := dk_42 (dk_at dksX1_undo_0 13 rfl rfl)
theorem dX1_undo_14 : decode cX1_undo 14 = .ok (.getfield 82, 3) := dk_180 0 82 (dk_at dksX1_undo_0 14 rfl rfl)
theorem dX1_undo_17 : decode cX1_undo 17 = .ok (.invokevirtual 451, 3) := dk_182 1 195 (dk_at dksX1_undo_0 17 rfl rfl)
theorem dX1_undo_20 : decode cX1_undo 20 = .ok (.checkcast 11, 3) := dk_192 0 11 (dk_at dksX1_undo_0 20 rfl rfl)
theorem dX1_undo_23 : decode cX1_undo 23 = .ok (.putfield 75, 3) := dk_181 0 75 (dk_at dksX1_undo_1 0 rfl rfl)
theorem dX1_undo_26 : decode cX1_undo 26 = .ok (.aload_n 0, 1) := dk_42 (dk_at dksX1_undo_1 3 rfl rfl)
theorem dX1_undo_27 : decode cX1_undo 27 = .ok (.getfield 86, 3) := dk_180 0 86 (dk_at dksX1_undo_1 4 rfl rfl)
theorem dX1_undo_30 : decode cX1_undo 30 = .ok (.iconst 2, 1) := dk_5 (dk_at dksX1_undo_1 7 rfl rfl)
theorem dX1_undo_31 : decode cX1_undo 31 = .ok (.dup2, 1) := dk_92 (dk_at dksX1_undo_1 8 rfl rfl)
theorem dX1_undo_32 : decode cX1_undo 32 = .ok (.iaload, 1) := dk_46 (dk_at dksX1_undo_1 9 rfl rfl)
theorem dX1_undo_33 : decode cX1_undo 33 = .ok (.iconst 1, 1) := dk_4 (dk_at dksX1_undo_1 10 rfl rfl)
theorem dX1_undo_34 : decode cX1_undo 34 = .ok (.iadd, 1) := dk_96 (dk_at dksX1_undo_1 11 rfl rfl)
theorem dX1_undo_35 : decode cX1_undo 35 = .ok (.iastore, 1) := dk_79 (dk_at dksX1_undo_1 12 rfl rfl)
theorem dX1_undo_36 : decode cX1_undo 36 = .ok (.aload_n 0, 1) := dk_42 (dk_at dksX1_undo_1 13 rfl rfl)
theorem dX1_undo_37 : decode cX1_undo 37 = .ok (.getfield 82, 3) := dk_180 0 82 (dk_at dksX1_undo_1 14 rfl rfl)
theorem dX1_undo_40 : decode cX1_undo 40 = .ok (.invokevirtual 364, 3) := dk_182 1 108 (dk_at dksX1_undo_1 17 rfl rfl)
theorem dX1_undo_43 : decode cX1_undo 43 = .ok (.ireturn, 1) := dk_172 (dk_at dksX1_undo_1 20 rfl rfl)
abbrev cX1_saveSnapshot : ByteArray := prog_1_method_82_code
def yX1_saveSnapshot : MethodName := ⟨RX1, "saveSnapshot", "()V"⟩
def dkwX1_saveSnapshot_0 : List UInt8 := [42, 42, 180, 0, 75, 181, 0, 138, 177]
abbrev dktX1_saveSnapshot_0 : List UInt8 := dkwX1_saveSnapshot_0 ++ []
theorem dksX1_saveSnapshot_0 : cX1_saveSnapshot.data.toList.drop 0 = dktX1_saveSnapshot_0 := by decide +kernel
theorem dX1_saveSnapshot_0 : decode cX1_saveSnapshot 0 = .ok (.aload_n 0, 1) := dk_42 (dk_at dksX1_saveSnapshot_0 0 rfl rfl)
theorem dX1_saveSnapshot_1 : decode cX1_saveSnapshot 1 = .ok (.aload_n 0, 1) := dk_42 (dk_at dksX1_saveSnapshot_0 1 rfl rfl)
theorem dX1_saveSnapshot_2 : decode cX1_saveSnapshot 2 = .ok (.getfield 75, 3) := dk_180 0 75 (dk_at dksX1_saveSnapshot_0 2 rfl rfl)
theorem dX1_saveSnapshot_5 : decode cX1_saveSnapshot 5 = .ok (.putfield 138, 3) := dk_181 0 138 (dk_at dksX1_saveSnapshot_0 5 rfl rfl)
theorem dX1_saveSnapshot_8 : decode cX1_saveSnapshot 8 = .ok (.return_, 1) := dk_177 (dk_at dksX1_saveSnapshot_0 8 rfl rfl)
abbrev cX1_restoreSnapshot : ByteArray := prog_1_method_83_code
def yX1_restoreSnapshot : MethodName := ⟨RX1, "restoreSnapshot", "()Z"⟩
def dkwX1_restoreSnapshot_1 : List UInt8 := [4, 172]
abbrev dktX1_restoreSnapshot_1 : List UInt8 := dkwX1_restoreSnapshot_1 ++ []
def dkwX1_restoreSnapshot_0 : List UInt8 := [42, 180, 0, 138, 199, 0, 5, 3, 172, 42, 42, 180, 0, 138, 181, 0, 75, 42, 180, 0, 82, 182, 0, 135]
abbrev dktX1_restoreSnapshot_0 : List UInt8 := dkwX1_restoreSnapshot_0 ++ dktX1_restoreSnapshot_1
theorem dksX1_restoreSnapshot_0 : cX1_restoreSnapshot.data.toList.drop 0 = dktX1_restoreSnapshot_0 := by decide +kernel
theorem dksX1_restoreSnapshot_1 : cX1_restoreSnapshot.data.toList.drop 24 = dktX1_restoreSnapshot_1 := dk_seg dksX1_restoreSnapshot_0 24 rfl rfl
theorem dX1_restoreSnapshot_0 : decode cX1_restoreSnapshot 0 = .ok (.aload_n 0, 1) := dk_42 (dk_at dksX1_restoreSnapshot_0 0 rfl rfl)
theorem dX1_restoreSnapshot_1 : decode cX1_restoreSnapshot 1 = .ok (.getfield 138, 3) := dk_180 0 138 (dk_at dksX1_restoreSnapshot_0 1 rfl rfl)
theorem dX1_restoreSnapshot_4 : decode cX1_restoreSnapshot 4 = .ok (.ifnonnull 5, 3) := dk_199 0 5 (dk_at dksX1_restoreSnapshot_0 4 rfl rfl)
theorem dX1_restoreSnapshot_7 : decode cX1_restoreSnapshot 7 = .ok (.iconst 0, 1) := dk_3 (dk_at dksX1_restoreSnapshot_0 7 rfl rfl)
theorem dX1_restoreSnapshot_8 : decode cX1_restoreSnapshot 8 = .ok (.ireturn, 1) := dk_172 (dk_at dksX1_restoreSnapshot_0 8 rfl rfl)
theorem dX1_restoreSnapshot_9 : decode cX1_restoreSnapshot 9 = .ok (.aload_n 0, 1) := dk_42 (dk_at dksX1_restoreSnapshot_0 9 rfl rfl)
theorem dX1_restoreSnapshot_10 : decode cX1_restoreSnapshot 10 = .ok (.aload_n 0, 1) := dk_42 (dk_at dksX1_restoreSnapshot_0 10 rfl rfl)
theorem dX1_restoreSnapshot_11 : decode cX1_restoreSnapshot 11 = .ok (.getfield 138, 3) := dk_180 0 138 (dk_at dksX1_restoreSnapshot_0 11 rfl rfl)
theorem dX1_restoreSnapshot_14 : decode cX1_restoreSnapshot 14 = .ok (.putfield 75, 3) := dk_181 0 75 (dk_at dksX1_restoreSnapshot_0 14 rfl rfl)
theorem dX1_restoreSnapshot_17 : decode cX1_restoreSnapshot 17 = .ok (.aload_n 0, 1) := dk_42 (dk_at dksX1_restoreSnapshot_0 17 rfl rfl)
theorem dX1_restoreSnapshot_18 : decode cX1_restoreSnapshot 18 = .ok (.getfield 82, 3) := dk_180 0 82 (dk_at dksX1_restoreSnapshot_0 18 rfl rfl)
theorem dX1_restoreSnapshot_21 : decode cX1_restoreSnapshot 21 = .ok (.invokevirtual 135, 3) := dk_182 0 135 (dk_at dksX1_restoreSnapshot_0 21 rfl rfl)
theorem dX1_restoreSnapshot_24 : decode cX1_restoreSnapshot 24 = .ok (.iconst 1, 1) := dk_4 (dk_at dksX1_restoreSnapshot_1 0 rfl rfl)
theorem dX1_restoreSnapshot_25 : decode cX1_restoreSnapshot 25 = .ok (.ireturn, 1) := dk_172 (dk_at dksX1_restoreSnapshot_1 1 rfl rfl)
abbrev cX1_load : ByteArray := prog_1_method_21_code
def yX1_load : MethodName := ⟨RX1, "load", "(I)I"⟩
def dkwX1_load_2 : List UInt8 := [172]
abbrev dktX1_load_2 : List UInt8 := dkwX1_load_2 ++ []
def dkwX1_load_1 : List UInt8 := [42, 180, 0, 82, 182, 0, 135, 42, 1, 181, 0, 138, 42, 180, 0, 75, 180, 0, 10, 185, 0, 16, 1, 0]
abbrev dktX1_load_1 : List UInt8 := dkwX1_load_1 ++ dktX1_load_2
def dkwX1_load_0 : List UInt8 := [42, 27, 182, 0, 124, 77, 42, 44, 182, 0, 128, 181, 0, 75, 167, 0, 10, 78, 42, 45, 182, 0, 131, 172]
abbrev dktX1_load_0 : List UInt8 := dkwX1_load_0 ++ dktX1_load_1
theorem dksX1_load_0 : cX1_load.data.toList.drop 0 = dktX1_load_0 := by decide +kernel
theorem dksX1_load_1 : cX1_load.data.toList.drop 24 = dktX1_load_1 := dk_seg dksX1_load_0 24 rfl rfl
theorem dksX1_load_2 : cX1_load.data.toList.drop 48 = dktX1_load_2 := dk_seg dksX1_load_1 24 rfl rfl
theorem dX1_load_0 : decode cX1_load 0 = .ok (.aload_n 0, 1) := dk_42 (dk_at dksX1_load_0 0 rfl rfl)
theorem dX1_load_1 : decode cX1_load 1 = .ok (.iload_n 1, 1) := dk_27 (dk_at dksX1_load_0 1 rfl rfl)
theorem dX1_load_2 : decode cX1_load 2 = .ok (.invokevirtual 124, 3) := dk_182 0 124 (dk_at dksX1_load_0 2 rfl rfl)
theorem dX1_load_5 : decode cX1_load 5 = .ok (.astore_n 2, 1) := dk_77 (dk_at dksX1_load_0 5 rfl rfl)
theorem dX1_load_6 : decode cX1_load 6 = .ok (.aload_n 0, 1) := dk_42 (dk_at dksX1_load_0 6 rfl rfl)
theorem dX1_load_7 : decode cX1_load 7 = .ok (.aload_n 2, 1) := dk_44 (dk_at dksX1_load_0 7 rfl rfl)
theorem dX1_load_8 : decode cX1_load 8 = .ok (.invokevirtual 128, 3) := dk_182 0 128 (dk_at dksX1_load_0 8 rfl rfl)
theorem dX1_load_11 : decode cX1_load 11 = .ok (.putfield 75, 3) := dk_181 0 75 (dk_at dksX1_load_0 11 rfl rfl)
theorem dX1_load_14 : decode cX1_load 14 = .ok (.goto 10, 3) := dk_167 0 10 (dk_at dksX1_load_0 14 rfl rfl)
theorem dX1_load_17 : decode cX1_load 17 = .ok (.astore_n 3, 1) := dk_78 (dk_at dksX1_load_0 17 rfl rfl)
theorem dX1_load_18 : decode cX1_load 18 = .ok (.aload_n 0, 1) := dk_42 (dk_at dksX1_load_0 18 rfl rfl)
theorem dX1_load_19 : decode cX1_load 19 = .ok (.aload_n 3, 1) := dk_45 (dk_at dksX1_load_0 19 rfl rfl)
theorem dX1_load_20 : decode cX1_load 20 = .ok (.invokevirtual 131, 3) := dk_182 0 131 (dk_at dksX1_load_0 20 rfl rfl)
theorem dX1_load_23 : decode cX1_load 23 = .ok (.ireturn, 1) := dk_172 (dk_at dksX1_load_0 23 rfl rfl)
theorem dX1_load_24 : decode cX1_load 24 = .ok (.aload_n 0, 1) := dk_42 (dk_at dksX1_load_1 0 rfl rfl)
theorem dX1_load_25 : decode cX1_load 25 = .ok (.getfield 82, 3) := dk_180 0 82 (dk_at dksX1_load_1 1 rfl rfl)
theorem dX1_load_28 : decode cX1_load 28 = .ok (.invokevirtual 135, 3) := dk_182 0 135 (dk_at dksX1_load_1 4 rfl rfl)
theorem dX1_load_31 : decode cX1_load 31 = .ok (.aload_n 0, 1) := dk_42 (dk_at dksX1_load_1 7 rfl rfl)
theorem dX1_load_32 : decode cX1_load 32 = .ok (.aconst_null, 1) := dk_1 (dk_at dksX1_load_1 8 rfl rfl)
theorem dX1_load_33 : decode cX1_load 33 = .ok (.putfield 138, 3) := dk_181 0 138 (dk_at dksX1_load_1 9 rfl rfl)
theorem dX1_load_36 : decode cX1_load 36 = .ok (.aload_n 0, 1) := dk_42 (dk_at dksX1_load_1 12 rfl rfl)
theorem dX1_load_37 : decode cX1_load 37 = .ok (.getfield 75, 3) := dk_180 0 75 (dk_at dksX1_load_1 13 rfl rfl)
theorem dX1_load_40 : decode cX1_load 40 = .ok (.getfield 10, 3) := dk_180 0 10 (dk_at dksX1_load_1 16 rfl rfl)
theorem dX1_load_43 : decode cX1_load 43 = .ok (.invokeinterface 16 1, 5) := by decide +kernel
theorem dX1_load_48 : decode cX1_load 48 = .ok (.ireturn, 1) := dk_172 (dk_at dksX1_load_2 0 rfl rfl)
abbrev cX1_reading : ByteArray := prog_1_method_19_code
def yX1_reading : MethodName := ⟨RX1, "reading", "(I)LWreckShares$Parser;"⟩
def dkwX1_reading_1 : List UInt8 := [187, 0, 111, 89, 42, 27, 183, 0, 113, 176]
abbrev dktX1_reading_1 : List UInt8 := dkwX1_reading_1 ++ []
def dkwX1_reading_0 : List UInt8 := [27, 3, 42, 180, 0, 96, 184, 0, 103, 184, 0, 107, 42, 3, 181, 0, 96, 42, 2, 181, 0, 67]
abbrev dktX1_reading_0 : List UInt8 := dkwX1_reading_0 ++ dktX1_reading_1
theorem dksX1_reading_0 : cX1_reading.data.toList.drop 0 = dktX1_reading_0 := by decide +kernel
theorem dksX1_reading_1 : cX1_reading.data.toList.drop 22 = dktX1_reading_1 := dk_seg dksX1_reading_0 22 rfl rfl
theorem dX1_reading_0 : decode cX1_reading 0 = .ok (.iload_n 1, 1) := dk_27 (dk_at dksX1_reading_0 0 rfl rfl)
theorem dX1_reading_1 : decode cX1_reading 1 = .ok (.iconst 0, 1) := dk_3 (dk_at dksX1_reading_0 1 rfl rfl)
theorem dX1_reading_2 : decode cX1_reading 2 = .ok (.aload_n 0, 1) := dk_42 (dk_at dksX1_reading_0 2 rfl rfl)
theorem dX1_reading_3 : decode cX1_reading 3 = .ok (.getfield 96, 3) := dk_180 0 96 (dk_at dksX1_reading_0 3 rfl rfl)
theorem dX1_reading_6 : decode cX1_reading 6 = .ok (.invokestatic 103, 3) := dk_184 0 103 (dk_at dksX1_reading_0 6 rfl rfl)
theorem dX1_reading_9 : decode cX1_reading 9 = .ok (.invokestatic 107, 3) := dk_184 0 107 (dk_at dksX1_reading_0 9 rfl rfl)
theorem dX1_reading_12 : decode cX1_reading 12 = .ok (.aload_n 0, 1) := dk_42 (dk_at dksX1_reading_0 12 rfl rfl)
theorem dX1_reading_13 : decode cX1_reading 13 = .ok (.iconst 0, 1) := dk_3 (dk_at dksX1_reading_0 13 rfl rfl)
theorem dX1_reading_14 : decode cX1_reading 14 = .ok (.putfield 96, 3) := dk_181 0 96 (dk_at dksX1_reading_0 14 rfl rfl)
theorem dX1_reading_17 : decode cX1_reading 17 = .ok (.aload_n 0, 1) := dk_42 (dk_at dksX1_reading_0 17 rfl rfl)
theorem dX1_reading_18 : decode cX1_reading 18 = .ok (.iconst (-1), 1) := dk_2 (dk_at dksX1_reading_0 18 rfl rfl)
theorem dX1_reading_19 : decode cX1_reading 19 = .ok (.putfield 67, 3) := dk_181 0 67 (dk_at dksX1_reading_0 19 rfl rfl)
theorem dX1_reading_22 : decode cX1_reading 22 = .ok (.new 111, 3) := dk_187 0 111 (dk_at dksX1_reading_1 0 rfl rfl)
theorem dX1_reading_25 : decode cX1_reading 25 = .ok (.dup, 1) := dk_89 (dk_at dksX1_reading_1 3 rfl rfl)
theorem dX1_reading_26 : decode cX1_reading 26 = .ok (.aload_n 0, 1) := dk_42 (dk_at dksX1_reading_1 4 rfl rfl)
theorem dX1_reading_27 : decode cX1_reading 27 = .ok (.iload_n 1, 1) := dk_27 (dk_at dksX1_reading_1 5 rfl rfl)
theorem dX1_reading_28 : decode cX1_reading 28 = .ok (.invokespecial 113, 3) := dk_183 0 113 (dk_at dksX1_reading_1 6 rfl rfl)
theorem dX1_reading_31 : decode cX1_reading 31 = .ok (.areturn, 1) := dk_176 (dk_at dksX1_reading_1 9 rfl rfl)
abbrev cX1_requireArgument : ByteArray := prog_1_method_3_code
def yX1_requireArgument : MethodName := ⟨RX1, "requireArgument", "(Z)V"⟩
def dkwX1_requireArgument_0 : List UInt8 := [26, 154, 0, 11, 187, 0, 1, 89, 183, 0, 3, 191, 177]
abbrev dktX1_requireArgument_0 : List UInt8 := dkwX1_requireArgument_0 ++ []
theorem dksX1_requireArgument_0 : cX1_requireArgument.data.toList.drop 0 = dktX1_requireArgument_0 := by decide +kernel
theorem dX1_requireArgument_0 : decode cX1_requireArgument 0 = .ok (.iload_n 0, 1) := dk_26 (dk_at dksX1_requireArgument_0 0 rfl rfl)
theorem dX1_requireArgument_1 : decode cX1_requireArgument 1 = .ok (.ifCond .ne 11, 3) := dk_154 0 11 (dk_at dksX1_requireArgument_0 1 rfl rfl)
theorem dX1_requireArgument_4 : decode cX1_requireArgument 4 = .ok (.new 1, 3) := dk_187 0 1 (dk_at dksX1_requireArgument_0 4 rfl rfl)
theorem dX1_requireArgument_7 : decode cX1_requireArgument 7 = .ok (.dup, 1) := dk_89 (dk_at dksX1_requireArgument_0 7 rfl rfl)
theorem dX1_requireArgument_8 : decode cX1_requireArgument 8 = .ok (.invokespecial 3, 3) := dk_183 0 3 (dk_at dksX1_requireArgument_0 8 rfl rfl)
theorem dX1_requireArgument_11 : decode cX1_requireArgument 11 = .ok (.athrow, 1) := dk_191 (dk_at dksX1_requireArgument_0 11 rfl rfl)
theorem dX1_requireArgument_12 : decode cX1_requireArgument 12 = .ok (.return_, 1) := dk_177 (dk_at dksX1_requireArgument_0 12 rfl rfl)
abbrev cX1_failed : ByteArray := prog_1_method_20_code
def yX1_failed : MethodName := ⟨RX1, "failed", "(LWreckShares$TextError;)I"⟩
def dkwX1_failed_0 : List UInt8 := [42, 43, 180, 0, 116, 181, 0, 67, 16, 246, 43, 180, 0, 121, 100, 172]
abbrev dktX1_failed_0 : List UInt8 := dkwX1_failed_0 ++ []
theorem dksX1_failed_0 : cX1_failed.data.toList.drop 0 = dktX1_failed_0 := by decide +kernel
theorem dX1_failed_0 : decode cX1_failed 0 = .ok (.aload_n 0, 1) := dk_42 (dk_at dksX1_failed_0 0 rfl rfl)
theorem dX1_failed_1 : decode cX1_failed 1 = .ok (.aload_n 1, 1) := dk_43 (dk_at dksX1_failed_0 1 rfl rfl)
theorem dX1_failed_2 : decode cX1_failed 2 = .ok (.getfield 116, 3) := dk_180 0 116 (dk_at dksX1_failed_0 2 rfl rfl)
theorem dX1_failed_5 : decode cX1_failed 5 = .ok (.putfield 67, 3) := dk_181 0 67 (dk_at dksX1_failed_0 5 rfl rfl)
theorem dX1_failed_8 : decode cX1_failed 8 = .ok (.bipush (-10), 2) := dk_16 246 (dk_at dksX1_failed_0 8 rfl rfl)
theorem dX1_failed_10 : decode cX1_failed 10 = .ok (.aload_n 1, 1) := dk_43 (dk_at dksX1_failed_0 10 rfl rfl)
theorem dX1_failed_11 : decode cX1_failed 11 = .ok (.getfield 121, 3) := dk_180 0 121 (dk_at dksX1_failed_0 11 rfl rfl)
theorem dX1_failed_14 : decode cX1_failed 14 = .ok (.isub, 1) := dk_100 (dk_at dksX1_failed_0 14 rfl rfl)
theorem dX1_failed_15 : decode cX1_failed 15 = .ok (.ireturn, 1) := dk_172 (dk_at dksX1_failed_0 15 rfl rfl)
abbrev cX1_size : ByteArray := prog_1_method_25_code
def yX1_size : MethodName := ⟨RX1, "size", "(I)I"⟩
def dkwX1_size_7 : List UInt8 := [167, 0, 7, 42, 182, 0, 194, 172]
abbrev dktX1_size_7 : List UInt8 := dkwX1_size_7 ++ []
def dkwX1_size_6 : List UInt8 := [182, 0, 185, 167, 0, 27, 42, 180, 0, 75, 180, 0, 188, 167, 0, 17, 42, 180, 0, 75, 182, 0, 191]
abbrev dktX1_size_6 : List UInt8 := dkwX1_size_6 ++ dktX1_size_7
def dkwX1_size_5 : List UInt8 := [180, 0, 75, 180, 0, 162, 182, 0, 181, 167, 0, 43, 42, 3, 182, 0, 185, 167, 0, 35, 42, 4]
abbrev dktX1_size_5 : List UInt8 := dkwX1_size_5 ++ dktX1_size_6
def dkwX1_size_4 : List UInt8 := [167, 0, 75, 42, 180, 0, 75, 180, 0, 10, 185, 0, 16, 1, 0, 167, 0, 60, 42, 180, 0, 75, 42]
abbrev dktX1_size_4 : List UInt8 := dkwX1_size_4 ++ dktX1_size_5
def dkwX1_size_3 : List UInt8 := [180, 0, 172, 167, 0, 96, 42, 180, 0, 75, 180, 0, 175, 167, 0, 86, 42, 180, 0, 75, 180, 0, 178, 190]
abbrev dktX1_size_3 : List UInt8 := dkwX1_size_3 ++ dktX1_size_4
def dkwX1_size_2 : List UInt8 := [42, 180, 0, 75, 180, 0, 162, 167, 0, 116, 42, 180, 0, 75, 180, 0, 169, 167, 0, 106, 42, 180, 0, 75]
abbrev dktX1_size_2 : List UInt8 := dkwX1_size_2 ++ dktX1_size_3
def dkwX1_size_1 : List UInt8 := [170, 0, 0, 0, 176, 0, 0, 0, 0, 0, 0, 0, 10, 0, 0, 0, 57, 0, 0, 0, 67, 0, 0, 0, 77, 0, 0, 0, 87, 0, 0, 0, 97, 0, 0, 0, 108, 0, 0, 0, 123, 0, 0, 0, 140, 0, 0, 0, 148, 0, 0, 0, 156, 0, 0, 0, 166]
abbrev dktX1_size_1 : List UInt8 := dkwX1_size_1 ++ dktX1_size_2
def dkwX1_size_0 : List UInt8 := [27, 3, 16, 11, 184, 0, 103, 184, 0, 107, 27]
abbrev dktX1_size_0 : List UInt8 := dkwX1_size_0 ++ dktX1_size_1
theorem dksX1_size_0 : cX1_size.data.toList.drop 0 = dktX1_size_0 := by decide +kernel
theorem dksX1_size_1 : cX1_size.data.toList.drop 11 = dktX1_size_1 := dk_seg dksX1_size_0 11 rfl rfl
theorem dksX1_size_2 : cX1_size.data.toList.drop 68 = dktX1_size_2 := dk_seg dksX1_size_1 57 rfl rfl
theorem dksX1_size_3 : cX1_size.data.toList.drop 92 = dktX1_size_3 := dk_seg dksX1_size_2 24 rfl rfl
theorem dksX1_size_4 : cX1_size.data.toList.drop 116 = dktX1_size_4 := dk_seg dksX1_size_3 24 rfl rfl
theorem dksX1_size_5 : cX1_size.data.toList.drop 139 = dktX1_size_5 := dk_seg dksX1_size_4 23 rfl rfl
theorem dksX1_size_6 : cX1_size.data.toList.drop 161 = dktX1_size_6 := dk_seg dksX1_size_5 22 rfl rfl
theorem dksX1_size_7 : cX1_size.data.toList.drop 184 = dktX1_size_7 := dk_seg dksX1_size_6 23 rfl rfl
theorem dX1_size_0 : decode cX1_size 0 = .ok (.iload_n 1, 1) := dk_27 (dk_at dksX1_size_0 0 rfl rfl)
theorem dX1_size_1 : decode cX1_size 1 = .ok (.iconst 0, 1) := dk_3 (dk_at dksX1_size_0 1 rfl rfl)
theorem dX1_size_2 : decode cX1_size 2 = .ok (.bipush 11, 2) := dk_16 11 (dk_at dksX1_size_0 2 rfl rfl)
theorem dX1_size_4 : decode cX1_size 4 = .ok (.invokestatic 103, 3) := dk_184 0 103 (dk_at dksX1_size_0 4 rfl rfl)
theorem dX1_size_7 : decode cX1_size 7 = .ok (.invokestatic 107, 3) := dk_184 0 107 (dk_at dksX1_size_0 7 rfl rfl)
theorem dX1_size_10 : decode cX1_size 10 = .ok (.iload_n 1, 1) := dk_27 (dk_at dksX1_size_0 10 rfl rfl)
theorem dX1_size_11 : decode cX1_size 11 = .ok (.tableswitch 176 0 10 #[57, 67, 77, 87, 97, 108, 123, 140, 148, 156, 166], 57) := by decide +kernel
theorem dX1_size_68 : decode cX1_size 68 = .ok (.aload_n 0, 1) := dk_42 (dk_at dksX1_size_2 0 rfl rfl)
theorem dX1_size_69 : decode cX1_size 69 = .ok (.getfield 75, 3) := dk_180 0 75 (dk_at dksX1_size_2 1 rfl rfl)
theorem dX1_size_72 : decode cX1_size 72 = .ok (.getfield 162, 3) := dk_180 0 162 (dk_at dksX1_size_2 4 rfl rfl)
theorem dX1_size_75 : decode cX1_size 75 = .ok (.goto 116, 3) := dk_167 0 116 (dk_at dksX1_size_2 7 rfl rfl)
theorem dX1_size_78 : decode cX1_size 78 = .ok (.aload_n 0, 1) := dk_42 (dk_at dksX1_size_2 10 rfl rfl)
theorem dX1_size_79 : decode cX1_size 79 = .ok (.getfield 75, 3) := dk_180 0 75 (dk_at dksX1_size_2 11 rfl rfl)
theorem dX1_size_82 : decode cX1_size 82 = .ok (.getfield 169, 3) := dk_180 0 169 (dk_at dksX1_size_2 14 rfl rfl)
theorem dX1_size_85 : decode cX1_size 85 = .ok (.goto 106, 3) := dk_167 0 106 (dk_at dksX1_size_2 17 rfl rfl)
theorem dX1_size_88 : decode cX1_size 88 = .ok (.aload_n 0, 1) := dk_42 (dk_at dksX1_size_2 20 rfl rfl)
theorem dX1_size_89 : decode cX1_size 89 = .ok (.getfield 75, 3) := dk_180 0 75 (dk_at dksX1_size_2 21 rfl rfl)
theorem dX1_size_92 : decode cX1_size 92 = .ok (.getfield 172, 3) := dk_180 0 172 (dk_at dksX1_size_3 0 rfl rfl)
theorem dX1_size_95 : decode cX1_size 95 = .ok (.goto 96, 3) := dk_167 0 96 (dk_at dksX1_size_3 3 rfl rfl)
theorem dX1_size_98 : decode cX1_size 98 = .ok (.aload_n 0, 1) := dk_42 (dk_at dksX1_size_3 6 rfl rfl)
theorem dX1_size_99 : decode cX1_size 99 = .ok (.getfield 75, 3) := dk_180 0 75 (dk_at dksX1_size_3 7 rfl rfl)
theorem dX1_size_102 : decode cX1_size 102 = .ok (.getfield 175, 3) := dk_180 0 175 (dk_at dksX1_size_3 10 rfl rfl)
theorem dX1_size_105 : decode cX1_size 105 = .ok (.goto 86, 3) := dk_167 0 86 (dk_at dksX1_size_3 13 rfl rfl)
theorem dX1_size_108 : decode cX1_size 108 = .ok (.aload_n 0, 1) := dk_42 (dk_at dksX1_size_3 16 rfl rfl)
theorem dX1_size_109 : decode cX1_size 109 = .ok (.getfield 75, 3) := dk_180 0 75 (dk_at dksX1_size_3 17 rfl rfl)
theorem dX1_size_112 : decode cX1_size 112 = .ok (.getfield 178, 3) := dk_180 0 178 (dk_at dksX1_size_3 20 rfl rfl)
theorem dX1_size_115 : decode cX1_size 115 = .ok (.arraylength, 1) := dk_190 (dk_at dksX1_size_3 23 rfl rfl)
theorem dX1_size_116 : decode cX1_size 116 = .ok (.goto 75, 3) := dk_167 0 75 (dk_at dksX1_size_4 0 rfl rfl)
theorem dX1_size_119 : decode cX1_size 119 = .ok (.aload_n 0, 1) := dk_42 (dk_at dksX1_size_4 3 rfl rfl)
theorem dX1_size_120 : decode cX1_size 120 = .ok (.getfield 75, 3) := dk_180 0 75 (dk_at dksX1_size_4 4 rfl rfl)
theorem dX1_size_123 : decode cX1_size 123 = .ok (.getfield 10, 3) := dk_180 0 10 (dk_at dksX1_size_4 7 rfl rfl)
theorem dX1_size_126 : decode cX1_size 126 = .ok (.invokeinterface 16 1, 5) := by decide +kernel
theorem dX1_size_131 : decode cX1_size 131 = .ok (.goto 60, 3) := dk_167 0 60 (dk_at dksX1_size_4 15 rfl rfl)
theorem dX1_size_134 : decode cX1_size 134 = .ok (.aload_n 0, 1) := dk_42 (dk_at dksX1_size_4 18 rfl rfl)
theorem dX1_size_135 : decode cX1_size 135 = .ok (.getfield 75, 3) := dk_180 0 75 (dk_at dksX1_size_4 19 rfl rfl)
theorem dX1_size_138 : decode cX1_size 138 = .ok (.aload_n 0, 1) := dk_42 (dk_at dksX1_size_4 22 rfl rfl)
theorem dX1_size_139 : decode cX1_size 139 = .ok (.getfield 75, 3) := dk_180 0 75 (dk_at dksX1_size_5 0 rfl rfl)
theorem dX1_size_142 : decode cX1_size 142 = .ok (.getfield 162, 3) := dk_180 0 162 (dk_at dksX1_size_5 3 rfl rfl)
theorem dX1_size_145 : decode cX1_size 145 = .ok (.invokevirtual 181, 3) := dk_182 0 181 (dk_at dksX1_size_5 6 rfl rfl)
theorem dX1_size_148 : decode cX1_size 148 = .ok (.goto 43, 3) := dk_167 0 43 (dk_at dksX1_size_5 9 rfl rfl)
theorem dX1_size_151 : decode cX1_size 151 = .ok (.aload_n 0, 1) := dk_42 (dk_at dksX1_size_5 12 rfl rfl)
theorem dX1_size_152 : decode cX1_size 152 = .ok (.iconst 0, 1) := dk_3 (dk_at dksX1_size_5 13 rfl rfl)
theorem dX1_size_153 : decode cX1_size 153 = .ok (.invokevirtual 185, 3) := dk_182 0 185 (dk_at dksX1_size_5 14 rfl rfl)
theorem dX1_size_156 : decode cX1_size 156 = .ok (.goto 35, 3) := dk_167 0 35 (dk_at dksX1_size_5 17 rfl rfl)
theorem dX1_size_159 : decode cX1_size 159 = .ok (.aload_n 0, 1) := dk_42 (dk_at dksX1_size_5 20 rfl rfl)
theorem dX1_size_160 : decode cX1_size 160 = .ok (.iconst 1, 1) := dk_4 (dk_at dksX1_size_5 21 rfl rfl)
theorem dX1_size_161 : decode cX1_size 161 = .ok (.invokevirtual 185, 3) := dk_182 0 185 (dk_at dksX1_size_6 0 rfl rfl)
theorem dX1_size_164 : decode cX1_size 164 = .ok (.goto 27, 3) := dk_167 0 27 (dk_at dksX1_size_6 3 rfl rfl)
theorem dX1_size_167 : decode cX1_size 167 = .ok (.aload_n 0, 1) := dk_42 (dk_at dksX1_size_6 6 rfl rfl)
theorem dX1_size_168 : decode cX1_size 168 = .ok (.getfield 75, 3) := dk_180 0 75 (dk_at dksX1_size_6 7 rfl rfl)
theorem dX1_size_171 : decode cX1_size 171 = .ok (.getfield 188, 3) := dk_180 0 188 (dk_at dksX1_size_6 10 rfl rfl)
theorem dX1_size_174 : decode cX1_size 174 = .ok (.goto 17, 3) := dk_167 0 17 (dk_at dksX1_size_6 13 rfl rfl)
theorem dX1_size_177 : decode cX1_size 177 = .ok (.aload_n 0, 1) := dk_42 (dk_at dksX1_size_6 16 rfl rfl)
theorem dX1_size_178 : decode cX1_size 178 = .ok (.getfield 75, 3) := dk_180 0 75 (dk_at dksX1_size_6 17 rfl rfl)
theorem dX1_size_181 : decode cX1_size 181 = .ok (.invokevirtual 191, 3) := dk_182 0 191 (dk_at dksX1_size_6 20 rfl rfl)
theorem dX1_size_184 : decode cX1_size 184 = .ok (.goto 7, 3) := dk_167 0 7 (dk_at dksX1_size_7 0 rfl rfl)
theorem dX1_size_187 : decode cX1_size 187 = .ok (.aload_n 0, 1) := dk_42 (dk_at dksX1_size_7 3 rfl rfl)
theorem dX1_size_188 : decode cX1_size 188 = .ok (.invokevirtual 194, 3) := dk_182 0 194 (dk_at dksX1_size_7 4 rfl rfl)
theorem dX1_size_191 : decode cX1_size 191 = .ok (.ireturn, 1) := dk_172 (dk_at dksX1_size_7 7 rfl rfl)
abbrev cX1_inState : ByteArray := prog_1_method_23_code
def yX1_inState : MethodName := ⟨RX1, "inState", "(I)I"⟩
def dkwX1_inState_2 : List UInt8 := [167, 0, 4, 3, 184, 0, 158, 96, 61, 167, 255, 216, 28, 172]
abbrev dktX1_inState_2 : List UInt8 := dkwX1_inState_2 ++ []
def dkwX1_inState_1 : List UInt8 := [45, 185, 0, 151, 1, 0, 192, 0, 43, 58, 4, 28, 25, 4, 180, 0, 155, 27, 160, 0, 7, 4]
abbrev dktX1_inState_1 : List UInt8 := dkwX1_inState_1 ++ dktX1_inState_2
def dkwX1_inState_0 : List UInt8 := [3, 61, 42, 180, 0, 75, 180, 0, 10, 185, 0, 141, 1, 0, 78, 45, 185, 0, 145, 1, 0, 153, 0, 37]
abbrev dktX1_inState_0 : List UInt8 := dkwX1_inState_0 ++ dktX1_inState_1
theorem dksX1_inState_0 : cX1_inState.data.toList.drop 0 = dktX1_inState_0 := by decide +kernel
theorem dksX1_inState_1 : cX1_inState.data.toList.drop 24 = dktX1_inState_1 := dk_seg dksX1_inState_0 24 rfl rfl
theorem dksX1_inState_2 : cX1_inState.data.toList.drop 46 = dktX1_inState_2 := dk_seg dksX1_inState_1 22 rfl rfl
theorem dX1_inState_0 : decode cX1_inState 0 = .ok (.iconst 0, 1) := dk_3 (dk_at dksX1_inState_0 0 rfl rfl)
theorem dX1_inState_1 : decode cX1_inState 1 = .ok (.istore_n 2, 1) := dk_61 (dk_at dksX1_inState_0 1 rfl rfl)
theorem dX1_inState_2 : decode cX1_inState 2 = .ok (.aload_n 0, 1) := dk_42 (dk_at dksX1_inState_0 2 rfl rfl)
theorem dX1_inState_3 : decode cX1_inState 3 = .ok (.getfield 75, 3) := dk_180 0 75 (dk_at dksX1_inState_0 3 rfl rfl)
theorem dX1_inState_6 : decode cX1_inState 6 = .ok (.getfield 10, 3) := dk_180 0 10 (dk_at dksX1_inState_0 6 rfl rfl)
theorem dX1_inState_9 : decode cX1_inState 9 = .ok (.invokeinterface 141 1, 5) := by decide +kernel
theorem dX1_inState_14 : decode cX1_inState 14 = .ok (.astore_n 3, 1) := dk_78 (dk_at dksX1_inState_0 14 rfl rfl)
theorem dX1_inState_15 : decode cX1_inState 15 = .ok (.aload_n 3, 1) := dk_45 (dk_at dksX1_inState_0 15 rfl rfl)
theorem dX1_inState_16 : decode cX1_inState 16 = .ok (.invokeinterface 145 1, 5) := by decide +kernel
theorem dX1_inState_21 : decode cX1_inState 21 = .ok (.ifCond .eq 37, 3) := dk_153 0 37 (dk_at dksX1_inState_0 21 rfl rfl)
theorem dX1_inState_24 : decode cX1_inState 24 = .ok (.aload_n 3, 1) := dk_45 (dk_at dksX1_inState_1 0 rfl rfl)
theorem dX1_inState_25 : decode cX1_inState 25 = .ok (.invokeinterface 151 1, 5) := by decide +kernel
theorem dX1_inState_30 : decode cX1_inState 30 = .ok (.checkcast 43, 3) := dk_192 0 43 (dk_at dksX1_inState_1 6 rfl rfl)
theorem dX1_inState_33 : decode cX1_inState 33 = .ok (.astore 4, 2) := dk_58 4 (dk_at dksX1_inState_1 9 rfl rfl)
theorem dX1_inState_35 : decode cX1_inState 35 = .ok (.iload_n 2, 1) := dk_28 (dk_at dksX1_inState_1 11 rfl rfl)
theorem dX1_inState_36 : decode cX1_inState 36 = .ok (.aload 4, 2) := dk_25 4 (dk_at dksX1_inState_1 12 rfl rfl)
theorem dX1_inState_38 : decode cX1_inState 38 = .ok (.getfield 155, 3) := dk_180 0 155 (dk_at dksX1_inState_1 14 rfl rfl)
theorem dX1_inState_41 : decode cX1_inState 41 = .ok (.iload_n 1, 1) := dk_27 (dk_at dksX1_inState_1 17 rfl rfl)
theorem dX1_inState_42 : decode cX1_inState 42 = .ok (.if_icmp .ne 7, 3) := dk_160 0 7 (dk_at dksX1_inState_1 18 rfl rfl)
theorem dX1_inState_45 : decode cX1_inState 45 = .ok (.iconst 1, 1) := dk_4 (dk_at dksX1_inState_1 21 rfl rfl)
theorem dX1_inState_46 : decode cX1_inState 46 = .ok (.goto 4, 3) := dk_167 0 4 (dk_at dksX1_inState_2 0 rfl rfl)
theorem dX1_inState_49 : decode cX1_inState 49 = .ok (.iconst 0, 1) := dk_3 (dk_at dksX1_inState_2 3 rfl rfl)
theorem dX1_inState_50 : decode cX1_inState 50 = .ok (.invokestatic 158, 3) := dk_184 0 158 (dk_at dksX1_inState_2 4 rfl rfl)
theorem dX1_inState_53 : decode cX1_inState 53 = .ok (.iadd, 1) := dk_96 (dk_at dksX1_inState_2 7 rfl rfl)
theorem dX1_inState_54 : decode cX1_inState 54 = .ok (.istore_n 2, 1) := dk_61 (dk_at dksX1_inState_2 8 rfl rfl)
theorem dX1_inState_55 : decode cX1_inState 55 = .ok (.goto (-40), 3) := dk_167 255 216 (dk_at dksX1_inState_2 9 rfl rfl)
theorem dX1_inState_58 : decode cX1_inState 58 = .ok (.iload_n 2, 1) := dk_28 (dk_at dksX1_inState_2 12 rfl rfl)
theorem dX1_inState_59 : decode cX1_inState 59 = .ok (.ireturn, 1) := dk_172 (dk_at dksX1_inState_2 13 rfl rfl)
abbrev cX1_dryNow : ByteArray := prog_1_method_24_code
def yX1_dryNow : MethodName := ⟨RX1, "dryNow", "()I"⟩
def dkwX1_dryNow_3 : List UInt8 := [167, 255, 201, 27, 172]
abbrev dktX1_dryNow_3 : List UInt8 := dkwX1_dryNow_3 ++ []
def dkwX1_dryNow_2 : List UInt8 := [180, 0, 75, 180, 0, 162, 182, 0, 165, 153, 0, 7, 4, 167, 0, 4, 3, 184, 0, 158, 96, 60]
abbrev dktX1_dryNow_2 : List UInt8 := dkwX1_dryNow_2 ++ dktX1_dryNow_3
def dkwX1_dryNow_1 : List UInt8 := [44, 185, 0, 151, 1, 0, 192, 0, 43, 78, 27, 45, 180, 0, 155, 154, 0, 25, 42, 180, 0, 75, 45, 42]
abbrev dktX1_dryNow_1 : List UInt8 := dkwX1_dryNow_1 ++ dktX1_dryNow_2
def dkwX1_dryNow_0 : List UInt8 := [3, 60, 42, 180, 0, 75, 180, 0, 10, 185, 0, 141, 1, 0, 77, 44, 185, 0, 145, 1, 0, 153, 0, 52]
abbrev dktX1_dryNow_0 : List UInt8 := dkwX1_dryNow_0 ++ dktX1_dryNow_1
theorem dksX1_dryNow_0 : cX1_dryNow.data.toList.drop 0 = dktX1_dryNow_0 := by decide +kernel
theorem dksX1_dryNow_1 : cX1_dryNow.data.toList.drop 24 = dktX1_dryNow_1 := dk_seg dksX1_dryNow_0 24 rfl rfl
theorem dksX1_dryNow_2 : cX1_dryNow.data.toList.drop 48 = dktX1_dryNow_2 := dk_seg dksX1_dryNow_1 24 rfl rfl
theorem dksX1_dryNow_3 : cX1_dryNow.data.toList.drop 70 = dktX1_dryNow_3 := dk_seg dksX1_dryNow_2 22 rfl rfl
theorem dX1_dryNow_0 : decode cX1_dryNow 0 = .ok (.iconst 0, 1) := dk_3 (dk_at dksX1_dryNow_0 0 rfl rfl)
theorem dX1_dryNow_1 : decode cX1_dryNow 1 = .ok (.istore_n 1, 1) := dk_60 (dk_at dksX1_dryNow_0 1 rfl rfl)
theorem dX1_dryNow_2 : decode cX1_dryNow 2 = .ok (.aload_n 0, 1) := dk_42 (dk_at dksX1_dryNow_0 2 rfl rfl)
theorem dX1_dryNow_3 : decode cX1_dryNow 3 = .ok (.getfield 75, 3) := dk_180 0 75 (dk_at dksX1_dryNow_0 3 rfl rfl)
theorem dX1_dryNow_6 : decode cX1_dryNow 6 = .ok (.getfield 10, 3) := dk_180 0 10 (dk_at dksX1_dryNow_0 6 rfl rfl)
theorem dX1_dryNow_9 : decode cX1_dryNow 9 = .ok (.invokeinterface 141 1, 5) := by decide +kernel
theorem dX1_dryNow_14 : decode cX1_dryNow 14 = .ok (.astore_n 2, 1) := dk_77 (dk_at dksX1_dryNow_0 14 rfl rfl)
theorem dX1_dryNow_15 : decode cX1_dryNow 15 = .ok (.aload_n 2, 1) := dk_44 (dk_at dksX1_dryNow_0 15 rfl rfl)
theorem dX1_dryNow_16 : decode cX1_dryNow 16 = .ok (.invokeinterface 145 1, 5) := by decide +kernel
theorem dX1_dryNow_21 : decode cX1_dryNow 21 = .ok (.ifCond .eq 52, 3) := dk_153 0 52 (dk_at dksX1_dryNow_0 21 rfl rfl)
theorem dX1_dryNow_24 : decode cX1_dryNow 24 = .ok (.aload_n 2, 1) := dk_44 (dk_at dksX1_dryNow_1 0 rfl rfl)
theorem dX1_dryNow_25 : decode cX1_dryNow 25 = .ok (.invokeinterface 151 1, 5) := by decide +kernel
theorem dX1_dryNow_30 : decode cX1_dryNow 30 = .ok (.checkcast 43, 3) := dk_192 0 43 (dk_at dksX1_dryNow_1 6 rfl rfl)
theorem dX1_dryNow_33 : decode cX1_dryNow 33 = .ok (.astore_n 3, 1) := dk_78 (dk_at dksX1_dryNow_1 9 rfl rfl)
theorem dX1_dryNow_34 : decode cX1_dryNow 34 = .ok (.iload_n 1, 1) := dk_27 (dk_at dksX1_dryNow_1 10 rfl rfl)
theorem dX1_dryNow_35 : decode cX1_dryNow 35 = .ok (.aload_n 3, 1) := dk_45 (dk_at dksX1_dryNow_1 11 rfl rfl)
theorem dX1_dryNow_36 : decode cX1_dryNow 36 = .ok (.getfield 155, 3) := dk_180 0 155 (dk_at dksX1_dryNow_1 12 rfl rfl)
theorem dX1_dryNow_39 : decode cX1_dryNow 39 = .ok (.ifCond .ne 25, 3) := dk_154 0 25 (dk_at dksX1_dryNow_1 15 rfl rfl)
theorem dX1_dryNow_42 : decode cX1_dryNow 42 = .ok (.aload_n 0, 1) := dk_42 (dk_at dksX1_dryNow_1 18 rfl rfl)
theorem dX1_dryNow_43 : decode cX1_dryNow 43 = .ok (.getfield 75, 3) := dk_180 0 75 (dk_at dksX1_dryNow_1 19 rfl rfl)
theorem dX1_dryNow_46 : decode cX1_dryNow 46 = .ok (.aload_n 3, 1) := dk_45 (dk_at dksX1_dryNow_1 22 rfl rfl)
theorem dX1_dryNow_47 : decode cX1_dryNow 47 = .ok (.aload_n 0, 1) := dk_42 (dk_at dksX1_dryNow_1 23 rfl rfl)
theorem dX1_dryNow_48 : decode cX1_dryNow 48 = .ok (.getfield 75, 3) := dk_180 0 75 (dk_at dksX1_dryNow_2 0 rfl rfl)
theorem dX1_dryNow_51 : decode cX1_dryNow 51 = .ok (.getfield 162, 3) := dk_180 0 162 (dk_at dksX1_dryNow_2 3 rfl rfl)
theorem dX1_dryNow_54 : decode cX1_dryNow 54 = .ok (.invokevirtual 165, 3) := dk_182 0 165 (dk_at dksX1_dryNow_2 6 rfl rfl)
theorem dX1_dryNow_57 : decode cX1_dryNow 57 = .ok (.ifCond .eq 7, 3) := dk_153 0 7 (dk_at dksX1_dryNow_2 9 rfl rfl)
theorem dX1_dryNow_60 : decode cX1_dryNow 60 = .ok (.iconst 1, 1) := dk_4 (dk_at dksX1_dryNow_2 12 rfl rfl)
theorem dX1_dryNow_61 : decode cX1_dryNow 61 = .ok (.goto 4, 3) := dk_167 0 4 (dk_at dksX1_dryNow_2 13 rfl rfl)
theorem dX1_dryNow_64 : decode cX1_dryNow 64 = .ok (.iconst 0, 1) := dk_3 (dk_at dksX1_dryNow_2 16 rfl rfl)
theorem dX1_dryNow_65 : decode cX1_dryNow 65 = .ok (.invokestatic 158, 3) := dk_184 0 158 (dk_at dksX1_dryNow_2 17 rfl rfl)
theorem dX1_dryNow_68 : decode cX1_dryNow 68 = .ok (.iadd, 1) := dk_96 (dk_at dksX1_dryNow_2 20 rfl rfl)
theorem dX1_dryNow_69 : decode cX1_dryNow 69 = .ok (.istore_n 1, 1) := dk_60 (dk_at dksX1_dryNow_2 21 rfl rfl)
theorem dX1_dryNow_70 : decode cX1_dryNow 70 = .ok (.goto (-55), 3) := dk_167 255 201 (dk_at dksX1_dryNow_3 0 rfl rfl)
theorem dX1_dryNow_73 : decode cX1_dryNow 73 = .ok (.iload_n 1, 1) := dk_27 (dk_at dksX1_dryNow_3 3 rfl rfl)
theorem dX1_dryNow_74 : decode cX1_dryNow 74 = .ok (.ireturn, 1) := dk_172 (dk_at dksX1_dryNow_3 4 rfl rfl)
abbrev cX1_account : ByteArray := prog_1_method_26_code
def yX1_account : MethodName := ⟨RX1, "account", "(I)I"⟩
def dkwX1_account_1 : List UInt8 := [42, 180, 0, 75, 180, 0, 197, 27, 6, 100, 46, 172]
abbrev dktX1_account_1 : List UInt8 := dkwX1_account_1 ++ []
def dkwX1_account_0 : List UInt8 := [27, 3, 16, 10, 184, 0, 103, 184, 0, 107, 27, 6, 162, 0, 12, 42, 180, 0, 86, 27, 46, 167, 0, 14]
abbrev dktX1_account_0 : List UInt8 := dkwX1_account_0 ++ dktX1_account_1
theorem dksX1_account_0 : cX1_account.data.toList.drop 0 = dktX1_account_0 := by decide +kernel
theorem dksX1_account_1 : cX1_account.data.toList.drop 24 = dktX1_account_1 := dk_seg dksX1_account_0 24 rfl rfl
theorem dX1_account_0 : decode cX1_account 0 = .ok (.iload_n 1, 1) := dk_27 (dk_at dksX1_account_0 0 rfl rfl)
theorem dX1_account_1 : decode cX1_account 1 = .ok (.iconst 0, 1) := dk_3 (dk_at dksX1_account_0 1 rfl rfl)
theorem dX1_account_2 : decode cX1_account 2 = .ok (.bipush 10, 2) := dk_16 10 (dk_at dksX1_account_0 2 rfl rfl)
theorem dX1_account_4 : decode cX1_account 4 = .ok (.invokestatic 103, 3) := dk_184 0 103 (dk_at dksX1_account_0 4 rfl rfl)
theorem dX1_account_7 : decode cX1_account 7 = .ok (.invokestatic 107, 3) := dk_184 0 107 (dk_at dksX1_account_0 7 rfl rfl)
theorem dX1_account_10 : decode cX1_account 10 = .ok (.iload_n 1, 1) := dk_27 (dk_at dksX1_account_0 10 rfl rfl)
theorem dX1_account_11 : decode cX1_account 11 = .ok (.iconst 3, 1) := dk_6 (dk_at dksX1_account_0 11 rfl rfl)
theorem dX1_account_12 : decode cX1_account 12 = .ok (.if_icmp .ge 12, 3) := dk_162 0 12 (dk_at dksX1_account_0 12 rfl rfl)
theorem dX1_account_15 : decode cX1_account 15 = .ok (.aload_n 0, 1) := dk_42 (dk_at dksX1_account_0 15 rfl rfl)
theorem dX1_account_16 : decode cX1_account 16 = .ok (.getfield 86, 3) := dk_180 0 86 (dk_at dksX1_account_0 16 rfl rfl)
theorem dX1_account_19 : decode cX1_account 19 = .ok (.iload_n 1, 1) := dk_27 (dk_at dksX1_account_0 19 rfl rfl)
theorem dX1_account_20 : decode cX1_account 20 = .ok (.iaload, 1) := dk_46 (dk_at dksX1_account_0 20 rfl rfl)
theorem dX1_account_21 : decode cX1_account 21 = .ok (.goto 14, 3) := dk_167 0 14 (dk_at dksX1_account_0 21 rfl rfl)
theorem dX1_account_24 : decode cX1_account 24 = .ok (.aload_n 0, 1) := dk_42 (dk_at dksX1_account_1 0 rfl rfl)
theorem dX1_account_25 : decode cX1_account 25 = .ok (.getfield 75, 3) := dk_180 0 75 (dk_at dksX1_account_1 1 rfl rfl)
theorem dX1_account_28 : decode cX1_account 28 = .ok (.getfield 197, 3) := dk_180 0 197 (dk_at dksX1_account_1 4 rfl rfl)
theorem dX1_account_31 : decode cX1_account 31 = .ok (.iload_n 1, 1) := dk_27 (dk_at dksX1_account_1 7 rfl rfl)
theorem dX1_account_32 : decode cX1_account 32 = .ok (.iconst 3, 1) := dk_6 (dk_at dksX1_account_1 8 rfl rfl)
theorem dX1_account_33 : decode cX1_account 33 = .ok (.isub, 1) := dk_100 (dk_at dksX1_account_1 9 rfl rfl)
theorem dX1_account_34 : decode cX1_account 34 = .ok (.iaload, 1) := dk_46 (dk_at dksX1_account_1 10 rfl rfl)
theorem dX1_account_35 : decode cX1_account 35 = .ok (.ireturn, 1) := dk_172 (dk_at dksX1_account_1 11 rfl rfl)
abbrev cX1_good : ByteArray := prog_1_method_29_code
def yX1_good : MethodName := ⟨RX1, "good", "(II)I"⟩
def dkwX1_good_5 : List UInt8 := [180, 0, 242, 190, 167, 0, 10, 45, 180, 0, 245, 184, 0, 158, 172]
abbrev dktX1_good_5 : List UInt8 := dkwX1_good_5 ++ []
def dkwX1_good_4 : List UInt8 := [180, 0, 229, 167, 0, 35, 45, 180, 0, 232, 167, 0, 28, 45, 180, 0, 235, 182, 0, 239, 167, 0, 18, 45]
abbrev dktX1_good_4 : List UInt8 := dkwX1_good_4 ++ dktX1_good_5
def dkwX1_good_3 : List UInt8 := [45, 180, 0, 223, 167, 0, 56, 45, 180, 0, 226, 167, 0, 49, 45, 180, 0, 155, 167, 0, 42, 45]
abbrev dktX1_good_3 : List UInt8 := dkwX1_good_3 ++ dktX1_good_4
def dkwX1_good_2 : List UInt8 := [45, 180, 0, 210, 182, 0, 214, 167, 0, 77, 45, 180, 0, 217, 167, 0, 70, 45, 180, 0, 220, 167, 0, 63]
abbrev dktX1_good_2 : List UInt8 := dkwX1_good_2 ++ dktX1_good_3
def dkwX1_good_1 : List UInt8 := [170, 0, 0, 0, 0, 0, 132, 0, 0, 0, 0, 0, 0, 0, 9, 0, 0, 0, 55, 0, 0, 0, 65, 0, 0, 0, 72, 0, 0, 0, 79, 0, 0, 0, 86, 0, 0, 0, 93, 0, 0, 0, 100, 0, 0, 0, 107, 0, 0, 0, 114, 0, 0, 0, 124]
abbrev dktX1_good_1 : List UInt8 := dkwX1_good_1 ++ dktX1_good_2
def dkwX1_good_0 : List UInt8 := [42, 27, 182, 0, 207, 78, 28, 3, 16, 10, 184, 0, 103, 184, 0, 107, 28]
abbrev dktX1_good_0 : List UInt8 := dkwX1_good_0 ++ dktX1_good_1
theorem dksX1_good_0 : cX1_good.data.toList.drop 0 = dktX1_good_0 := by decide +kernel
theorem dksX1_good_1 : cX1_good.data.toList.drop 17 = dktX1_good_1 := dk_seg dksX1_good_0 17 rfl rfl
theorem dksX1_good_2 : cX1_good.data.toList.drop 72 = dktX1_good_2 := dk_seg dksX1_good_1 55 rfl rfl
theorem dksX1_good_3 : cX1_good.data.toList.drop 96 = dktX1_good_3 := dk_seg dksX1_good_2 24 rfl rfl
theorem dksX1_good_4 : cX1_good.data.toList.drop 118 = dktX1_good_4 := dk_seg dksX1_good_3 22 rfl rfl
theorem dksX1_good_5 : cX1_good.data.toList.drop 142 = dktX1_good_5 := dk_seg dksX1_good_4 24 rfl rfl
theorem dX1_good_0 : decode cX1_good 0 = .ok (.aload_n 0, 1) := dk_42 (dk_at dksX1_good_0 0 rfl rfl)
theorem dX1_good_1 : decode cX1_good 1 = .ok (.iload_n 1, 1) := dk_27 (dk_at dksX1_good_0 1 rfl rfl)
theorem dX1_good_2 : decode cX1_good 2 = .ok (.invokevirtual 207, 3) := dk_182 0 207 (dk_at dksX1_good_0 2 rfl rfl)
theorem dX1_good_5 : decode cX1_good 5 = .ok (.astore_n 3, 1) := dk_78 (dk_at dksX1_good_0 5 rfl rfl)
theorem dX1_good_6 : decode cX1_good 6 = .ok (.iload_n 2, 1) := dk_28 (dk_at dksX1_good_0 6 rfl rfl)
theorem dX1_good_7 : decode cX1_good 7 = .ok (.iconst 0, 1) := dk_3 (dk_at dksX1_good_0 7 rfl rfl)
theorem dX1_good_8 : decode cX1_good 8 = .ok (.bipush 10, 2) := dk_16 10 (dk_at dksX1_good_0 8 rfl rfl)
theorem dX1_good_10 : decode cX1_good 10 = .ok (.invokestatic 103, 3) := dk_184 0 103 (dk_at dksX1_good_0 10 rfl rfl)
theorem dX1_good_13 : decode cX1_good 13 = .ok (.invokestatic 107, 3) := dk_184 0 107 (dk_at dksX1_good_0 13 rfl rfl)
theorem dX1_good_16 : decode cX1_good 16 = .ok (.iload_n 2, 1) := dk_28 (dk_at dksX1_good_0 16 rfl rfl)
theorem dX1_good_17 : decode cX1_good 17 = .ok (.tableswitch 132 0 9 #[55, 65, 72, 79, 86, 93, 100, 107, 114, 124], 55) := by decide +kernel
theorem dX1_good_72 : decode cX1_good 72 = .ok (.aload_n 3, 1) := dk_45 (dk_at dksX1_good_2 0 rfl rfl)
theorem dX1_good_73 : decode cX1_good 73 = .ok (.getfield 210, 3) := dk_180 0 210 (dk_at dksX1_good_2 1 rfl rfl)
theorem dX1_good_76 : decode cX1_good 76 = .ok (.invokevirtual 214, 3) := dk_182 0 214 (dk_at dksX1_good_2 4 rfl rfl)
theorem dX1_good_79 : decode cX1_good 79 = .ok (.goto 77, 3) := dk_167 0 77 (dk_at dksX1_good_2 7 rfl rfl)
theorem dX1_good_82 : decode cX1_good 82 = .ok (.aload_n 3, 1) := dk_45 (dk_at dksX1_good_2 10 rfl rfl)
theorem dX1_good_83 : decode cX1_good 83 = .ok (.getfield 217, 3) := dk_180 0 217 (dk_at dksX1_good_2 11 rfl rfl)
theorem dX1_good_86 : decode cX1_good 86 = .ok (.goto 70, 3) := dk_167 0 70 (dk_at dksX1_good_2 14 rfl rfl)
theorem dX1_good_89 : decode cX1_good 89 = .ok (.aload_n 3, 1) := dk_45 (dk_at dksX1_good_2 17 rfl rfl)
theorem dX1_good_90 : decode cX1_good 90 = .ok (.getfield 220, 3) := dk_180 0 220 (dk_at dksX1_good_2 18 rfl rfl)
theorem dX1_good_93 : decode cX1_good 93 = .ok (.goto 63, 3) := dk_167 0 63 (dk_at dksX1_good_2 21 rfl rfl)
theorem dX1_good_96 : decode cX1_good 96 = .ok (.aload_n 3, 1) := dk_45 (dk_at dksX1_good_3 0 rfl rfl)
theorem dX1_good_97 : decode cX1_good 97 = .ok (.getfield 223, 3) := dk_180 0 223 (dk_at dksX1_good_3 1 rfl rfl)
theorem dX1_good_100 : decode cX1_good 100 = .ok (.goto 56, 3) := dk_167 0 56 (dk_at dksX1_good_3 4 rfl rfl)
theorem dX1_good_103 : decode cX1_good 103 = .ok (.aload_n 3, 1) := dk_45 (dk_at dksX1_good_3 7 rfl rfl)
theorem dX1_good_104 : decode cX1_good 104 = .ok (.getfield 226, 3) := dk_180 0 226 (dk_at dksX1_good_3 8 rfl rfl)
theorem dX1_good_107 : decode cX1_good 107 = .ok (.goto 49, 3) := dk_167 0 49 (dk_at dksX1_good_3 11 rfl rfl)
theorem dX1_good_110 : decode cX1_good 110 = .ok (.aload_n 3, 1) := dk_45 (dk_at dksX1_good_3 14 rfl rfl)
theorem dX1_good_111 : decode cX1_good 111 = .ok (.getfield 155, 3) := dk_180 0 155 (dk_at dksX1_good_3 15 rfl rfl)
theorem dX1_good_114 : decode cX1_good 114 = .ok (.goto 42, 3) := dk_167 0 42 (dk_at dksX1_good_3 18 rfl rfl)
theorem dX1_good_117 : decode cX1_good 117 = .ok (.aload_n 3, 1) := dk_45 (dk_at dksX1_good_3 21 rfl rfl)
theorem dX1_good_118 : decode cX1_good 118 = .ok (.getfield 229, 3) := dk_180 0 229 (dk_at dksX1_good_4 0 rfl rfl)
theorem dX1_good_121 : decode cX1_good 121 = .ok (.goto 35, 3) := dk_167 0 35 (dk_at dksX1_good_4 3 rfl rfl)
theorem dX1_good_124 : decode cX1_good 124 = .ok (.aload_n 3, 1) := dk_45 (dk_at dksX1_good_4 6 rfl rfl)
theorem dX1_good_125 : decode cX1_good 125 = .ok (.getfield 232, 3) := dk_180 0 232 (dk_at dksX1_good_4 7 rfl rfl)
theorem dX1_good_128 : decode cX1_good 128 = .ok (.goto 28, 3) := dk_167 0 28 (dk_at dksX1_good_4 10 rfl rfl)
theorem dX1_good_131 : decode cX1_good 131 = .ok (.aload_n 3, 1) := dk_45 (dk_at dksX1_good_4 13 rfl rfl)
theorem dX1_good_132 : decode cX1_good 132 = .ok (.getfield 235, 3) := dk_180 0 235 (dk_at dksX1_good_4 14 rfl rfl)
theorem dX1_good_135 : decode cX1_good 135 = .ok (.invokevirtual 239, 3) := dk_182 0 239 (dk_at dksX1_good_4 17 rfl rfl)
theorem dX1_good_138 : decode cX1_good 138 = .ok (.goto 18, 3) := dk_167 0 18 (dk_at dksX1_good_4 20 rfl rfl)
theorem dX1_good_141 : decode cX1_good 141 = .ok (.aload_n 3, 1) := dk_45 (dk_at dksX1_good_4 23 rfl rfl)
theorem dX1_good_142 : decode cX1_good 142 = .ok (.getfield 242, 3) := dk_180 0 242 (dk_at dksX1_good_5 0 rfl rfl)
theorem dX1_good_145 : decode cX1_good 145 = .ok (.arraylength, 1) := dk_190 (dk_at dksX1_good_5 3 rfl rfl)
theorem dX1_good_146 : decode cX1_good 146 = .ok (.goto 10, 3) := dk_167 0 10 (dk_at dksX1_good_5 4 rfl rfl)
theorem dX1_good_149 : decode cX1_good 149 = .ok (.aload_n 3, 1) := dk_45 (dk_at dksX1_good_5 7 rfl rfl)
theorem dX1_good_150 : decode cX1_good 150 = .ok (.getfield 245, 3) := dk_180 0 245 (dk_at dksX1_good_5 8 rfl rfl)
theorem dX1_good_153 : decode cX1_good 153 = .ok (.invokestatic 158, 3) := dk_184 0 158 (dk_at dksX1_good_5 11 rfl rfl)
theorem dX1_good_156 : decode cX1_good 156 = .ok (.ireturn, 1) := dk_172 (dk_at dksX1_good_5 14 rfl rfl)
abbrev cX1_goodAt : ByteArray := prog_1_method_27_code
def yX1_goodAt : MethodName := ⟨RX1, "goodAt", "(I)LWreckShares$Good;"⟩
def dkwX1_goodAt_1 : List UInt8 := [180, 0, 75, 27, 182, 0, 203, 176]
abbrev dktX1_goodAt_1 : List UInt8 := dkwX1_goodAt_1 ++ []
def dkwX1_goodAt_0 : List UInt8 := [27, 3, 42, 180, 0, 75, 180, 0, 10, 185, 0, 16, 1, 0, 4, 100, 184, 0, 103, 184, 0, 200, 42]
abbrev dktX1_goodAt_0 : List UInt8 := dkwX1_goodAt_0 ++ dktX1_goodAt_1
theorem dksX1_goodAt_0 : cX1_goodAt.data.toList.drop 0 = dktX1_goodAt_0 := by decide +kernel
theorem dksX1_goodAt_1 : cX1_goodAt.data.toList.drop 23 = dktX1_goodAt_1 := dk_seg dksX1_goodAt_0 23 rfl rfl
theorem dX1_goodAt_0 : decode cX1_goodAt 0 = .ok (.iload_n 1, 1) := dk_27 (dk_at dksX1_goodAt_0 0 rfl rfl)
theorem dX1_goodAt_1 : decode cX1_goodAt 1 = .ok (.iconst 0, 1) := dk_3 (dk_at dksX1_goodAt_0 1 rfl rfl)
theorem dX1_goodAt_2 : decode cX1_goodAt 2 = .ok (.aload_n 0, 1) := dk_42 (dk_at dksX1_goodAt_0 2 rfl rfl)
theorem dX1_goodAt_3 : decode cX1_goodAt 3 = .ok (.getfield 75, 3) := dk_180 0 75 (dk_at dksX1_goodAt_0 3 rfl rfl)
theorem dX1_goodAt_6 : decode cX1_goodAt 6 = .ok (.getfield 10, 3) := dk_180 0 10 (dk_at dksX1_goodAt_0 6 rfl rfl)
theorem dX1_goodAt_9 : decode cX1_goodAt 9 = .ok (.invokeinterface 16 1, 5) := by decide +kernel
theorem dX1_goodAt_14 : decode cX1_goodAt 14 = .ok (.iconst 1, 1) := dk_4 (dk_at dksX1_goodAt_0 14 rfl rfl)
theorem dX1_goodAt_15 : decode cX1_goodAt 15 = .ok (.isub, 1) := dk_100 (dk_at dksX1_goodAt_0 15 rfl rfl)
theorem dX1_goodAt_16 : decode cX1_goodAt 16 = .ok (.invokestatic 103, 3) := dk_184 0 103 (dk_at dksX1_goodAt_0 16 rfl rfl)
theorem dX1_goodAt_19 : decode cX1_goodAt 19 = .ok (.invokestatic 200, 3) := dk_184 0 200 (dk_at dksX1_goodAt_0 19 rfl rfl)
theorem dX1_goodAt_22 : decode cX1_goodAt 22 = .ok (.aload_n 0, 1) := dk_42 (dk_at dksX1_goodAt_0 22 rfl rfl)
theorem dX1_goodAt_23 : decode cX1_goodAt 23 = .ok (.getfield 75, 3) := dk_180 0 75 (dk_at dksX1_goodAt_1 0 rfl rfl)
theorem dX1_goodAt_26 : decode cX1_goodAt 26 = .ok (.iload_n 1, 1) := dk_27 (dk_at dksX1_goodAt_1 3 rfl rfl)
theorem dX1_goodAt_27 : decode cX1_goodAt 27 = .ok (.invokevirtual 203, 3) := dk_182 0 203 (dk_at dksX1_goodAt_1 4 rfl rfl)
theorem dX1_goodAt_30 : decode cX1_goodAt 30 = .ok (.areturn, 1) := dk_176 (dk_at dksX1_goodAt_1 7 rfl rfl)
abbrev cX1_requireElement : ByteArray := prog_1_method_4_code
def yX1_requireElement : MethodName := ⟨RX1, "requireElement", "(Z)V"⟩
def dkwX1_requireElement_0 : List UInt8 := [26, 154, 0, 11, 187, 0, 7, 89, 183, 0, 9, 191, 177]
abbrev dktX1_requireElement_0 : List UInt8 := dkwX1_requireElement_0 ++ []
theorem dksX1_requireElement_0 : cX1_requireElement.data.toList.drop 0 = dktX1_requireElement_0 := by decide +kernel
theorem dX1_requireElement_0 : decode cX1_requireElement 0 = .ok (.iload_n 0, 1) := dk_26 (dk_at dksX1_requireElement_0 0 rfl rfl)
theorem dX1_requireElement_1 : decode cX1_requireElement 1 = .ok (.ifCond .ne 11, 3) := dk_154 0 11 (dk_at dksX1_requireElement_0 1 rfl rfl)
theorem dX1_requireElement_4 : decode cX1_requireElement 4 = .ok (.new 7, 3) := dk_187 0 7 (dk_at dksX1_requireElement_0 4 rfl rfl)
theorem dX1_requireElement_7 : decode cX1_requireElement 7 = .ok (.dup, 1) := dk_89 (dk_at dksX1_requireElement_0 7 rfl rfl)
theorem dX1_requireElement_8 : decode cX1_requireElement 8 = .ok (.invokespecial 9, 3) := dk_183 0 9 (dk_at dksX1_requireElement_0 8 rfl rfl)
theorem dX1_requireElement_11 : decode cX1_requireElement 11 = .ok (.athrow, 1) := dk_191 (dk_at dksX1_requireElement_0 11 rfl rfl)
theorem dX1_requireElement_12 : decode cX1_requireElement 12 = .ok (.return_, 1) := dk_177 (dk_at dksX1_requireElement_0 12 rfl rfl)
abbrev cX1_finder : ByteArray := prog_1_method_32_code
def yX1_finder : MethodName := ⟨RX1, "finder", "(II)I"⟩
def dkwX1_finder_4 : List UInt8 := [167, 0, 8, 42, 27, 182, 1, 16, 172]
abbrev dktX1_finder_4 : List UInt8 := dkwX1_finder_4 ++ []
def dkwX1_finder_3 : List UInt8 := [167, 0, 30, 45, 199, 0, 7, 2, 167, 0, 22, 45, 180, 0, 235, 27, 184, 1, 6, 182, 1, 12]
abbrev dktX1_finder_3 : List UInt8 := dkwX1_finder_3 ++ dktX1_finder_4
def dkwX1_finder_2 : List UInt8 := [42, 180, 0, 75, 180, 0, 178, 27, 46, 167, 0, 45, 45, 199, 0, 7, 2, 167, 0, 37, 45, 180, 1, 3]
abbrev dktX1_finder_2 : List UInt8 := dkwX1_finder_2 ++ dktX1_finder_3
def dkwX1_finder_1 : List UInt8 := [170, 0, 0, 0, 0, 0, 0, 77, 0, 0, 0, 0, 0, 0, 0, 2, 0, 0, 0, 28, 0, 0, 0, 40, 0, 0, 0, 55]
abbrev dktX1_finder_1 : List UInt8 := dkwX1_finder_1 ++ dktX1_finder_2
def dkwX1_finder_0 : List UInt8 := [42, 27, 182, 0, 253, 28, 3, 6, 184, 0, 103, 184, 0, 107, 42, 180, 0, 75, 27, 182, 1, 0, 78, 28]
abbrev dktX1_finder_0 : List UInt8 := dkwX1_finder_0 ++ dktX1_finder_1
theorem dksX1_finder_0 : cX1_finder.data.toList.drop 0 = dktX1_finder_0 := by decide +kernel
theorem dksX1_finder_1 : cX1_finder.data.toList.drop 24 = dktX1_finder_1 := dk_seg dksX1_finder_0 24 rfl rfl
theorem dksX1_finder_2 : cX1_finder.data.toList.drop 52 = dktX1_finder_2 := dk_seg dksX1_finder_1 28 rfl rfl
theorem dksX1_finder_3 : cX1_finder.data.toList.drop 76 = dktX1_finder_3 := dk_seg dksX1_finder_2 24 rfl rfl
theorem dksX1_finder_4 : cX1_finder.data.toList.drop 98 = dktX1_finder_4 := dk_seg dksX1_finder_3 22 rfl rfl
theorem dX1_finder_0 : decode cX1_finder 0 = .ok (.aload_n 0, 1) := dk_42 (dk_at dksX1_finder_0 0 rfl rfl)
theorem dX1_finder_1 : decode cX1_finder 1 = .ok (.iload_n 1, 1) := dk_27 (dk_at dksX1_finder_0 1 rfl rfl)
theorem dX1_finder_2 : decode cX1_finder 2 = .ok (.invokevirtual 253, 3) := dk_182 0 253 (dk_at dksX1_finder_0 2 rfl rfl)
theorem dX1_finder_5 : decode cX1_finder 5 = .ok (.iload_n 2, 1) := dk_28 (dk_at dksX1_finder_0 5 rfl rfl)
theorem dX1_finder_6 : decode cX1_finder 6 = .ok (.iconst 0, 1) := dk_3 (dk_at dksX1_finder_0 6 rfl rfl)
theorem dX1_finder_7 : decode cX1_finder 7 = .ok (.iconst 3, 1) := dk_6 (dk_at dksX1_finder_0 7 rfl rfl)
theorem dX1_finder_8 : decode cX1_finder 8 = .ok (.invokestatic 103, 3) := dk_184 0 103 (dk_at dksX1_finder_0 8 rfl rfl)
theorem dX1_finder_11 : decode cX1_finder 11 = .ok (.invokestatic 107, 3) := dk_184 0 107 (dk_at dksX1_finder_0 11 rfl rfl)
theorem dX1_finder_14 : decode cX1_finder 14 = .ok (.aload_n 0, 1) := dk_42 (dk_at dksX1_finder_0 14 rfl rfl)
theorem dX1_finder_15 : decode cX1_finder 15 = .ok (.getfield 75, 3) := dk_180 0 75 (dk_at dksX1_finder_0 15 rfl rfl)
theorem dX1_finder_18 : decode cX1_finder 18 = .ok (.iload_n 1, 1) := dk_27 (dk_at dksX1_finder_0 18 rfl rfl)
theorem dX1_finder_19 : decode cX1_finder 19 = .ok (.invokevirtual 256, 3) := dk_182 1 0 (dk_at dksX1_finder_0 19 rfl rfl)
theorem dX1_finder_22 : decode cX1_finder 22 = .ok (.astore_n 3, 1) := dk_78 (dk_at dksX1_finder_0 22 rfl rfl)
theorem dX1_finder_23 : decode cX1_finder 23 = .ok (.iload_n 2, 1) := dk_28 (dk_at dksX1_finder_0 23 rfl rfl)
theorem dX1_finder_24 : decode cX1_finder 24 = .ok (.tableswitch 77 0 2 #[28, 40, 55], 28) := by decide +kernel
theorem dX1_finder_52 : decode cX1_finder 52 = .ok (.aload_n 0, 1) := dk_42 (dk_at dksX1_finder_2 0 rfl rfl)
theorem dX1_finder_53 : decode cX1_finder 53 = .ok (.getfield 75, 3) := dk_180 0 75 (dk_at dksX1_finder_2 1 rfl rfl)
theorem dX1_finder_56 : decode cX1_finder 56 = .ok (.getfield 178, 3) := dk_180 0 178 (dk_at dksX1_finder_2 4 rfl rfl)
theorem dX1_finder_59 : decode cX1_finder 59 = .ok (.iload_n 1, 1) := dk_27 (dk_at dksX1_finder_2 7 rfl rfl)
theorem dX1_finder_60 : decode cX1_finder 60 = .ok (.iaload, 1) := dk_46 (dk_at dksX1_finder_2 8 rfl rfl)
theorem dX1_finder_61 : decode cX1_finder 61 = .ok (.goto 45, 3) := dk_167 0 45 (dk_at dksX1_finder_2 9 rfl rfl)
theorem dX1_finder_64 : decode cX1_finder 64 = .ok (.aload_n 3, 1) := dk_45 (dk_at dksX1_finder_2 12 rfl rfl)
theorem dX1_finder_65 : decode cX1_finder 65 = .ok (.ifnonnull 7, 3) := dk_199 0 7 (dk_at dksX1_finder_2 13 rfl rfl)
theorem dX1_finder_68 : decode cX1_finder 68 = .ok (.iconst (-1), 1) := dk_2 (dk_at dksX1_finder_2 16 rfl rfl)
theorem dX1_finder_69 : decode cX1_finder 69 = .ok (.goto 37, 3) := dk_167 0 37 (dk_at dksX1_finder_2 17 rfl rfl)
theorem dX1_finder_72 : decode cX1_finder 72 = .ok (.aload_n 3, 1) := dk_45 (dk_at dksX1_finder_2 20 rfl rfl)
theorem dX1_finder_73 : decode cX1_finder 73 = .ok (.getfield 259, 3) := dk_180 1 3 (dk_at dksX1_finder_2 21 rfl rfl)
theorem dX1_finder_76 : decode cX1_finder 76 = .ok (.goto 30, 3) := dk_167 0 30 (dk_at dksX1_finder_3 0 rfl rfl)
theorem dX1_finder_79 : decode cX1_finder 79 = .ok (.aload_n 3, 1) := dk_45 (dk_at dksX1_finder_3 3 rfl rfl)
theorem dX1_finder_80 : decode cX1_finder 80 = .ok (.ifnonnull 7, 3) := dk_199 0 7 (dk_at dksX1_finder_3 4 rfl rfl)
theorem dX1_finder_83 : decode cX1_finder 83 = .ok (.iconst (-1), 1) := dk_2 (dk_at dksX1_finder_3 7 rfl rfl)
theorem dX1_finder_84 : decode cX1_finder 84 = .ok (.goto 22, 3) := dk_167 0 22 (dk_at dksX1_finder_3 8 rfl rfl)
theorem dX1_finder_87 : decode cX1_finder 87 = .ok (.aload_n 3, 1) := dk_45 (dk_at dksX1_finder_3 11 rfl rfl)
theorem dX1_finder_88 : decode cX1_finder 88 = .ok (.getfield 235, 3) := dk_180 0 235 (dk_at dksX1_finder_3 12 rfl rfl)
theorem dX1_finder_91 : decode cX1_finder 91 = .ok (.iload_n 1, 1) := dk_27 (dk_at dksX1_finder_3 15 rfl rfl)
theorem dX1_finder_92 : decode cX1_finder 92 = .ok (.invokestatic 262, 3) := dk_184 1 6 (dk_at dksX1_finder_3 16 rfl rfl)
theorem dX1_finder_95 : decode cX1_finder 95 = .ok (.invokevirtual 268, 3) := dk_182 1 12 (dk_at dksX1_finder_3 19 rfl rfl)
theorem dX1_finder_98 : decode cX1_finder 98 = .ok (.goto 8, 3) := dk_167 0 8 (dk_at dksX1_finder_4 0 rfl rfl)
theorem dX1_finder_101 : decode cX1_finder 101 = .ok (.aload_n 0, 1) := dk_42 (dk_at dksX1_finder_4 3 rfl rfl)
theorem dX1_finder_102 : decode cX1_finder 102 = .ok (.iload_n 1, 1) := dk_27 (dk_at dksX1_finder_4 4 rfl rfl)
theorem dX1_finder_103 : decode cX1_finder 103 = .ok (.invokevirtual 272, 3) := dk_182 1 16 (dk_at dksX1_finder_4 5 rfl rfl)
theorem dX1_finder_106 : decode cX1_finder 106 = .ok (.ireturn, 1) := dk_172 (dk_at dksX1_finder_4 8 rfl rfl)
abbrev cX1_requireFinder : ByteArray := prog_1_method_28_code
def yX1_requireFinder : MethodName := ⟨RX1, "requireFinder", "(I)V"⟩
def dkwX1_requireFinder_0 : List UInt8 := [27, 3, 42, 180, 0, 75, 180, 0, 178, 190, 4, 100, 184, 0, 103, 184, 0, 200, 177]
abbrev dktX1_requireFinder_0 : List UInt8 := dkwX1_requireFinder_0 ++ []
theorem dksX1_requireFinder_0 : cX1_requireFinder.data.toList.drop 0 = dktX1_requireFinder_0 := by decide +kernel
theorem dX1_requireFinder_0 : decode cX1_requireFinder 0 = .ok (.iload_n 1, 1) := dk_27 (dk_at dksX1_requireFinder_0 0 rfl rfl)
theorem dX1_requireFinder_1 : decode cX1_requireFinder 1 = .ok (.iconst 0, 1) := dk_3 (dk_at dksX1_requireFinder_0 1 rfl rfl)
theorem dX1_requireFinder_2 : decode cX1_requireFinder 2 = .ok (.aload_n 0, 1) := dk_42 (dk_at dksX1_requireFinder_0 2 rfl rfl)
theorem dX1_requireFinder_3 : decode cX1_requireFinder 3 = .ok (.getfield 75, 3) := dk_180 0 75 (dk_at dksX1_requireFinder_0 3 rfl rfl)
theorem dX1_requireFinder_6 : decode cX1_requireFinder 6 = .ok (.getfield 178, 3) := dk_180 0 178 (dk_at dksX1_requireFinder_0 6 rfl rfl)
theorem dX1_requireFinder_9 : decode cX1_requireFinder 9 = .ok (.arraylength, 1) := dk_190 (dk_at dksX1_requireFinder_0 9 rfl rfl)
theorem dX1_requireFinder_10 : decode cX1_requireFinder 10 = .ok (.iconst 1, 1) := dk_4 (dk_at dksX1_requireFinder_0 10 rfl rfl)
theorem dX1_requireFinder_11 : decode cX1_requireFinder 11 = .ok (.isub, 1) := dk_100 (dk_at dksX1_requireFinder_0 11 rfl rfl)
theorem dX1_requireFinder_12 : decode cX1_requireFinder 12 = .ok (.invokestatic 103, 3) := dk_184 0 103 (dk_at dksX1_requireFinder_0 12 rfl rfl)
theorem dX1_requireFinder_15 : decode cX1_requireFinder 15 = .ok (.invokestatic 200, 3) := dk_184 0 200 (dk_at dksX1_requireFinder_0 15 rfl rfl)
theorem dX1_requireFinder_18 : decode cX1_requireFinder 18 = .ok (.return_, 1) := dk_177 (dk_at dksX1_requireFinder_0 18 rfl rfl)
abbrev cX1_crewsWith : ByteArray := prog_1_method_31_code
def yX1_crewsWith : MethodName := ⟨RX1, "crewsWith", "(I)I"⟩
def dkwX1_crewsWith_2 : List UInt8 := [96, 61, 167, 255, 221, 28, 172]
abbrev dktX1_crewsWith_2 : List UInt8 := dkwX1_crewsWith_2 ++ []
def dkwX1_crewsWith_1 : List UInt8 := [45, 185, 0, 151, 1, 0, 192, 0, 43, 58, 4, 28, 25, 4, 180, 0, 242, 27, 184, 0, 249, 184, 0, 158]
abbrev dktX1_crewsWith_1 : List UInt8 := dkwX1_crewsWith_1 ++ dktX1_crewsWith_2
def dkwX1_crewsWith_0 : List UInt8 := [3, 61, 42, 180, 0, 75, 180, 0, 10, 185, 0, 141, 1, 0, 78, 45, 185, 0, 145, 1, 0, 153, 0, 32]
abbrev dktX1_crewsWith_0 : List UInt8 := dkwX1_crewsWith_0 ++ dktX1_crewsWith_1
theorem dksX1_crewsWith_0 : cX1_crewsWith.data.toList.drop 0 = dktX1_crewsWith_0 := by decide +kernel
theorem dksX1_crewsWith_1 : cX1_crewsWith.data.toList.drop 24 = dktX1_crewsWith_1 := dk_seg dksX1_crewsWith_0 24 rfl rfl
theorem dksX1_crewsWith_2 : cX1_crewsWith.data.toList.drop 48 = dktX1_crewsWith_2 := dk_seg dksX1_crewsWith_1 24 rfl rfl
theorem dX1_crewsWith_0 : decode cX1_crewsWith 0 = .ok (.iconst 0, 1) := dk_3 (dk_at dksX1_crewsWith_0 0 rfl rfl)
theorem dX1_crewsWith_1 : decode cX1_crewsWith 1 = .ok (.istore_n 2, 1) := dk_61 (dk_at dksX1_crewsWith_0 1 rfl rfl)
theorem dX1_crewsWith_2 : decode cX1_crewsWith 2 = .ok (.aload_n 0, 1) := dk_42 (dk_at dksX1_crewsWith_0 2 rfl rfl)
theorem dX1_crewsWith_3 : decode cX1_crewsWith 3 = .ok (.getfield 75, 3) := dk_180 0 75 (dk_at dksX1_crewsWith_0 3 rfl rfl)
theorem dX1_crewsWith_6 : decode cX1_crewsWith 6 = .ok (.getfield 10, 3) := dk_180 0 10 (dk_at dksX1_crewsWith_0 6 rfl rfl)
theorem dX1_crewsWith_9 : decode cX1_crewsWith 9 = .ok (.invokeinterface 141 1, 5) := by decide +kernel
theorem dX1_crewsWith_14 : decode cX1_crewsWith 14 = .ok (.astore_n 3, 1) := dk_78 (dk_at dksX1_crewsWith_0 14 rfl rfl)
theorem dX1_crewsWith_15 : decode cX1_crewsWith 15 = .ok (.aload_n 3, 1) := dk_45 (dk_at dksX1_crewsWith_0 15 rfl rfl)
theorem dX1_crewsWith_16 : decode cX1_crewsWith 16 = .ok (.invokeinterface 145 1, 5) := by decide +kernel
theorem dX1_crewsWith_21 : decode cX1_crewsWith 21 = .ok (.ifCond .eq 32, 3) := dk_153 0 32 (dk_at dksX1_crewsWith_0 21 rfl rfl)
theorem dX1_crewsWith_24 : decode cX1_crewsWith 24 = .ok (.aload_n 3, 1) := dk_45 (dk_at dksX1_crewsWith_1 0 rfl rfl)
theorem dX1_crewsWith_25 : decode cX1_crewsWith 25 = .ok (.invokeinterface 151 1, 5) := by decide +kernel
theorem dX1_crewsWith_30 : decode cX1_crewsWith 30 = .ok (.checkcast 43, 3) := dk_192 0 43 (dk_at dksX1_crewsWith_1 6 rfl rfl)
theorem dX1_crewsWith_33 : decode cX1_crewsWith 33 = .ok (.astore 4, 2) := dk_58 4 (dk_at dksX1_crewsWith_1 9 rfl rfl)
theorem dX1_crewsWith_35 : decode cX1_crewsWith 35 = .ok (.iload_n 2, 1) := dk_28 (dk_at dksX1_crewsWith_1 11 rfl rfl)
theorem dX1_crewsWith_36 : decode cX1_crewsWith 36 = .ok (.aload 4, 2) := dk_25 4 (dk_at dksX1_crewsWith_1 12 rfl rfl)
theorem dX1_crewsWith_38 : decode cX1_crewsWith 38 = .ok (.getfield 242, 3) := dk_180 0 242 (dk_at dksX1_crewsWith_1 14 rfl rfl)
theorem dX1_crewsWith_41 : decode cX1_crewsWith 41 = .ok (.iload_n 1, 1) := dk_27 (dk_at dksX1_crewsWith_1 17 rfl rfl)
theorem dX1_crewsWith_42 : decode cX1_crewsWith 42 = .ok (.invokestatic 249, 3) := dk_184 0 249 (dk_at dksX1_crewsWith_1 18 rfl rfl)
theorem dX1_crewsWith_45 : decode cX1_crewsWith 45 = .ok (.invokestatic 158, 3) := dk_184 0 158 (dk_at dksX1_crewsWith_1 21 rfl rfl)
theorem dX1_crewsWith_48 : decode cX1_crewsWith 48 = .ok (.iadd, 1) := dk_96 (dk_at dksX1_crewsWith_2 0 rfl rfl)
theorem dX1_crewsWith_49 : decode cX1_crewsWith 49 = .ok (.istore_n 2, 1) := dk_61 (dk_at dksX1_crewsWith_2 1 rfl rfl)
theorem dX1_crewsWith_50 : decode cX1_crewsWith 50 = .ok (.goto (-35), 3) := dk_167 255 221 (dk_at dksX1_crewsWith_2 2 rfl rfl)
theorem dX1_crewsWith_53 : decode cX1_crewsWith 53 = .ok (.iload_n 2, 1) := dk_28 (dk_at dksX1_crewsWith_2 5 rfl rfl)
theorem dX1_crewsWith_54 : decode cX1_crewsWith 54 = .ok (.ireturn, 1) := dk_172 (dk_at dksX1_crewsWith_2 6 rfl rfl)
abbrev cX1_has : ByteArray := prog_1_method_30_code
def yX1_has : MethodName := ⟨RX1, "has", "([II)Z"⟩
def dkwX1_has_1 : List UInt8 := [160, 0, 5, 4, 172, 132, 4, 1, 167, 255, 233, 3, 172]
abbrev dktX1_has_1 : List UInt8 := dkwX1_has_1 ++ []
def dkwX1_has_0 : List UInt8 := [42, 77, 44, 190, 62, 3, 54, 4, 21, 4, 29, 162, 0, 23, 44, 21, 4, 46, 54, 5, 21, 5, 27]
abbrev dktX1_has_0 : List UInt8 := dkwX1_has_0 ++ dktX1_has_1
theorem dksX1_has_0 : cX1_has.data.toList.drop 0 = dktX1_has_0 := by decide +kernel
theorem dksX1_has_1 : cX1_has.data.toList.drop 23 = dktX1_has_1 := dk_seg dksX1_has_0 23 rfl rfl
theorem dX1_has_0 : decode cX1_has 0 = .ok (.aload_n 0, 1) := dk_42 (dk_at dksX1_has_0 0 rfl rfl)
theorem dX1_has_1 : decode cX1_has 1 = .ok (.astore_n 2, 1) := dk_77 (dk_at dksX1_has_0 1 rfl rfl)
theorem dX1_has_2 : decode cX1_has 2 = .ok (.aload_n 2, 1) := dk_44 (dk_at dksX1_has_0 2 rfl rfl)
theorem dX1_has_3 : decode cX1_has 3 = .ok (.arraylength, 1) := dk_190 (dk_at dksX1_has_0 3 rfl rfl)
theorem dX1_has_4 : decode cX1_has 4 = .ok (.istore_n 3, 1) := dk_62 (dk_at dksX1_has_0 4 rfl rfl)
theorem dX1_has_5 : decode cX1_has 5 = .ok (.iconst 0, 1) := dk_3 (dk_at dksX1_has_0 5 rfl rfl)
theorem dX1_has_6 : decode cX1_has 6 = .ok (.istore 4, 2) := dk_54 4 (dk_at dksX1_has_0 6 rfl rfl)
theorem dX1_has_8 : decode cX1_has 8 = .ok (.iload 4, 2) := dk_21 4 (dk_at dksX1_has_0 8 rfl rfl)
theorem dX1_has_10 : decode cX1_has 10 = .ok (.iload_n 3, 1) := dk_29 (dk_at dksX1_has_0 10 rfl rfl)
theorem dX1_has_11 : decode cX1_has 11 = .ok (.if_icmp .ge 23, 3) := dk_162 0 23 (dk_at dksX1_has_0 11 rfl rfl)
theorem dX1_has_14 : decode cX1_has 14 = .ok (.aload_n 2, 1) := dk_44 (dk_at dksX1_has_0 14 rfl rfl)
theorem dX1_has_15 : decode cX1_has 15 = .ok (.iload 4, 2) := dk_21 4 (dk_at dksX1_has_0 15 rfl rfl)
theorem dX1_has_17 : decode cX1_has 17 = .ok (.iaload, 1) := dk_46 (dk_at dksX1_has_0 17 rfl rfl)
theorem dX1_has_18 : decode cX1_has 18 = .ok (.istore 5, 2) := dk_54 5 (dk_at dksX1_has_0 18 rfl rfl)
theorem dX1_has_20 : decode cX1_has 20 = .ok (.iload 5, 2) := dk_21 5 (dk_at dksX1_has_0 20 rfl rfl)
theorem dX1_has_22 : decode cX1_has 22 = .ok (.iload_n 1, 1) := dk_27 (dk_at dksX1_has_0 22 rfl rfl)
theorem dX1_has_23 : decode cX1_has 23 = .ok (.if_icmp .ne 5, 3) := dk_160 0 5 (dk_at dksX1_has_1 0 rfl rfl)
theorem dX1_has_26 : decode cX1_has 26 = .ok (.iconst 1, 1) := dk_4 (dk_at dksX1_has_1 3 rfl rfl)
theorem dX1_has_27 : decode cX1_has 27 = .ok (.ireturn, 1) := dk_172 (dk_at dksX1_has_1 4 rfl rfl)
theorem dX1_has_28 : decode cX1_has 28 = .ok (.iinc 4 1, 3) := dk_132 4 1 (dk_at dksX1_has_1 5 rfl rfl)
theorem dX1_has_31 : decode cX1_has 31 = .ok (.goto (-23), 3) := dk_167 255 233 (dk_at dksX1_has_1 8 rfl rfl)
theorem dX1_has_34 : decode cX1_has 34 = .ok (.iconst 0, 1) := dk_3 (dk_at dksX1_has_1 11 rfl rfl)
theorem dX1_has_35 : decode cX1_has 35 = .ok (.ireturn, 1) := dk_172 (dk_at dksX1_has_1 12 rfl rfl)
abbrev cX1_owner : ByteArray := prog_1_method_33_code
def yX1_owner : MethodName := ⟨RX1, "owner", "(I)I"⟩
def dkwX1_owner_0 : List UInt8 := [27, 4, 8, 184, 0, 103, 184, 0, 107, 42, 180, 0, 75, 180, 1, 19, 27, 46, 172]
abbrev dktX1_owner_0 : List UInt8 := dkwX1_owner_0 ++ []
theorem dksX1_owner_0 : cX1_owner.data.toList.drop 0 = dktX1_owner_0 := by decide +kernel
theorem dX1_owner_0 : decode cX1_owner 0 = .ok (.iload_n 1, 1) := dk_27 (dk_at dksX1_owner_0 0 rfl rfl)
theorem dX1_owner_1 : decode cX1_owner 1 = .ok (.iconst 1, 1) := dk_4 (dk_at dksX1_owner_0 1 rfl rfl)
theorem dX1_owner_2 : decode cX1_owner 2 = .ok (.iconst 5, 1) := dk_8 (dk_at dksX1_owner_0 2 rfl rfl)
theorem dX1_owner_3 : decode cX1_owner 3 = .ok (.invokestatic 103, 3) := dk_184 0 103 (dk_at dksX1_owner_0 3 rfl rfl)
theorem dX1_owner_6 : decode cX1_owner 6 = .ok (.invokestatic 107, 3) := dk_184 0 107 (dk_at dksX1_owner_0 6 rfl rfl)
theorem dX1_owner_9 : decode cX1_owner 9 = .ok (.aload_n 0, 1) := dk_42 (dk_at dksX1_owner_0 9 rfl rfl)
theorem dX1_owner_10 : decode cX1_owner 10 = .ok (.getfield 75, 3) := dk_180 0 75 (dk_at dksX1_owner_0 10 rfl rfl)
theorem dX1_owner_13 : decode cX1_owner 13 = .ok (.getfield 275, 3) := dk_180 1 19 (dk_at dksX1_owner_0 13 rfl rfl)
theorem dX1_owner_16 : decode cX1_owner 16 = .ok (.iload_n 1, 1) := dk_27 (dk_at dksX1_owner_0 16 rfl rfl)
theorem dX1_owner_17 : decode cX1_owner 17 = .ok (.iaload, 1) := dk_46 (dk_at dksX1_owner_0 17 rfl rfl)
theorem dX1_owner_18 : decode cX1_owner 18 = .ok (.ireturn, 1) := dk_172 (dk_at dksX1_owner_0 18 rfl rfl)
abbrev cX1_hand : ByteArray := prog_1_method_34_code
def yX1_hand : MethodName := ⟨RX1, "hand", "(IIZ)I"⟩
def dkwX1_hand_3 : List UInt8 := [182, 1, 26, 167, 0, 4, 2, 172]
abbrev dktX1_hand_3 : List UInt8 := dkwX1_hand_3 ++ []
def dkwX1_hand_2 : List UInt8 := [182, 0, 239, 4, 100, 184, 0, 103, 153, 0, 21, 25, 4, 180, 0, 235, 28, 182, 1, 22, 192, 1, 7]
abbrev dktX1_hand_2 : List UInt8 := dkwX1_hand_2 ++ dktX1_hand_3
def dkwX1_hand_1 : List UInt8 := [153, 0, 13, 25, 4, 180, 0, 242, 28, 46, 167, 0, 4, 2, 172, 28, 3, 25, 4, 180, 0, 235]
abbrev dktX1_hand_1 : List UInt8 := dkwX1_hand_1 ++ dktX1_hand_2
def dkwX1_hand_0 : List UInt8 := [42, 27, 182, 0, 207, 58, 4, 29, 153, 0, 31, 28, 3, 25, 4, 180, 0, 242, 190, 4, 100, 184, 0, 103]
abbrev dktX1_hand_0 : List UInt8 := dkwX1_hand_0 ++ dktX1_hand_1
theorem dksX1_hand_0 : cX1_hand.data.toList.drop 0 = dktX1_hand_0 := by decide +kernel
theorem dksX1_hand_1 : cX1_hand.data.toList.drop 24 = dktX1_hand_1 := dk_seg dksX1_hand_0 24 rfl rfl
theorem dksX1_hand_2 : cX1_hand.data.toList.drop 46 = dktX1_hand_2 := dk_seg dksX1_hand_1 22 rfl rfl
theorem dksX1_hand_3 : cX1_hand.data.toList.drop 69 = dktX1_hand_3 := dk_seg dksX1_hand_2 23 rfl rfl
theorem dX1_hand_0 : decode cX1_hand 0 = .ok (.aload_n 0, 1) := dk_42 (dk_at dksX1_hand_0 0 rfl rfl)
theorem dX1_hand_1 : decode cX1_hand 1 = .ok (.iload_n 1, 1) := dk_27 (dk_at dksX1_hand_0 1 rfl rfl)
theorem dX1_hand_2 : decode cX1_hand 2 = .ok (.invokevirtual 207, 3) := dk_182 0 207 (dk_at dksX1_hand_0 2 rfl rfl)
theorem dX1_hand_5 : decode cX1_hand 5 = .ok (.astore 4, 2) := dk_58 4 (dk_at dksX1_hand_0 5 rfl rfl)
theorem dX1_hand_7 : decode cX1_hand 7 = .ok (.iload_n 3, 1) := dk_29 (dk_at dksX1_hand_0 7 rfl rfl)
theorem dX1_hand_8 : decode cX1_hand 8 = .ok (.ifCond .eq 31, 3) := dk_153 0 31 (dk_at dksX1_hand_0 8 rfl rfl)
theorem dX1_hand_11 : decode cX1_hand 11 = .ok (.iload_n 2, 1) := dk_28 (dk_at dksX1_hand_0 11 rfl rfl)
theorem dX1_hand_12 : decode cX1_hand 12 = .ok (.iconst 0, 1) := dk_3 (dk_at dksX1_hand_0 12 rfl rfl)
theorem dX1_hand_13 : decode cX1_hand 13 = .ok (.aload 4, 2) := dk_25 4 (dk_at dksX1_hand_0 13 rfl rfl)
theorem dX1_hand_15 : decode cX1_hand 15 = .ok (.getfield 242, 3) := dk_180 0 242 (dk_at dksX1_hand_0 15 rfl rfl)
theorem dX1_hand_18 : decode cX1_hand 18 = .ok (.arraylength, 1) := dk_190 (dk_at dksX1_hand_0 18 rfl rfl)
theorem dX1_hand_19 : decode cX1_hand 19 = .ok (.iconst 1, 1) := dk_4 (dk_at dksX1_hand_0 19 rfl rfl)
theorem dX1_hand_20 : decode cX1_hand 20 = .ok (.isub, 1) := dk_100 (dk_at dksX1_hand_0 20 rfl rfl)
theorem dX1_hand_21 : decode cX1_hand 21 = .ok (.invokestatic 103, 3) := dk_184 0 103 (dk_at dksX1_hand_0 21 rfl rfl)
theorem dX1_hand_24 : decode cX1_hand 24 = .ok (.ifCond .eq 13, 3) := dk_153 0 13 (dk_at dksX1_hand_1 0 rfl rfl)
theorem dX1_hand_27 : decode cX1_hand 27 = .ok (.aload 4, 2) := dk_25 4 (dk_at dksX1_hand_1 3 rfl rfl)
theorem dX1_hand_29 : decode cX1_hand 29 = .ok (.getfield 242, 3) := dk_180 0 242 (dk_at dksX1_hand_1 5 rfl rfl)
theorem dX1_hand_32 : decode cX1_hand 32 = .ok (.iload_n 2, 1) := dk_28 (dk_at dksX1_hand_1 8 rfl rfl)
theorem dX1_hand_33 : decode cX1_hand 33 = .ok (.iaload, 1) := dk_46 (dk_at dksX1_hand_1 9 rfl rfl)
theorem dX1_hand_34 : decode cX1_hand 34 = .ok (.goto 4, 3) := dk_167 0 4 (dk_at dksX1_hand_1 10 rfl rfl)
theorem dX1_hand_37 : decode cX1_hand 37 = .ok (.iconst (-1), 1) := dk_2 (dk_at dksX1_hand_1 13 rfl rfl)
theorem dX1_hand_38 : decode cX1_hand 38 = .ok (.ireturn, 1) := dk_172 (dk_at dksX1_hand_1 14 rfl rfl)
theorem dX1_hand_39 : decode cX1_hand 39 = .ok (.iload_n 2, 1) := dk_28 (dk_at dksX1_hand_1 15 rfl rfl)
theorem dX1_hand_40 : decode cX1_hand 40 = .ok (.iconst 0, 1) := dk_3 (dk_at dksX1_hand_1 16 rfl rfl)
theorem dX1_hand_41 : decode cX1_hand 41 = .ok (.aload 4, 2) := dk_25 4 (dk_at dksX1_hand_1 17 rfl rfl)
theorem dX1_hand_43 : decode cX1_hand 43 = .ok (.getfield 235, 3) := dk_180 0 235 (dk_at dksX1_hand_1 19 rfl rfl)
theorem dX1_hand_46 : decode cX1_hand 46 = .ok (.invokevirtual 239, 3) := dk_182 0 239 (dk_at dksX1_hand_2 0 rfl rfl)
theorem dX1_hand_49 : decode cX1_hand 49 = .ok (.iconst 1, 1) := dk_4 (dk_at dksX1_hand_2 3 rfl rfl)
theorem dX1_hand_50 : decode cX1_hand 50 = .ok (.isub, 1) := dk_100 (dk_at dksX1_hand_2 4 rfl rfl)
theorem dX1_hand_51 : decode cX1_hand 51 = .ok (.invokestatic 103, 3) := dk_184 0 103 (dk_at dksX1_hand_2 5 rfl rfl)
theorem dX1_hand_54 : decode cX1_hand 54 = .ok (.ifCond .eq 21, 3) := dk_153 0 21 (dk_at dksX1_hand_2 8 rfl rfl)
theorem dX1_hand_57 : decode cX1_hand 57 = .ok (.aload 4, 2) := dk_25 4 (dk_at dksX1_hand_2 11 rfl rfl)
theorem dX1_hand_59 : decode cX1_hand 59 = .ok (.getfield 235, 3) := dk_180 0 235 (dk_at dksX1_hand_2 13 rfl rfl)
theorem dX1_hand_62 : decode cX1_hand 62 = .ok (.iload_n 2, 1) := dk_28 (dk_at dksX1_hand_2 16 rfl rfl)
theorem dX1_hand_63 : decode cX1_hand 63 = .ok (.invokevirtual 278, 3) := dk_182 1 22 (dk_at dksX1_hand_2 17 rfl rfl)
theorem dX1_hand_66 : decode cX1_hand 66 = .ok (.checkcast 263, 3) := dk_192 1 7 (dk_at dksX1_hand_2 20 rfl rfl)
theorem dX1_hand_69 : decode cX1_hand 69 = .ok (.invokevirtual 282, 3) := dk_182 1 26 (dk_at dksX1_hand_3 0 rfl rfl)
theorem dX1_hand_72 : decode cX1_hand 72 = .ok (.goto 4, 3) := dk_167 0 4 (dk_at dksX1_hand_3 3 rfl rfl)
theorem dX1_hand_75 : decode cX1_hand 75 = .ok (.iconst (-1), 1) := dk_2 (dk_at dksX1_hand_3 6 rfl rfl)
theorem dX1_hand_76 : decode cX1_hand 76 = .ok (.ireturn, 1) := dk_172 (dk_at dksX1_hand_3 7 rfl rfl)
abbrev cX1_count : ByteArray := prog_1_method_35_code
def yX1_count : MethodName := ⟨RX1, "count", "(II)I"⟩
def dkwX1_count_4 : List UInt8 := [167, 0, 4, 3, 184, 0, 158, 96, 62, 167, 255, 202, 29, 172]
abbrev dktX1_count_4 : List UInt8 := dkwX1_count_4 ++ []
def dkwX1_count_3 : List UInt8 := [25, 5, 180, 0, 210, 27, 184, 0, 45, 166, 0, 16, 25, 5, 180, 0, 155, 28, 160, 0, 7, 4]
abbrev dktX1_count_3 : List UInt8 := dkwX1_count_3 ++ dktX1_count_4
def dkwX1_count_2 : List UInt8 := [25, 4, 185, 0, 145, 1, 0, 153, 0, 50, 25, 4, 185, 0, 151, 1, 0, 192, 0, 43, 58, 5, 29]
abbrev dktX1_count_2 : List UInt8 := dkwX1_count_2 ++ dktX1_count_3
def dkwX1_count_1 : List UInt8 := [167, 0, 4, 3, 184, 0, 107, 3, 62, 42, 180, 0, 75, 180, 0, 10, 185, 0, 141, 1, 0, 58, 4]
abbrev dktX1_count_1 : List UInt8 := dkwX1_count_1 ++ dktX1_count_2
def dkwX1_count_0 : List UInt8 := [27, 3, 184, 1, 29, 190, 4, 100, 184, 0, 103, 153, 0, 16, 28, 3, 6, 184, 0, 103, 153, 0, 7, 4]
abbrev dktX1_count_0 : List UInt8 := dkwX1_count_0 ++ dktX1_count_1
theorem dksX1_count_0 : cX1_count.data.toList.drop 0 = dktX1_count_0 := by decide +kernel
theorem dksX1_count_1 : cX1_count.data.toList.drop 24 = dktX1_count_1 := dk_seg dksX1_count_0 24 rfl rfl
theorem dksX1_count_2 : cX1_count.data.toList.drop 47 = dktX1_count_2 := dk_seg dksX1_count_1 23 rfl rfl
theorem dksX1_count_3 : cX1_count.data.toList.drop 70 = dktX1_count_3 := dk_seg dksX1_count_2 23 rfl rfl
theorem dksX1_count_4 : cX1_count.data.toList.drop 92 = dktX1_count_4 := dk_seg dksX1_count_3 22 rfl rfl
theorem dX1_count_0 : decode cX1_count 0 = .ok (.iload_n 1, 1) := dk_27 (dk_at dksX1_count_0 0 rfl rfl)
theorem dX1_count_1 : decode cX1_count 1 = .ok (.iconst 0, 1) := dk_3 (dk_at dksX1_count_0 1 rfl rfl)
theorem dX1_count_2 : decode cX1_count 2 = .ok (.invokestatic 285, 3) := dk_184 1 29 (dk_at dksX1_count_0 2 rfl rfl)
theorem dX1_count_5 : decode cX1_count 5 = .ok (.arraylength, 1) := dk_190 (dk_at dksX1_count_0 5 rfl rfl)
theorem dX1_count_6 : decode cX1_count 6 = .ok (.iconst 1, 1) := dk_4 (dk_at dksX1_count_0 6 rfl rfl)
theorem dX1_count_7 : decode cX1_count 7 = .ok (.isub, 1) := dk_100 (dk_at dksX1_count_0 7 rfl rfl)
theorem dX1_count_8 : decode cX1_count 8 = .ok (.invokestatic 103, 3) := dk_184 0 103 (dk_at dksX1_count_0 8 rfl rfl)
theorem dX1_count_11 : decode cX1_count 11 = .ok (.ifCond .eq 16, 3) := dk_153 0 16 (dk_at dksX1_count_0 11 rfl rfl)
theorem dX1_count_14 : decode cX1_count 14 = .ok (.iload_n 2, 1) := dk_28 (dk_at dksX1_count_0 14 rfl rfl)
theorem dX1_count_15 : decode cX1_count 15 = .ok (.iconst 0, 1) := dk_3 (dk_at dksX1_count_0 15 rfl rfl)
theorem dX1_count_16 : decode cX1_count 16 = .ok (.iconst 3, 1) := dk_6 (dk_at dksX1_count_0 16 rfl rfl)
theorem dX1_count_17 : decode cX1_count 17 = .ok (.invokestatic 103, 3) := dk_184 0 103 (dk_at dksX1_count_0 17 rfl rfl)
theorem dX1_count_20 : decode cX1_count 20 = .ok (.ifCond .eq 7, 3) := dk_153 0 7 (dk_at dksX1_count_0 20 rfl rfl)
theorem dX1_count_23 : decode cX1_count 23 = .ok (.iconst 1, 1) := dk_4 (dk_at dksX1_count_0 23 rfl rfl)
theorem dX1_count_24 : decode cX1_count 24 = .ok (.goto 4, 3) := dk_167 0 4 (dk_at dksX1_count_1 0 rfl rfl)
theorem dX1_count_27 : decode cX1_count 27 = .ok (.iconst 0, 1) := dk_3 (dk_at dksX1_count_1 3 rfl rfl)
theorem dX1_count_28 : decode cX1_count 28 = .ok (.invokestatic 107, 3) := dk_184 0 107 (dk_at dksX1_count_1 4 rfl rfl)
theorem dX1_count_31 : decode cX1_count 31 = .ok (.iconst 0, 1) := dk_3 (dk_at dksX1_count_1 7 rfl rfl)
theorem dX1_count_32 : decode cX1_count 32 = .ok (.istore_n 3, 1) := dk_62 (dk_at dksX1_count_1 8 rfl rfl)
theorem dX1_count_33 : decode cX1_count 33 = .ok (.aload_n 0, 1) := dk_42 (dk_at dksX1_count_1 9 rfl rfl)
theorem dX1_count_34 : decode cX1_count 34 = .ok (.getfield 75, 3) := dk_180 0 75 (dk_at dksX1_count_1 10 rfl rfl)
theorem dX1_count_37 : decode cX1_count 37 = .ok (.getfield 10, 3) := dk_180 0 10 (dk_at dksX1_count_1 13 rfl rfl)
theorem dX1_count_40 : decode cX1_count 40 = .ok (.invokeinterface 141 1, 5) := by decide +kernel
theorem dX1_count_45 : decode cX1_count 45 = .ok (.astore 4, 2) := dk_58 4 (dk_at dksX1_count_1 21 rfl rfl)
theorem dX1_count_47 : decode cX1_count 47 = .ok (.aload 4, 2) := dk_25 4 (dk_at dksX1_count_2 0 rfl rfl)
theorem dX1_count_49 : decode cX1_count 49 = .ok (.invokeinterface 145 1, 5) := by decide +kernel
theorem dX1_count_54 : decode cX1_count 54 = .ok (.ifCond .eq 50, 3) := dk_153 0 50 (dk_at dksX1_count_2 7 rfl rfl)
theorem dX1_count_57 : decode cX1_count 57 = .ok (.aload 4, 2) := dk_25 4 (dk_at dksX1_count_2 10 rfl rfl)
theorem dX1_count_59 : decode cX1_count 59 = .ok (.invokeinterface 151 1, 5) := by decide +kernel
theorem dX1_count_64 : decode cX1_count 64 = .ok (.checkcast 43, 3) := dk_192 0 43 (dk_at dksX1_count_2 17 rfl rfl)
theorem dX1_count_67 : decode cX1_count 67 = .ok (.astore 5, 2) := dk_58 5 (dk_at dksX1_count_2 20 rfl rfl)
theorem dX1_count_69 : decode cX1_count 69 = .ok (.iload_n 3, 1) := dk_29 (dk_at dksX1_count_2 22 rfl rfl)
theorem dX1_count_70 : decode cX1_count 70 = .ok (.aload 5, 2) := dk_25 5 (dk_at dksX1_count_3 0 rfl rfl)
theorem dX1_count_72 : decode cX1_count 72 = .ok (.getfield 210, 3) := dk_180 0 210 (dk_at dksX1_count_3 2 rfl rfl)
theorem dX1_count_75 : decode cX1_count 75 = .ok (.iload_n 1, 1) := dk_27 (dk_at dksX1_count_3 5 rfl rfl)
theorem dX1_count_76 : decode cX1_count 76 = .ok (.invokestatic 45, 3) := dk_184 0 45 (dk_at dksX1_count_3 6 rfl rfl)
theorem dX1_count_79 : decode cX1_count 79 = .ok (.if_acmp .ne 16, 3) := dk_166 0 16 (dk_at dksX1_count_3 9 rfl rfl)
theorem dX1_count_82 : decode cX1_count 82 = .ok (.aload 5, 2) := dk_25 5 (dk_at dksX1_count_3 12 rfl rfl)
theorem dX1_count_84 : decode cX1_count 84 = .ok (.getfield 155, 3) := dk_180 0 155 (dk_at dksX1_count_3 14 rfl rfl)
theorem dX1_count_87 : decode cX1_count 87 = .ok (.iload_n 2, 1) := dk_28 (dk_at dksX1_count_3 17 rfl rfl)
theorem dX1_count_88 : decode cX1_count 88 = .ok (.if_icmp .ne 7, 3) := dk_160 0 7 (dk_at dksX1_count_3 18 rfl rfl)
theorem dX1_count_91 : decode cX1_count 91 = .ok (.iconst 1, 1) := dk_4 (dk_at dksX1_count_3 21 rfl rfl)
theorem dX1_count_92 : decode cX1_count 92 = .ok (.goto 4, 3) := dk_167 0 4 (dk_at dksX1_count_4 0 rfl rfl)
theorem dX1_count_95 : decode cX1_count 95 = .ok (.iconst 0, 1) := dk_3 (dk_at dksX1_count_4 3 rfl rfl)
theorem dX1_count_96 : decode cX1_count 96 = .ok (.invokestatic 158, 3) := dk_184 0 158 (dk_at dksX1_count_4 4 rfl rfl)
theorem dX1_count_99 : decode cX1_count 99 = .ok (.iadd, 1) := dk_96 (dk_at dksX1_count_4 7 rfl rfl)
theorem dX1_count_100 : decode cX1_count 100 = .ok (.istore_n 3, 1) := dk_62 (dk_at dksX1_count_4 8 rfl rfl)
theorem dX1_count_101 : decode cX1_count 101 = .ok (.goto (-54), 3) := dk_167 255 202 (dk_at dksX1_count_4 9 rfl rfl)
theorem dX1_count_104 : decode cX1_count 104 = .ok (.iload_n 3, 1) := dk_29 (dk_at dksX1_count_4 12 rfl rfl)
theorem dX1_count_105 : decode cX1_count 105 = .ok (.ireturn, 1) := dk_172 (dk_at dksX1_count_4 13 rfl rfl)
abbrev cX1_marked : ByteArray := prog_1_method_36_code
def yX1_marked : MethodName := ⟨RX1, "marked", "(II)I"⟩
def dkwX1_marked_4 : List UInt8 := [3, 96, 62, 167, 255, 204, 29, 172]
abbrev dktX1_marked_4 : List UInt8 := dkwX1_marked_4 ++ []
def dkwX1_marked_3 : List UInt8 := [180, 0, 220, 27, 160, 0, 20, 25, 5, 180, 0, 155, 28, 160, 0, 11, 25, 5, 180, 0, 217, 167, 0, 4]
abbrev dktX1_marked_3 : List UInt8 := dkwX1_marked_3 ++ dktX1_marked_4
def dkwX1_marked_2 : List UInt8 := [185, 0, 145, 1, 0, 153, 0, 48, 25, 4, 185, 0, 151, 1, 0, 192, 0, 43, 58, 5, 29, 25, 5]
abbrev dktX1_marked_2 : List UInt8 := dkwX1_marked_2 ++ dktX1_marked_3
def dkwX1_marked_1 : List UInt8 := [184, 0, 107, 3, 62, 42, 180, 0, 75, 180, 0, 10, 185, 0, 141, 1, 0, 58, 4, 25, 4]
abbrev dktX1_marked_1 : List UInt8 := dkwX1_marked_1 ++ dktX1_marked_2
def dkwX1_marked_0 : List UInt8 := [27, 4, 8, 184, 0, 103, 153, 0, 16, 28, 3, 6, 184, 0, 103, 153, 0, 7, 4, 167, 0, 4, 3]
abbrev dktX1_marked_0 : List UInt8 := dkwX1_marked_0 ++ dktX1_marked_1
theorem dksX1_marked_0 : cX1_marked.data.toList.drop 0 = dktX1_marked_0 := by decide +kernel
theorem dksX1_marked_1 : cX1_marked.data.toList.drop 23 = dktX1_marked_1 := dk_seg dksX1_marked_0 23 rfl rfl
theorem dksX1_marked_2 : cX1_marked.data.toList.drop 44 = dktX1_marked_2 := dk_seg dksX1_marked_1 21 rfl rfl
theorem dksX1_marked_3 : cX1_marked.data.toList.drop 67 = dktX1_marked_3 := dk_seg dksX1_marked_2 23 rfl rfl
theorem dksX1_marked_4 : cX1_marked.data.toList.drop 91 = dktX1_marked_4 := dk_seg dksX1_marked_3 24 rfl rfl
theorem dX1_marked_0 : decode cX1_marked 0 = .ok (.iload_n 1, 1) := dk_27 (dk_at dksX1_marked_0 0 rfl rfl)
theorem dX1_marked_1 : decode cX1_marked 1 = .ok (.iconst 1, 1) := dk_4 (dk_at dksX1_marked_0 1 rfl rfl)
theorem dX1_marked_2 : decode cX1_marked 2 = .ok (.iconst 5, 1) := dk_8 (dk_at dksX1_marked_0 2 rfl rfl)
theorem dX1_marked_3 : decode cX1_marked 3 = .ok (.invokestatic 103, 3) := dk_184 0 103 (dk_at dksX1_marked_0 3 rfl rfl)
theorem dX1_marked_6 : decode cX1_marked 6 = .ok (.ifCond .eq 16, 3) := dk_153 0 16 (dk_at dksX1_marked_0 6 rfl rfl)
theorem dX1_marked_9 : decode cX1_marked 9 = .ok (.iload_n 2, 1) := dk_28 (dk_at dksX1_marked_0 9 rfl rfl)
theorem dX1_marked_10 : decode cX1_marked 10 = .ok (.iconst 0, 1) := dk_3 (dk_at dksX1_marked_0 10 rfl rfl)
theorem dX1_marked_11 : decode cX1_marked 11 = .ok (.iconst 3, 1) := dk_6 (dk_at dksX1_marked_0 11 rfl rfl)
theorem dX1_marked_12 : decode cX1_marked 12 = .ok (.invokestatic 103, 3) := dk_184 0 103 (dk_at dksX1_marked_0 12 rfl rfl)
theorem dX1_marked_15 : decode cX1_marked 15 = .ok (.ifCond .eq 7, 3) := dk_153 0 7 (dk_at dksX1_marked_0 15 rfl rfl)
theorem dX1_marked_18 : decode cX1_marked 18 = .ok (.iconst 1, 1) := dk_4 (dk_at dksX1_marked_0 18 rfl rfl)
theorem dX1_marked_19 : decode cX1_marked 19 = .ok (.goto 4, 3) := dk_167 0 4 (dk_at dksX1_marked_0 19 rfl rfl)
theorem dX1_marked_22 : decode cX1_marked 22 = .ok (.iconst 0, 1) := dk_3 (dk_at dksX1_marked_0 22 rfl rfl)
theorem dX1_marked_23 : decode cX1_marked 23 = .ok (.invokestatic 107, 3) := dk_184 0 107 (dk_at dksX1_marked_1 0 rfl rfl)
theorem dX1_marked_26 : decode cX1_marked 26 = .ok (.iconst 0, 1) := dk_3 (dk_at dksX1_marked_1 3 rfl rfl)
theorem dX1_marked_27 : decode cX1_marked 27 = .ok (.istore_n 3, 1) := dk_62 (dk_at dksX1_marked_1 4 rfl rfl)
theorem dX1_marked_28 : decode cX1_marked 28 = .ok (.aload_n 0, 1) := dk_42 (dk_at dksX1_marked_1 5 rfl rfl)
theorem dX1_marked_29 : decode cX1_marked 29 = .ok (.getfield 75, 3) := dk_180 0 75 (dk_at dksX1_marked_1 6 rfl rfl)
theorem dX1_marked_32 : decode cX1_marked 32 = .ok (.getfield 10, 3) := dk_180 0 10 (dk_at dksX1_marked_1 9 rfl rfl)
theorem dX1_marked_35 : decode cX1_marked 35 = .ok (.invokeinterface 141 1, 5) := by decide +kernel
theorem dX1_marked_40 : decode cX1_marked 40 = .ok (.astore 4, 2) := dk_58 4 (dk_at dksX1_marked_1 17 rfl rfl)
theorem dX1_marked_42 : decode cX1_marked 42 = .ok (.aload 4, 2) := dk_25 4 (dk_at dksX1_marked_1 19 rfl rfl)
theorem dX1_marked_44 : decode cX1_marked 44 = .ok (.invokeinterface 145 1, 5) := by decide +kernel
theorem dX1_marked_49 : decode cX1_marked 49 = .ok (.ifCond .eq 48, 3) := dk_153 0 48 (dk_at dksX1_marked_2 5 rfl rfl)
theorem dX1_marked_52 : decode cX1_marked 52 = .ok (.aload 4, 2) := dk_25 4 (dk_at dksX1_marked_2 8 rfl rfl)
theorem dX1_marked_54 : decode cX1_marked 54 = .ok (.invokeinterface 151 1, 5) := by decide +kernel
theorem dX1_marked_59 : decode cX1_marked 59 = .ok (.checkcast 43, 3) := dk_192 0 43 (dk_at dksX1_marked_2 15 rfl rfl)
theorem dX1_marked_62 : decode cX1_marked 62 = .ok (.astore 5, 2) := dk_58 5 (dk_at dksX1_marked_2 18 rfl rfl)
theorem dX1_marked_64 : decode cX1_marked 64 = .ok (.iload_n 3, 1) := dk_29 (dk_at dksX1_marked_2 20 rfl rfl)
theorem dX1_marked_65 : decode cX1_marked 65 = .ok (.aload 5, 2) := dk_25 5 (dk_at dksX1_marked_2 21 rfl rfl)
theorem dX1_marked_67 : decode cX1_marked 67 = .ok (.getfield 220, 3) := dk_180 0 220 (dk_at dksX1_marked_3 0 rfl rfl)
theorem dX1_marked_70 : decode cX1_marked 70 = .ok (.iload_n 1, 1) := dk_27 (dk_at dksX1_marked_3 3 rfl rfl)
theorem dX1_marked_71 : decode cX1_marked 71 = .ok (.if_icmp .ne 20, 3) := dk_160 0 20 (dk_at dksX1_marked_3 4 rfl rfl)
theorem dX1_marked_74 : decode cX1_marked 74 = .ok (.aload 5, 2) := dk_25 5 (dk_at dksX1_marked_3 7 rfl rfl)
theorem dX1_marked_76 : decode cX1_marked 76 = .ok (.getfield 155, 3) := dk_180 0 155 (dk_at dksX1_marked_3 9 rfl rfl)
theorem dX1_marked_79 : decode cX1_marked 79 = .ok (.iload_n 2, 1) := dk_28 (dk_at dksX1_marked_3 12 rfl rfl)
theorem dX1_marked_80 : decode cX1_marked 80 = .ok (.if_icmp .ne 11, 3) := dk_160 0 11 (dk_at dksX1_marked_3 13 rfl rfl)
theorem dX1_marked_83 : decode cX1_marked 83 = .ok (.aload 5, 2) := dk_25 5 (dk_at dksX1_marked_3 16 rfl rfl)
theorem dX1_marked_85 : decode cX1_marked 85 = .ok (.getfield 217, 3) := dk_180 0 217 (dk_at dksX1_marked_3 18 rfl rfl)
theorem dX1_marked_88 : decode cX1_marked 88 = .ok (.goto 4, 3) := dk_167 0 4 (dk_at dksX1_marked_3 21 rfl rfl)
theorem dX1_marked_91 : decode cX1_marked 91 = .ok (.iconst 0, 1) := dk_3 (dk_at dksX1_marked_4 0 rfl rfl)
theorem dX1_marked_92 : decode cX1_marked 92 = .ok (.iadd, 1) := dk_96 (dk_at dksX1_marked_4 1 rfl rfl)
theorem dX1_marked_93 : decode cX1_marked 93 = .ok (.istore_n 3, 1) := dk_62 (dk_at dksX1_marked_4 2 rfl rfl)
theorem dX1_marked_94 : decode cX1_marked 94 = .ok (.goto (-52), 3) := dk_167 255 204 (dk_at dksX1_marked_4 3 rfl rfl)
theorem dX1_marked_97 : decode cX1_marked 97 = .ok (.iload_n 3, 1) := dk_29 (dk_at dksX1_marked_4 6 rfl rfl)
theorem dX1_marked_98 : decode cX1_marked 98 = .ok (.ireturn, 1) := dk_172 (dk_at dksX1_marked_4 7 rfl rfl)
abbrev cX1_earned : ByteArray := prog_1_method_39_code
def yX1_earned : MethodName := ⟨RX1, "earned", "(I)I"⟩
def dkwX1_earned_2 : List UInt8 := [180, 0, 155, 5, 160, 0, 12, 25, 4, 27, 184, 1, 37, 167, 0, 4, 3, 96, 61, 167, 255, 214, 28, 172]
abbrev dktX1_earned_2 : List UInt8 := dkwX1_earned_2 ++ []
def dkwX1_earned_1 : List UInt8 := [185, 0, 145, 1, 0, 153, 0, 39, 45, 185, 0, 151, 1, 0, 192, 0, 43, 58, 4, 28, 25, 4]
abbrev dktX1_earned_1 : List UInt8 := dkwX1_earned_1 ++ dktX1_earned_2
def dkwX1_earned_0 : List UInt8 := [42, 27, 182, 0, 253, 3, 61, 42, 180, 0, 75, 180, 0, 10, 185, 0, 141, 1, 0, 78, 45]
abbrev dktX1_earned_0 : List UInt8 := dkwX1_earned_0 ++ dktX1_earned_1
theorem dksX1_earned_0 : cX1_earned.data.toList.drop 0 = dktX1_earned_0 := by decide +kernel
theorem dksX1_earned_1 : cX1_earned.data.toList.drop 21 = dktX1_earned_1 := dk_seg dksX1_earned_0 21 rfl rfl
theorem dksX1_earned_2 : cX1_earned.data.toList.drop 43 = dktX1_earned_2 := dk_seg dksX1_earned_1 22 rfl rfl
theorem dX1_earned_0 : decode cX1_earned 0 = .ok (.aload_n 0, 1) := dk_42 (dk_at dksX1_earned_0 0 rfl rfl)
theorem dX1_earned_1 : decode cX1_earned 1 = .ok (.iload_n 1, 1) := dk_27 (dk_at dksX1_earned_0 1 rfl rfl)
theorem dX1_earned_2 : decode cX1_earned 2 = .ok (.invokevirtual 253, 3) := dk_182 0 253 (dk_at dksX1_earned_0 2 rfl rfl)
theorem dX1_earned_5 : decode cX1_earned 5 = .ok (.iconst 0, 1) := dk_3 (dk_at dksX1_earned_0 5 rfl rfl)
theorem dX1_earned_6 : decode cX1_earned 6 = .ok (.istore_n 2, 1) := dk_61 (dk_at dksX1_earned_0 6 rfl rfl)
theorem dX1_earned_7 : decode cX1_earned 7 = .ok (.aload_n 0, 1) := dk_42 (dk_at dksX1_earned_0 7 rfl rfl)
theorem dX1_earned_8 : decode cX1_earned 8 = .ok (.getfield 75, 3) := dk_180 0 75 (dk_at dksX1_earned_0 8 rfl rfl)
theorem dX1_earned_11 : decode cX1_earned 11 = .ok (.getfield 10, 3) := dk_180 0 10 (dk_at dksX1_earned_0 11 rfl rfl)
theorem dX1_earned_14 : decode cX1_earned 14 = .ok (.invokeinterface 141 1, 5) := by decide +kernel
theorem dX1_earned_19 : decode cX1_earned 19 = .ok (.astore_n 3, 1) := dk_78 (dk_at dksX1_earned_0 19 rfl rfl)
theorem dX1_earned_20 : decode cX1_earned 20 = .ok (.aload_n 3, 1) := dk_45 (dk_at dksX1_earned_0 20 rfl rfl)
theorem dX1_earned_21 : decode cX1_earned 21 = .ok (.invokeinterface 145 1, 5) := by decide +kernel
theorem dX1_earned_26 : decode cX1_earned 26 = .ok (.ifCond .eq 39, 3) := dk_153 0 39 (dk_at dksX1_earned_1 5 rfl rfl)
theorem dX1_earned_29 : decode cX1_earned 29 = .ok (.aload_n 3, 1) := dk_45 (dk_at dksX1_earned_1 8 rfl rfl)
theorem dX1_earned_30 : decode cX1_earned 30 = .ok (.invokeinterface 151 1, 5) := by decide +kernel
theorem dX1_earned_35 : decode cX1_earned 35 = .ok (.checkcast 43, 3) := dk_192 0 43 (dk_at dksX1_earned_1 14 rfl rfl)
theorem dX1_earned_38 : decode cX1_earned 38 = .ok (.astore 4, 2) := dk_58 4 (dk_at dksX1_earned_1 17 rfl rfl)
theorem dX1_earned_40 : decode cX1_earned 40 = .ok (.iload_n 2, 1) := dk_28 (dk_at dksX1_earned_1 19 rfl rfl)
theorem dX1_earned_41 : decode cX1_earned 41 = .ok (.aload 4, 2) := dk_25 4 (dk_at dksX1_earned_1 20 rfl rfl)
theorem dX1_earned_43 : decode cX1_earned 43 = .ok (.getfield 155, 3) := dk_180 0 155 (dk_at dksX1_earned_2 0 rfl rfl)
theorem dX1_earned_46 : decode cX1_earned 46 = .ok (.iconst 2, 1) := dk_5 (dk_at dksX1_earned_2 3 rfl rfl)
theorem dX1_earned_47 : decode cX1_earned 47 = .ok (.if_icmp .ne 12, 3) := dk_160 0 12 (dk_at dksX1_earned_2 4 rfl rfl)
theorem dX1_earned_50 : decode cX1_earned 50 = .ok (.aload 4, 2) := dk_25 4 (dk_at dksX1_earned_2 7 rfl rfl)
theorem dX1_earned_52 : decode cX1_earned 52 = .ok (.iload_n 1, 1) := dk_27 (dk_at dksX1_earned_2 9 rfl rfl)
theorem dX1_earned_53 : decode cX1_earned 53 = .ok (.invokestatic 293, 3) := dk_184 1 37 (dk_at dksX1_earned_2 10 rfl rfl)
theorem dX1_earned_56 : decode cX1_earned 56 = .ok (.goto 4, 3) := dk_167 0 4 (dk_at dksX1_earned_2 13 rfl rfl)
theorem dX1_earned_59 : decode cX1_earned 59 = .ok (.iconst 0, 1) := dk_3 (dk_at dksX1_earned_2 16 rfl rfl)
theorem dX1_earned_60 : decode cX1_earned 60 = .ok (.iadd, 1) := dk_96 (dk_at dksX1_earned_2 17 rfl rfl)
theorem dX1_earned_61 : decode cX1_earned 61 = .ok (.istore_n 2, 1) := dk_61 (dk_at dksX1_earned_2 18 rfl rfl)
theorem dX1_earned_62 : decode cX1_earned 62 = .ok (.goto (-42), 3) := dk_167 255 214 (dk_at dksX1_earned_2 19 rfl rfl)
theorem dX1_earned_65 : decode cX1_earned 65 = .ok (.iload_n 2, 1) := dk_28 (dk_at dksX1_earned_2 22 rfl rfl)
theorem dX1_earned_66 : decode cX1_earned 66 = .ok (.ireturn, 1) := dk_172 (dk_at dksX1_earned_2 23 rfl rfl)
abbrev cX1_shareOf : ByteArray := prog_1_method_49_code
def yX1_shareOf : MethodName := ⟨RX1, "shareOf", "(LWreckShares$Good;I)I"⟩
def dkwX1_shareOf_0 : List UInt8 := [42, 27, 186, 1, 59, 0, 0, 182, 1, 63, 172]
abbrev dktX1_shareOf_0 : List UInt8 := dkwX1_shareOf_0 ++ []
theorem dksX1_shareOf_0 : cX1_shareOf.data.toList.drop 0 = dktX1_shareOf_0 := by decide +kernel
theorem dX1_shareOf_0 : decode cX1_shareOf 0 = .ok (.aload_n 0, 1) := dk_42 (dk_at dksX1_shareOf_0 0 rfl rfl)
theorem dX1_shareOf_1 : decode cX1_shareOf 1 = .ok (.iload_n 1, 1) := dk_27 (dk_at dksX1_shareOf_0 1 rfl rfl)
theorem dX1_shareOf_2 : decode cX1_shareOf 2 = .ok (.invokedynamic 315, 5) := by decide +kernel
theorem dX1_shareOf_7 : decode cX1_shareOf 7 = .ok (.invokevirtual 319, 3) := dk_182 1 63 (dk_at dksX1_shareOf_0 7 rfl rfl)
theorem dX1_shareOf_10 : decode cX1_shareOf 10 = .ok (.ireturn, 1) := dk_172 (dk_at dksX1_shareOf_0 10 rfl rfl)
abbrev cX1_lambda_shareOf_9 : ByteArray := prog_1_method_86_code
def yX1_lambda_shareOf_9 : MethodName := ⟨RX1, "lambda$shareOf$9", "(ILWreckShares$Part;)Z"⟩
def dkwX1_lambda_shareOf_9_1 : List UInt8 := [3, 172]
abbrev dktX1_lambda_shareOf_9_1 : List UInt8 := dkwX1_lambda_shareOf_9_1 ++ []
def dkwX1_lambda_shareOf_9_0 : List UInt8 := [43, 193, 1, 77, 153, 0, 20, 43, 192, 1, 77, 77, 44, 182, 1, 202, 26, 160, 0, 7, 4, 167, 0, 4]
abbrev dktX1_lambda_shareOf_9_0 : List UInt8 := dkwX1_lambda_shareOf_9_0 ++ dktX1_lambda_shareOf_9_1
theorem dksX1_lambda_shareOf_9_0 : cX1_lambda_shareOf_9.data.toList.drop 0 = dktX1_lambda_shareOf_9_0 := by decide +kernel
theorem dksX1_lambda_shareOf_9_1 : cX1_lambda_shareOf_9.data.toList.drop 24 = dktX1_lambda_shareOf_9_1 := dk_seg dksX1_lambda_shareOf_9_0 24 rfl rfl
theorem dX1_lambda_shareOf_9_0 : decode cX1_lambda_shareOf_9 0 = .ok (.aload_n 1, 1) := dk_43 (dk_at dksX1_lambda_shareOf_9_0 0 rfl rfl)
theorem dX1_lambda_shareOf_9_1 : decode cX1_lambda_shareOf_9 1 = .ok (.instanceof 333, 3) := dk_193 1 77 (dk_at dksX1_lambda_shareOf_9_0 1 rfl rfl)
theorem dX1_lambda_shareOf_9_4 : decode cX1_lambda_shareOf_9 4 = .ok (.ifCond .eq 20, 3) := dk_153 0 20 (dk_at dksX1_lambda_shareOf_9_0 4 rfl rfl)
theorem dX1_lambda_shareOf_9_7 : decode cX1_lambda_shareOf_9 7 = .ok (.aload_n 1, 1) := dk_43 (dk_at dksX1_lambda_shareOf_9_0 7 rfl rfl)
theorem dX1_lambda_shareOf_9_8 : decode cX1_lambda_shareOf_9 8 = .ok (.checkcast 333, 3) := dk_192 1 77 (dk_at dksX1_lambda_shareOf_9_0 8 rfl rfl)
theorem dX1_lambda_shareOf_9_11 : decode cX1_lambda_shareOf_9 11 = .ok (.astore_n 2, 1) := dk_77 (dk_at dksX1_lambda_shareOf_9_0 11 rfl rfl)
theorem dX1_lambda_shareOf_9_12 : decode cX1_lambda_shareOf_9 12 = .ok (.aload_n 2, 1) := dk_44 (dk_at dksX1_lambda_shareOf_9_0 12 rfl rfl)
theorem dX1_lambda_shareOf_9_13 : decode cX1_lambda_shareOf_9 13 = .ok (.invokevirtual 458, 3) := dk_182 1 202 (dk_at dksX1_lambda_shareOf_9_0 13 rfl rfl)
theorem dX1_lambda_shareOf_9_16 : decode cX1_lambda_shareOf_9 16 = .ok (.iload_n 0, 1) := dk_26 (dk_at dksX1_lambda_shareOf_9_0 16 rfl rfl)
theorem dX1_lambda_shareOf_9_17 : decode cX1_lambda_shareOf_9 17 = .ok (.if_icmp .ne 7, 3) := dk_160 0 7 (dk_at dksX1_lambda_shareOf_9_0 17 rfl rfl)
theorem dX1_lambda_shareOf_9_20 : decode cX1_lambda_shareOf_9 20 = .ok (.iconst 1, 1) := dk_4 (dk_at dksX1_lambda_shareOf_9_0 20 rfl rfl)
theorem dX1_lambda_shareOf_9_21 : decode cX1_lambda_shareOf_9 21 = .ok (.goto 4, 3) := dk_167 0 4 (dk_at dksX1_lambda_shareOf_9_0 21 rfl rfl)
theorem dX1_lambda_shareOf_9_24 : decode cX1_lambda_shareOf_9 24 = .ok (.iconst 0, 1) := dk_3 (dk_at dksX1_lambda_shareOf_9_1 0 rfl rfl)
theorem dX1_lambda_shareOf_9_25 : decode cX1_lambda_shareOf_9 25 = .ok (.ireturn, 1) := dk_172 (dk_at dksX1_lambda_shareOf_9_1 1 rfl rfl)
abbrev cX1_level : ByteArray := prog_1_method_42_code
def yX1_level : MethodName := ⟨RX1, "level", "(I)I"⟩
def dkwX1_level_0 : List UInt8 := [27, 3, 19, 1, 47, 184, 0, 103, 184, 0, 107, 42, 180, 0, 75, 27, 182, 0, 181, 172]
abbrev dktX1_level_0 : List UInt8 := dkwX1_level_0 ++ []
theorem dksX1_level_0 : cX1_level.data.toList.drop 0 = dktX1_level_0 := by decide +kernel
theorem dX1_level_0 : decode cX1_level 0 = .ok (.iload_n 1, 1) := dk_27 (dk_at dksX1_level_0 0 rfl rfl)
theorem dX1_level_1 : decode cX1_level 1 = .ok (.iconst 0, 1) := dk_3 (dk_at dksX1_level_0 1 rfl rfl)
theorem dX1_level_2 : decode cX1_level 2 = .ok (.ldc_w 303, 3) := dk_19 1 47 (dk_at dksX1_level_0 2 rfl rfl)
theorem dX1_level_5 : decode cX1_level 5 = .ok (.invokestatic 103, 3) := dk_184 0 103 (dk_at dksX1_level_0 5 rfl rfl)
theorem dX1_level_8 : decode cX1_level 8 = .ok (.invokestatic 107, 3) := dk_184 0 107 (dk_at dksX1_level_0 8 rfl rfl)
theorem dX1_level_11 : decode cX1_level 11 = .ok (.aload_n 0, 1) := dk_42 (dk_at dksX1_level_0 11 rfl rfl)
theorem dX1_level_12 : decode cX1_level 12 = .ok (.getfield 75, 3) := dk_180 0 75 (dk_at dksX1_level_0 12 rfl rfl)
theorem dX1_level_15 : decode cX1_level 15 = .ok (.iload_n 1, 1) := dk_27 (dk_at dksX1_level_0 15 rfl rfl)
theorem dX1_level_16 : decode cX1_level 16 = .ok (.invokevirtual 181, 3) := dk_182 0 181 (dk_at dksX1_level_0 16 rfl rfl)
theorem dX1_level_19 : decode cX1_level 19 = .ok (.ireturn, 1) := dk_172 (dk_at dksX1_level_0 19 rfl rfl)
abbrev cX1_dryIn : ByteArray := prog_1_method_44_code
def yX1_dryIn : MethodName := ⟨RX1, "dryIn", "(I)I"⟩
def dkwX1_dryIn_0 : List UInt8 := [42, 180, 0, 75, 42, 27, 182, 0, 207, 182, 1, 48, 172]
abbrev dktX1_dryIn_0 : List UInt8 := dkwX1_dryIn_0 ++ []
theorem dksX1_dryIn_0 : cX1_dryIn.data.toList.drop 0 = dktX1_dryIn_0 := by decide +kernel
theorem dX1_dryIn_0 : decode cX1_dryIn 0 = .ok (.aload_n 0, 1) := dk_42 (dk_at dksX1_dryIn_0 0 rfl rfl)
theorem dX1_dryIn_1 : decode cX1_dryIn 1 = .ok (.getfield 75, 3) := dk_180 0 75 (dk_at dksX1_dryIn_0 1 rfl rfl)
theorem dX1_dryIn_4 : decode cX1_dryIn 4 = .ok (.aload_n 0, 1) := dk_42 (dk_at dksX1_dryIn_0 4 rfl rfl)
theorem dX1_dryIn_5 : decode cX1_dryIn 5 = .ok (.iload_n 1, 1) := dk_27 (dk_at dksX1_dryIn_0 5 rfl rfl)
theorem dX1_dryIn_6 : decode cX1_dryIn 6 = .ok (.invokevirtual 207, 3) := dk_182 0 207 (dk_at dksX1_dryIn_0 6 rfl rfl)
theorem dX1_dryIn_9 : decode cX1_dryIn 9 = .ok (.invokevirtual 304, 3) := dk_182 1 48 (dk_at dksX1_dryIn_0 9 rfl rfl)
theorem dX1_dryIn_12 : decode cX1_dryIn 12 = .ok (.ireturn, 1) := dk_172 (dk_at dksX1_dryIn_0 12 rfl rfl)
abbrev cX1_dryTicks : ByteArray := prog_1_method_45_code
def yX1_dryTicks : MethodName := ⟨RX1, "dryTicks", "(I)I"⟩
def dkwX1_dryTicks_0 : List UInt8 := [42, 180, 0, 75, 180, 0, 169, 42, 180, 0, 75, 42, 27, 182, 0, 207, 182, 1, 52, 100, 172]
abbrev dktX1_dryTicks_0 : List UInt8 := dkwX1_dryTicks_0 ++ []
theorem dksX1_dryTicks_0 : cX1_dryTicks.data.toList.drop 0 = dktX1_dryTicks_0 := by decide +kernel
theorem dX1_dryTicks_0 : decode cX1_dryTicks 0 = .ok (.aload_n 0, 1) := dk_42 (dk_at dksX1_dryTicks_0 0 rfl rfl)
theorem dX1_dryTicks_1 : decode cX1_dryTicks 1 = .ok (.getfield 75, 3) := dk_180 0 75 (dk_at dksX1_dryTicks_0 1 rfl rfl)
theorem dX1_dryTicks_4 : decode cX1_dryTicks 4 = .ok (.getfield 169, 3) := dk_180 0 169 (dk_at dksX1_dryTicks_0 4 rfl rfl)
theorem dX1_dryTicks_7 : decode cX1_dryTicks 7 = .ok (.aload_n 0, 1) := dk_42 (dk_at dksX1_dryTicks_0 7 rfl rfl)
theorem dX1_dryTicks_8 : decode cX1_dryTicks 8 = .ok (.getfield 75, 3) := dk_180 0 75 (dk_at dksX1_dryTicks_0 8 rfl rfl)
theorem dX1_dryTicks_11 : decode cX1_dryTicks 11 = .ok (.aload_n 0, 1) := dk_42 (dk_at dksX1_dryTicks_0 11 rfl rfl)
theorem dX1_dryTicks_12 : decode cX1_dryTicks 12 = .ok (.iload_n 1, 1) := dk_27 (dk_at dksX1_dryTicks_0 12 rfl rfl)
theorem dX1_dryTicks_13 : decode cX1_dryTicks 13 = .ok (.invokevirtual 207, 3) := dk_182 0 207 (dk_at dksX1_dryTicks_0 13 rfl rfl)
theorem dX1_dryTicks_16 : decode cX1_dryTicks 16 = .ok (.invokevirtual 308, 3) := dk_182 1 52 (dk_at dksX1_dryTicks_0 16 rfl rfl)
theorem dX1_dryTicks_19 : decode cX1_dryTicks 19 = .ok (.isub, 1) := dk_100 (dk_at dksX1_dryTicks_0 19 rfl rfl)
theorem dX1_dryTicks_20 : decode cX1_dryTicks 20 = .ok (.ireturn, 1) := dk_172 (dk_at dksX1_dryTicks_0 20 rfl rfl)
abbrev cX1_lostIn : ByteArray := prog_1_method_46_code
def yX1_lostIn : MethodName := ⟨RX1, "lostIn", "(I)I"⟩
def dkwX1_lostIn_0 : List UInt8 := [42, 180, 0, 75, 42, 27, 182, 0, 207, 182, 1, 55, 172]
abbrev dktX1_lostIn_0 : List UInt8 := dkwX1_lostIn_0 ++ []
theorem dksX1_lostIn_0 : cX1_lostIn.data.toList.drop 0 = dktX1_lostIn_0 := by decide +kernel
theorem dX1_lostIn_0 : decode cX1_lostIn 0 = .ok (.aload_n 0, 1) := dk_42 (dk_at dksX1_lostIn_0 0 rfl rfl)
theorem dX1_lostIn_1 : decode cX1_lostIn 1 = .ok (.getfield 75, 3) := dk_180 0 75 (dk_at dksX1_lostIn_0 1 rfl rfl)
theorem dX1_lostIn_4 : decode cX1_lostIn 4 = .ok (.aload_n 0, 1) := dk_42 (dk_at dksX1_lostIn_0 4 rfl rfl)
theorem dX1_lostIn_5 : decode cX1_lostIn 5 = .ok (.iload_n 1, 1) := dk_27 (dk_at dksX1_lostIn_0 5 rfl rfl)
theorem dX1_lostIn_6 : decode cX1_lostIn 6 = .ok (.invokevirtual 207, 3) := dk_182 0 207 (dk_at dksX1_lostIn_0 6 rfl rfl)
theorem dX1_lostIn_9 : decode cX1_lostIn 9 = .ok (.invokevirtual 311, 3) := dk_182 1 55 (dk_at dksX1_lostIn_0 9 rfl rfl)
theorem dX1_lostIn_12 : decode cX1_lostIn 12 = .ok (.ireturn, 1) := dk_172 (dk_at dksX1_lostIn_0 12 rfl rfl)
abbrev cX1_lossIn : ByteArray := prog_1_method_48_code
def yX1_lossIn : MethodName := ⟨RX1, "lossIn", "(I)I"⟩
def dkwX1_lossIn_3 : List UInt8 := [3, 96, 61, 167, 255, 207, 28, 172]
abbrev dktX1_lossIn_3 : List UInt8 := dkwX1_lossIn_3 ++ []
def dkwX1_lossIn_2 : List UInt8 := [180, 0, 75, 25, 4, 182, 1, 55, 3, 27, 184, 0, 103, 153, 0, 11, 25, 4, 180, 0, 217, 167, 0, 4]
abbrev dktX1_lossIn_2 : List UInt8 := dkwX1_lossIn_2 ++ dktX1_lossIn_3
def dkwX1_lossIn_1 : List UInt8 := [78, 45, 185, 0, 145, 1, 0, 153, 0, 46, 45, 185, 0, 151, 1, 0, 192, 0, 43, 58, 4, 28, 42]
abbrev dktX1_lossIn_1 : List UInt8 := dkwX1_lossIn_1 ++ dktX1_lossIn_2
def dkwX1_lossIn_0 : List UInt8 := [27, 3, 17, 3, 232, 184, 0, 103, 184, 0, 107, 3, 61, 187, 1, 41, 89, 42, 183, 1, 43, 182, 1, 46]
abbrev dktX1_lossIn_0 : List UInt8 := dkwX1_lossIn_0 ++ dktX1_lossIn_1
theorem dksX1_lossIn_0 : cX1_lossIn.data.toList.drop 0 = dktX1_lossIn_0 := by decide +kernel
theorem dksX1_lossIn_1 : cX1_lossIn.data.toList.drop 24 = dktX1_lossIn_1 := dk_seg dksX1_lossIn_0 24 rfl rfl
theorem dksX1_lossIn_2 : cX1_lossIn.data.toList.drop 47 = dktX1_lossIn_2 := dk_seg dksX1_lossIn_1 23 rfl rfl
theorem dksX1_lossIn_3 : cX1_lossIn.data.toList.drop 71 = dktX1_lossIn_3 := dk_seg dksX1_lossIn_2 24 rfl rfl
theorem dX1_lossIn_0 : decode cX1_lossIn 0 = .ok (.iload_n 1, 1) := dk_27 (dk_at dksX1_lossIn_0 0 rfl rfl)
theorem dX1_lossIn_1 : decode cX1_lossIn 1 = .ok (.iconst 0, 1) := dk_3 (dk_at dksX1_lossIn_0 1 rfl rfl)
theorem dX1_lossIn_2 : decode cX1_lossIn 2 = .ok (.sipush 1000, 3) := dk_17 3 232 (dk_at dksX1_lossIn_0 2 rfl rfl)
theorem dX1_lossIn_5 : decode cX1_lossIn 5 = .ok (.invokestatic 103, 3) := dk_184 0 103 (dk_at dksX1_lossIn_0 5 rfl rfl)
theorem dX1_lossIn_8 : decode cX1_lossIn 8 = .ok (.invokestatic 107, 3) := dk_184 0 107 (dk_at dksX1_lossIn_0 8 rfl rfl)
theorem dX1_lossIn_11 : decode cX1_lossIn 11 = .ok (.iconst 0, 1) := dk_3 (dk_at dksX1_lossIn_0 11 rfl rfl)
theorem dX1_lossIn_12 : decode cX1_lossIn 12 = .ok (.istore_n 2, 1) := dk_61 (dk_at dksX1_lossIn_0 12 rfl rfl)
theorem dX1_lossIn_13 : decode cX1_lossIn 13 = .ok (.new 297, 3) := dk_187 1 41 (dk_at dksX1_lossIn_0 13 rfl rfl)
theorem dX1_lossIn_16 : decode cX1_lossIn 16 = .ok (.dup, 1) := dk_89 (dk_at dksX1_lossIn_0 16 rfl rfl)
theorem dX1_lossIn_17 : decode cX1_lossIn 17 = .ok (.aload_n 0, 1) := dk_42 (dk_at dksX1_lossIn_0 17 rfl rfl)
theorem dX1_lossIn_18 : decode cX1_lossIn 18 = .ok (.invokespecial 299, 3) := dk_183 1 43 (dk_at dksX1_lossIn_0 18 rfl rfl)
theorem dX1_lossIn_21 : decode cX1_lossIn 21 = .ok (.invokevirtual 302, 3) := dk_182 1 46 (dk_at dksX1_lossIn_0 21 rfl rfl)
theorem dX1_lossIn_24 : decode cX1_lossIn 24 = .ok (.astore_n 3, 1) := dk_78 (dk_at dksX1_lossIn_1 0 rfl rfl)
theorem dX1_lossIn_25 : decode cX1_lossIn 25 = .ok (.aload_n 3, 1) := dk_45 (dk_at dksX1_lossIn_1 1 rfl rfl)
theorem dX1_lossIn_26 : decode cX1_lossIn 26 = .ok (.invokeinterface 145 1, 5) := by decide +kernel
theorem dX1_lossIn_31 : decode cX1_lossIn 31 = .ok (.ifCond .eq 46, 3) := dk_153 0 46 (dk_at dksX1_lossIn_1 7 rfl rfl)
theorem dX1_lossIn_34 : decode cX1_lossIn 34 = .ok (.aload_n 3, 1) := dk_45 (dk_at dksX1_lossIn_1 10 rfl rfl)
theorem dX1_lossIn_35 : decode cX1_lossIn 35 = .ok (.invokeinterface 151 1, 5) := by decide +kernel
theorem dX1_lossIn_40 : decode cX1_lossIn 40 = .ok (.checkcast 43, 3) := dk_192 0 43 (dk_at dksX1_lossIn_1 16 rfl rfl)
theorem dX1_lossIn_43 : decode cX1_lossIn 43 = .ok (.astore 4, 2) := dk_58 4 (dk_at dksX1_lossIn_1 19 rfl rfl)
theorem dX1_lossIn_45 : decode cX1_lossIn 45 = .ok (.iload_n 2, 1) := dk_28 (dk_at dksX1_lossIn_1 21 rfl rfl)
theorem dX1_lossIn_46 : decode cX1_lossIn 46 = .ok (.aload_n 0, 1) := dk_42 (dk_at dksX1_lossIn_1 22 rfl rfl)
theorem dX1_lossIn_47 : decode cX1_lossIn 47 = .ok (.getfield 75, 3) := dk_180 0 75 (dk_at dksX1_lossIn_2 0 rfl rfl)
theorem dX1_lossIn_50 : decode cX1_lossIn 50 = .ok (.aload 4, 2) := dk_25 4 (dk_at dksX1_lossIn_2 3 rfl rfl)
theorem dX1_lossIn_52 : decode cX1_lossIn 52 = .ok (.invokevirtual 311, 3) := dk_182 1 55 (dk_at dksX1_lossIn_2 5 rfl rfl)
theorem dX1_lossIn_55 : decode cX1_lossIn 55 = .ok (.iconst 0, 1) := dk_3 (dk_at dksX1_lossIn_2 8 rfl rfl)
theorem dX1_lossIn_56 : decode cX1_lossIn 56 = .ok (.iload_n 1, 1) := dk_27 (dk_at dksX1_lossIn_2 9 rfl rfl)
theorem dX1_lossIn_57 : decode cX1_lossIn 57 = .ok (.invokestatic 103, 3) := dk_184 0 103 (dk_at dksX1_lossIn_2 10 rfl rfl)
theorem dX1_lossIn_60 : decode cX1_lossIn 60 = .ok (.ifCond .eq 11, 3) := dk_153 0 11 (dk_at dksX1_lossIn_2 13 rfl rfl)
theorem dX1_lossIn_63 : decode cX1_lossIn 63 = .ok (.aload 4, 2) := dk_25 4 (dk_at dksX1_lossIn_2 16 rfl rfl)
theorem dX1_lossIn_65 : decode cX1_lossIn 65 = .ok (.getfield 217, 3) := dk_180 0 217 (dk_at dksX1_lossIn_2 18 rfl rfl)
theorem dX1_lossIn_68 : decode cX1_lossIn 68 = .ok (.goto 4, 3) := dk_167 0 4 (dk_at dksX1_lossIn_2 21 rfl rfl)
theorem dX1_lossIn_71 : decode cX1_lossIn 71 = .ok (.iconst 0, 1) := dk_3 (dk_at dksX1_lossIn_3 0 rfl rfl)
theorem dX1_lossIn_72 : decode cX1_lossIn 72 = .ok (.iadd, 1) := dk_96 (dk_at dksX1_lossIn_3 1 rfl rfl)
theorem dX1_lossIn_73 : decode cX1_lossIn 73 = .ok (.istore_n 2, 1) := dk_61 (dk_at dksX1_lossIn_3 2 rfl rfl)
theorem dX1_lossIn_74 : decode cX1_lossIn 74 = .ok (.goto (-49), 3) := dk_167 255 207 (dk_at dksX1_lossIn_3 3 rfl rfl)
theorem dX1_lossIn_77 : decode cX1_lossIn 77 = .ok (.iload_n 2, 1) := dk_28 (dk_at dksX1_lossIn_3 6 rfl rfl)
theorem dX1_lossIn_78 : decode cX1_lossIn 78 = .ok (.ireturn, 1) := dk_172 (dk_at dksX1_lossIn_3 7 rfl rfl)
abbrev cX1_share : ByteArray := prog_1_method_50_code
def yX1_share : MethodName := ⟨RX1, "share", "(II)I"⟩
def dkwX1_share_0 : List UInt8 := [42, 27, 182, 0, 207, 78, 42, 28, 182, 0, 253, 45, 28, 184, 1, 37, 172]
abbrev dktX1_share_0 : List UInt8 := dkwX1_share_0 ++ []
theorem dksX1_share_0 : cX1_share.data.toList.drop 0 = dktX1_share_0 := by decide +kernel
theorem dX1_share_0 : decode cX1_share 0 = .ok (.aload_n 0, 1) := dk_42 (dk_at dksX1_share_0 0 rfl rfl)
theorem dX1_share_1 : decode cX1_share 1 = .ok (.iload_n 1, 1) := dk_27 (dk_at dksX1_share_0 1 rfl rfl)
theorem dX1_share_2 : decode cX1_share 2 = .ok (.invokevirtual 207, 3) := dk_182 0 207 (dk_at dksX1_share_0 2 rfl rfl)
theorem dX1_share_5 : decode cX1_share 5 = .ok (.astore_n 3, 1) := dk_78 (dk_at dksX1_share_0 5 rfl rfl)
theorem dX1_share_6 : decode cX1_share 6 = .ok (.aload_n 0, 1) := dk_42 (dk_at dksX1_share_0 6 rfl rfl)
theorem dX1_share_7 : decode cX1_share 7 = .ok (.iload_n 2, 1) := dk_28 (dk_at dksX1_share_0 7 rfl rfl)
theorem dX1_share_8 : decode cX1_share 8 = .ok (.invokevirtual 253, 3) := dk_182 0 253 (dk_at dksX1_share_0 8 rfl rfl)
theorem dX1_share_11 : decode cX1_share 11 = .ok (.aload_n 3, 1) := dk_45 (dk_at dksX1_share_0 11 rfl rfl)
theorem dX1_share_12 : decode cX1_share 12 = .ok (.iload_n 2, 1) := dk_28 (dk_at dksX1_share_0 12 rfl rfl)
theorem dX1_share_13 : decode cX1_share 13 = .ok (.invokestatic 293, 3) := dk_184 1 37 (dk_at dksX1_share_0 13 rfl rfl)
theorem dX1_share_16 : decode cX1_share 16 = .ok (.ireturn, 1) := dk_172 (dk_at dksX1_share_0 16 rfl rfl)
abbrev cX1_crownShare : ByteArray := prog_1_method_51_code
def yX1_crownShare : MethodName := ⟨RX1, "crownShare", "(I)I"⟩
def dkwX1_crownShare_0 : List UInt8 := [42, 27, 182, 0, 207, 186, 1, 67, 0, 0, 182, 1, 63, 172]
abbrev dktX1_crownShare_0 : List UInt8 := dkwX1_crownShare_0 ++ []
theorem dksX1_crownShare_0 : cX1_crownShare.data.toList.drop 0 = dktX1_crownShare_0 := by decide +kernel
theorem dX1_crownShare_0 : decode cX1_crownShare 0 = .ok (.aload_n 0, 1) := dk_42 (dk_at dksX1_crownShare_0 0 rfl rfl)
theorem dX1_crownShare_1 : decode cX1_crownShare 1 = .ok (.iload_n 1, 1) := dk_27 (dk_at dksX1_crownShare_0 1 rfl rfl)
theorem dX1_crownShare_2 : decode cX1_crownShare 2 = .ok (.invokevirtual 207, 3) := dk_182 0 207 (dk_at dksX1_crownShare_0 2 rfl rfl)
theorem dX1_crownShare_5 : decode cX1_crownShare 5 = .ok (.invokedynamic 323, 5) := by decide +kernel
theorem dX1_crownShare_10 : decode cX1_crownShare 10 = .ok (.invokevirtual 319, 3) := dk_182 1 63 (dk_at dksX1_crownShare_0 10 rfl rfl)
theorem dX1_crownShare_13 : decode cX1_crownShare 13 = .ok (.ireturn, 1) := dk_172 (dk_at dksX1_crownShare_0 13 rfl rfl)
abbrev cX1_lambda_crownShare_10 : ByteArray := prog_1_method_85_code
def yX1_lambda_crownShare_10 : MethodName := ⟨RX1, "lambda$crownShare$10", "(LWreckShares$Part;)Z"⟩
theorem dX1_lambda_crownShare_10_0 : decode cX1_lambda_crownShare_10 0 = .ok (.aload_n 0, 1) := by decide +kernel
theorem dX1_lambda_crownShare_10_1 : decode cX1_lambda_crownShare_10 1 = .ok (.instanceof 456, 3) := by decide +kernel
theorem dX1_lambda_crownShare_10_4 : decode cX1_lambda_crownShare_10 4 = .ok (.ireturn, 1) := by decide +kernel
abbrev cX1_ownerShare : ByteArray := prog_1_method_52_code
def yX1_ownerShare : MethodName := ⟨RX1, "ownerShare", "(I)I"⟩
def dkwX1_ownerShare_0 : List UInt8 := [42, 27, 182, 0, 207, 186, 1, 70, 0, 0, 182, 1, 63, 172]
abbrev dktX1_ownerShare_0 : List UInt8 := dkwX1_ownerShare_0 ++ []
theorem dksX1_ownerShare_0 : cX1_ownerShare.data.toList.drop 0 = dktX1_ownerShare_0 := by decide +kernel
theorem dX1_ownerShare_0 : decode cX1_ownerShare 0 = .ok (.aload_n 0, 1) := dk_42 (dk_at dksX1_ownerShare_0 0 rfl rfl)
theorem dX1_ownerShare_1 : decode cX1_ownerShare 1 = .ok (.iload_n 1, 1) := dk_27 (dk_at dksX1_ownerShare_0 1 rfl rfl)
theorem dX1_ownerShare_2 : decode cX1_ownerShare 2 = .ok (.invokevirtual 207, 3) := dk_182 0 207 (dk_at dksX1_ownerShare_0 2 rfl rfl)
theorem dX1_ownerShare_5 : decode cX1_ownerShare 5 = .ok (.invokedynamic 326, 5) := by decide +kernel
theorem dX1_ownerShare_10 : decode cX1_ownerShare 10 = .ok (.invokevirtual 319, 3) := dk_182 1 63 (dk_at dksX1_ownerShare_0 10 rfl rfl)
theorem dX1_ownerShare_13 : decode cX1_ownerShare 13 = .ok (.ireturn, 1) := dk_172 (dk_at dksX1_ownerShare_0 13 rfl rfl)
abbrev cX1_lambda_ownerShare_11 : ByteArray := prog_1_method_84_code
def yX1_lambda_ownerShare_11 : MethodName := ⟨RX1, "lambda$ownerShare$11", "(LWreckShares$Part;)Z"⟩
theorem dX1_lambda_ownerShare_11_0 : decode cX1_lambda_ownerShare_11 0 = .ok (.aload_n 0, 1) := by decide +kernel
theorem dX1_lambda_ownerShare_11_1 : decode cX1_lambda_ownerShare_11 1 = .ok (.instanceof 454, 3) := by decide +kernel
theorem dX1_lambda_ownerShare_11_4 : decode cX1_lambda_ownerShare_11 4 = .ok (.ireturn, 1) := by decide +kernel
abbrev cX1_unequal : ByteArray := prog_1_method_53_code
def yX1_unequal : MethodName := ⟨RX1, "unequal", "(I)I"⟩
def dkwX1_unequal_4 : List UInt8 := [167, 0, 7, 29, 21, 4, 100, 172]
abbrev dktX1_unequal_4 : List UInt8 := dkwX1_unequal_4 ++ []
def dkwX1_unequal_3 : List UInt8 := [25, 6, 185, 1, 79, 1, 0, 184, 1, 88, 54, 4, 167, 255, 197, 21, 4, 19, 1, 58, 160, 0, 7, 3]
abbrev dktX1_unequal_3 : List UInt8 := dkwX1_unequal_3 ++ dktX1_unequal_4
def dkwX1_unequal_2 : List UInt8 := [193, 1, 77, 154, 0, 6, 167, 255, 226, 29, 25, 6, 185, 1, 79, 1, 0, 184, 1, 82, 62, 21, 4]
abbrev dktX1_unequal_2 : List UInt8 := dkwX1_unequal_2 ++ dktX1_unequal_3
def dkwX1_unequal_1 : List UInt8 := [25, 5, 185, 0, 145, 1, 0, 153, 0, 55, 25, 5, 185, 0, 151, 1, 0, 192, 1, 75, 58, 6, 25, 6]
abbrev dktX1_unequal_1 : List UInt8 := dkwX1_unequal_1 ++ dktX1_unequal_2
def dkwX1_unequal_0 : List UInt8 := [42, 27, 182, 0, 207, 77, 3, 62, 19, 1, 58, 54, 4, 44, 182, 1, 71, 185, 0, 141, 1, 0, 58, 5]
abbrev dktX1_unequal_0 : List UInt8 := dkwX1_unequal_0 ++ dktX1_unequal_1
theorem dksX1_unequal_0 : cX1_unequal.data.toList.drop 0 = dktX1_unequal_0 := by decide +kernel
theorem dksX1_unequal_1 : cX1_unequal.data.toList.drop 24 = dktX1_unequal_1 := dk_seg dksX1_unequal_0 24 rfl rfl
theorem dksX1_unequal_2 : cX1_unequal.data.toList.drop 48 = dktX1_unequal_2 := dk_seg dksX1_unequal_1 24 rfl rfl
theorem dksX1_unequal_3 : cX1_unequal.data.toList.drop 71 = dktX1_unequal_3 := dk_seg dksX1_unequal_2 23 rfl rfl
theorem dksX1_unequal_4 : cX1_unequal.data.toList.drop 95 = dktX1_unequal_4 := dk_seg dksX1_unequal_3 24 rfl rfl
theorem dX1_unequal_0 : decode cX1_unequal 0 = .ok (.aload_n 0, 1) := dk_42 (dk_at dksX1_unequal_0 0 rfl rfl)
theorem dX1_unequal_1 : decode cX1_unequal 1 = .ok (.iload_n 1, 1) := dk_27 (dk_at dksX1_unequal_0 1 rfl rfl)
theorem dX1_unequal_2 : decode cX1_unequal 2 = .ok (.invokevirtual 207, 3) := dk_182 0 207 (dk_at dksX1_unequal_0 2 rfl rfl)
theorem dX1_unequal_5 : decode cX1_unequal 5 = .ok (.astore_n 2, 1) := dk_77 (dk_at dksX1_unequal_0 5 rfl rfl)
theorem dX1_unequal_6 : decode cX1_unequal 6 = .ok (.iconst 0, 1) := dk_3 (dk_at dksX1_unequal_0 6 rfl rfl)
theorem dX1_unequal_7 : decode cX1_unequal 7 = .ok (.istore_n 3, 1) := dk_62 (dk_at dksX1_unequal_0 7 rfl rfl)
theorem dX1_unequal_8 : decode cX1_unequal 8 = .ok (.ldc_w 314, 3) := dk_19 1 58 (dk_at dksX1_unequal_0 8 rfl rfl)
theorem dX1_unequal_11 : decode cX1_unequal 11 = .ok (.istore 4, 2) := dk_54 4 (dk_at dksX1_unequal_0 11 rfl rfl)
theorem dX1_unequal_13 : decode cX1_unequal 13 = .ok (.aload_n 2, 1) := dk_44 (dk_at dksX1_unequal_0 13 rfl rfl)
theorem dX1_unequal_14 : decode cX1_unequal 14 = .ok (.invokevirtual 327, 3) := dk_182 1 71 (dk_at dksX1_unequal_0 14 rfl rfl)
theorem dX1_unequal_17 : decode cX1_unequal 17 = .ok (.invokeinterface 141 1, 5) := by decide +kernel
theorem dX1_unequal_22 : decode cX1_unequal 22 = .ok (.astore 5, 2) := dk_58 5 (dk_at dksX1_unequal_0 22 rfl rfl)
theorem dX1_unequal_24 : decode cX1_unequal 24 = .ok (.aload 5, 2) := dk_25 5 (dk_at dksX1_unequal_1 0 rfl rfl)
theorem dX1_unequal_26 : decode cX1_unequal 26 = .ok (.invokeinterface 145 1, 5) := by decide +kernel
theorem dX1_unequal_31 : decode cX1_unequal 31 = .ok (.ifCond .eq 55, 3) := dk_153 0 55 (dk_at dksX1_unequal_1 7 rfl rfl)
theorem dX1_unequal_34 : decode cX1_unequal 34 = .ok (.aload 5, 2) := dk_25 5 (dk_at dksX1_unequal_1 10 rfl rfl)
theorem dX1_unequal_36 : decode cX1_unequal 36 = .ok (.invokeinterface 151 1, 5) := by decide +kernel
theorem dX1_unequal_41 : decode cX1_unequal 41 = .ok (.checkcast 331, 3) := dk_192 1 75 (dk_at dksX1_unequal_1 17 rfl rfl)
theorem dX1_unequal_44 : decode cX1_unequal 44 = .ok (.astore 6, 2) := dk_58 6 (dk_at dksX1_unequal_1 20 rfl rfl)
theorem dX1_unequal_46 : decode cX1_unequal 46 = .ok (.aload 6, 2) := dk_25 6 (dk_at dksX1_unequal_1 22 rfl rfl)
theorem dX1_unequal_48 : decode cX1_unequal 48 = .ok (.instanceof 333, 3) := dk_193 1 77 (dk_at dksX1_unequal_2 0 rfl rfl)
theorem dX1_unequal_51 : decode cX1_unequal 51 = .ok (.ifCond .ne 6, 3) := dk_154 0 6 (dk_at dksX1_unequal_2 3 rfl rfl)
theorem dX1_unequal_54 : decode cX1_unequal 54 = .ok (.goto (-30), 3) := dk_167 255 226 (dk_at dksX1_unequal_2 6 rfl rfl)
theorem dX1_unequal_57 : decode cX1_unequal 57 = .ok (.iload_n 3, 1) := dk_29 (dk_at dksX1_unequal_2 9 rfl rfl)
theorem dX1_unequal_58 : decode cX1_unequal 58 = .ok (.aload 6, 2) := dk_25 6 (dk_at dksX1_unequal_2 10 rfl rfl)
theorem dX1_unequal_60 : decode cX1_unequal 60 = .ok (.invokeinterface 335 1, 5) := by decide +kernel
theorem dX1_unequal_65 : decode cX1_unequal 65 = .ok (.invokestatic 338, 3) := dk_184 1 82 (dk_at dksX1_unequal_2 17 rfl rfl)
theorem dX1_unequal_68 : decode cX1_unequal 68 = .ok (.istore_n 3, 1) := dk_62 (dk_at dksX1_unequal_2 20 rfl rfl)
theorem dX1_unequal_69 : decode cX1_unequal 69 = .ok (.iload 4, 2) := dk_21 4 (dk_at dksX1_unequal_2 21 rfl rfl)
theorem dX1_unequal_71 : decode cX1_unequal 71 = .ok (.aload 6, 2) := dk_25 6 (dk_at dksX1_unequal_3 0 rfl rfl)
theorem dX1_unequal_73 : decode cX1_unequal 73 = .ok (.invokeinterface 335 1, 5) := by decide +kernel
theorem dX1_unequal_78 : decode cX1_unequal 78 = .ok (.invokestatic 344, 3) := dk_184 1 88 (dk_at dksX1_unequal_3 7 rfl rfl)
theorem dX1_unequal_81 : decode cX1_unequal 81 = .ok (.istore 4, 2) := dk_54 4 (dk_at dksX1_unequal_3 10 rfl rfl)
theorem dX1_unequal_83 : decode cX1_unequal 83 = .ok (.goto (-59), 3) := dk_167 255 197 (dk_at dksX1_unequal_3 12 rfl rfl)
theorem dX1_unequal_86 : decode cX1_unequal 86 = .ok (.iload 4, 2) := dk_21 4 (dk_at dksX1_unequal_3 15 rfl rfl)
theorem dX1_unequal_88 : decode cX1_unequal 88 = .ok (.ldc_w 314, 3) := dk_19 1 58 (dk_at dksX1_unequal_3 17 rfl rfl)
theorem dX1_unequal_91 : decode cX1_unequal 91 = .ok (.if_icmp .ne 7, 3) := dk_160 0 7 (dk_at dksX1_unequal_3 20 rfl rfl)
theorem dX1_unequal_94 : decode cX1_unequal 94 = .ok (.iconst 0, 1) := dk_3 (dk_at dksX1_unequal_3 23 rfl rfl)
theorem dX1_unequal_95 : decode cX1_unequal 95 = .ok (.goto 7, 3) := dk_167 0 7 (dk_at dksX1_unequal_4 0 rfl rfl)
theorem dX1_unequal_98 : decode cX1_unequal 98 = .ok (.iload_n 3, 1) := dk_29 (dk_at dksX1_unequal_4 3 rfl rfl)
theorem dX1_unequal_99 : decode cX1_unequal 99 = .ok (.iload 4, 2) := dk_21 4 (dk_at dksX1_unequal_4 4 rfl rfl)
theorem dX1_unequal_101 : decode cX1_unequal 101 = .ok (.isub, 1) := dk_100 (dk_at dksX1_unequal_4 6 rfl rfl)
theorem dX1_unequal_102 : decode cX1_unequal 102 = .ok (.ireturn, 1) := dk_172 (dk_at dksX1_unequal_4 7 rfl rfl)
abbrev cX1_claimTime : ByteArray := prog_1_method_55_code
def yX1_claimTime : MethodName := ⟨RX1, "claimTime", "(I)I"⟩
def dkwX1_claimTime_1 : List UInt8 := [180, 0, 162, 100, 167, 0, 4, 2, 172]
abbrev dktX1_claimTime_1 : List UInt8 := dkwX1_claimTime_1 ++ []
def dkwX1_claimTime_0 : List UInt8 := [42, 27, 182, 0, 207, 77, 42, 44, 182, 1, 91, 153, 0, 18, 44, 180, 0, 232, 42, 180, 0, 75]
abbrev dktX1_claimTime_0 : List UInt8 := dkwX1_claimTime_0 ++ dktX1_claimTime_1
theorem dksX1_claimTime_0 : cX1_claimTime.data.toList.drop 0 = dktX1_claimTime_0 := by decide +kernel
theorem dksX1_claimTime_1 : cX1_claimTime.data.toList.drop 22 = dktX1_claimTime_1 := dk_seg dksX1_claimTime_0 22 rfl rfl
theorem dX1_claimTime_0 : decode cX1_claimTime 0 = .ok (.aload_n 0, 1) := dk_42 (dk_at dksX1_claimTime_0 0 rfl rfl)
theorem dX1_claimTime_1 : decode cX1_claimTime 1 = .ok (.iload_n 1, 1) := dk_27 (dk_at dksX1_claimTime_0 1 rfl rfl)
theorem dX1_claimTime_2 : decode cX1_claimTime 2 = .ok (.invokevirtual 207, 3) := dk_182 0 207 (dk_at dksX1_claimTime_0 2 rfl rfl)
theorem dX1_claimTime_5 : decode cX1_claimTime 5 = .ok (.astore_n 2, 1) := dk_77 (dk_at dksX1_claimTime_0 5 rfl rfl)
theorem dX1_claimTime_6 : decode cX1_claimTime 6 = .ok (.aload_n 0, 1) := dk_42 (dk_at dksX1_claimTime_0 6 rfl rfl)
theorem dX1_claimTime_7 : decode cX1_claimTime 7 = .ok (.aload_n 2, 1) := dk_44 (dk_at dksX1_claimTime_0 7 rfl rfl)
theorem dX1_claimTime_8 : decode cX1_claimTime 8 = .ok (.invokevirtual 347, 3) := dk_182 1 91 (dk_at dksX1_claimTime_0 8 rfl rfl)
theorem dX1_claimTime_11 : decode cX1_claimTime 11 = .ok (.ifCond .eq 18, 3) := dk_153 0 18 (dk_at dksX1_claimTime_0 11 rfl rfl)
theorem dX1_claimTime_14 : decode cX1_claimTime 14 = .ok (.aload_n 2, 1) := dk_44 (dk_at dksX1_claimTime_0 14 rfl rfl)
theorem dX1_claimTime_15 : decode cX1_claimTime 15 = .ok (.getfield 232, 3) := dk_180 0 232 (dk_at dksX1_claimTime_0 15 rfl rfl)
theorem dX1_claimTime_18 : decode cX1_claimTime 18 = .ok (.aload_n 0, 1) := dk_42 (dk_at dksX1_claimTime_0 18 rfl rfl)
theorem dX1_claimTime_19 : decode cX1_claimTime 19 = .ok (.getfield 75, 3) := dk_180 0 75 (dk_at dksX1_claimTime_0 19 rfl rfl)
theorem dX1_claimTime_22 : decode cX1_claimTime 22 = .ok (.getfield 162, 3) := dk_180 0 162 (dk_at dksX1_claimTime_1 0 rfl rfl)
theorem dX1_claimTime_25 : decode cX1_claimTime 25 = .ok (.isub, 1) := dk_100 (dk_at dksX1_claimTime_1 3 rfl rfl)
theorem dX1_claimTime_26 : decode cX1_claimTime 26 = .ok (.goto 4, 3) := dk_167 0 4 (dk_at dksX1_claimTime_1 4 rfl rfl)
theorem dX1_claimTime_29 : decode cX1_claimTime 29 = .ok (.iconst (-1), 1) := dk_2 (dk_at dksX1_claimTime_1 7 rfl rfl)
theorem dX1_claimTime_30 : decode cX1_claimTime 30 = .ok (.ireturn, 1) := dk_172 (dk_at dksX1_claimTime_1 8 rfl rfl)
abbrev cX1_claimCosts : ByteArray := prog_1_method_58_code
def yX1_claimCosts : MethodName := ⟨RX1, "claimCosts", "(I)I"⟩
def dkwX1_claimCosts_2 : List UInt8 := [182, 1, 99, 100, 172]
abbrev dktX1_claimCosts_2 : List UInt8 := dkwX1_claimCosts_2 ++ []
def dkwX1_claimCosts_1 : List UInt8 := [180, 0, 155, 5, 159, 0, 11, 44, 182, 1, 95, 190, 154, 0, 5, 3, 172, 44, 3, 182, 1, 99, 44, 4]
abbrev dktX1_claimCosts_1 : List UInt8 := dkwX1_claimCosts_1 ++ dktX1_claimCosts_2
def dkwX1_claimCosts_0 : List UInt8 := [42, 27, 182, 0, 207, 77, 44, 180, 0, 220, 153, 0, 27, 44, 180, 0, 155, 6, 159, 0, 19, 44]
abbrev dktX1_claimCosts_0 : List UInt8 := dkwX1_claimCosts_0 ++ dktX1_claimCosts_1
theorem dksX1_claimCosts_0 : cX1_claimCosts.data.toList.drop 0 = dktX1_claimCosts_0 := by decide +kernel
theorem dksX1_claimCosts_1 : cX1_claimCosts.data.toList.drop 22 = dktX1_claimCosts_1 := dk_seg dksX1_claimCosts_0 22 rfl rfl
theorem dksX1_claimCosts_2 : cX1_claimCosts.data.toList.drop 46 = dktX1_claimCosts_2 := dk_seg dksX1_claimCosts_1 24 rfl rfl
theorem dX1_claimCosts_0 : decode cX1_claimCosts 0 = .ok (.aload_n 0, 1) := dk_42 (dk_at dksX1_claimCosts_0 0 rfl rfl)
theorem dX1_claimCosts_1 : decode cX1_claimCosts 1 = .ok (.iload_n 1, 1) := dk_27 (dk_at dksX1_claimCosts_0 1 rfl rfl)
theorem dX1_claimCosts_2 : decode cX1_claimCosts 2 = .ok (.invokevirtual 207, 3) := dk_182 0 207 (dk_at dksX1_claimCosts_0 2 rfl rfl)
theorem dX1_claimCosts_5 : decode cX1_claimCosts 5 = .ok (.astore_n 2, 1) := dk_77 (dk_at dksX1_claimCosts_0 5 rfl rfl)
theorem dX1_claimCosts_6 : decode cX1_claimCosts 6 = .ok (.aload_n 2, 1) := dk_44 (dk_at dksX1_claimCosts_0 6 rfl rfl)
theorem dX1_claimCosts_7 : decode cX1_claimCosts 7 = .ok (.getfield 220, 3) := dk_180 0 220 (dk_at dksX1_claimCosts_0 7 rfl rfl)
theorem dX1_claimCosts_10 : decode cX1_claimCosts 10 = .ok (.ifCond .eq 27, 3) := dk_153 0 27 (dk_at dksX1_claimCosts_0 10 rfl rfl)
theorem dX1_claimCosts_13 : decode cX1_claimCosts 13 = .ok (.aload_n 2, 1) := dk_44 (dk_at dksX1_claimCosts_0 13 rfl rfl)
theorem dX1_claimCosts_14 : decode cX1_claimCosts 14 = .ok (.getfield 155, 3) := dk_180 0 155 (dk_at dksX1_claimCosts_0 14 rfl rfl)
theorem dX1_claimCosts_17 : decode cX1_claimCosts 17 = .ok (.iconst 3, 1) := dk_6 (dk_at dksX1_claimCosts_0 17 rfl rfl)
theorem dX1_claimCosts_18 : decode cX1_claimCosts 18 = .ok (.if_icmp .eq 19, 3) := dk_159 0 19 (dk_at dksX1_claimCosts_0 18 rfl rfl)
theorem dX1_claimCosts_21 : decode cX1_claimCosts 21 = .ok (.aload_n 2, 1) := dk_44 (dk_at dksX1_claimCosts_0 21 rfl rfl)
theorem dX1_claimCosts_22 : decode cX1_claimCosts 22 = .ok (.getfield 155, 3) := dk_180 0 155 (dk_at dksX1_claimCosts_1 0 rfl rfl)
theorem dX1_claimCosts_25 : decode cX1_claimCosts 25 = .ok (.iconst 2, 1) := dk_5 (dk_at dksX1_claimCosts_1 3 rfl rfl)
theorem dX1_claimCosts_26 : decode cX1_claimCosts 26 = .ok (.if_icmp .eq 11, 3) := dk_159 0 11 (dk_at dksX1_claimCosts_1 4 rfl rfl)
theorem dX1_claimCosts_29 : decode cX1_claimCosts 29 = .ok (.aload_n 2, 1) := dk_44 (dk_at dksX1_claimCosts_1 7 rfl rfl)
theorem dX1_claimCosts_30 : decode cX1_claimCosts 30 = .ok (.invokevirtual 351, 3) := dk_182 1 95 (dk_at dksX1_claimCosts_1 8 rfl rfl)
theorem dX1_claimCosts_33 : decode cX1_claimCosts 33 = .ok (.arraylength, 1) := dk_190 (dk_at dksX1_claimCosts_1 11 rfl rfl)
theorem dX1_claimCosts_34 : decode cX1_claimCosts 34 = .ok (.ifCond .ne 5, 3) := dk_154 0 5 (dk_at dksX1_claimCosts_1 12 rfl rfl)
theorem dX1_claimCosts_37 : decode cX1_claimCosts 37 = .ok (.iconst 0, 1) := dk_3 (dk_at dksX1_claimCosts_1 15 rfl rfl)
theorem dX1_claimCosts_38 : decode cX1_claimCosts 38 = .ok (.ireturn, 1) := dk_172 (dk_at dksX1_claimCosts_1 16 rfl rfl)
theorem dX1_claimCosts_39 : decode cX1_claimCosts 39 = .ok (.aload_n 2, 1) := dk_44 (dk_at dksX1_claimCosts_1 17 rfl rfl)
theorem dX1_claimCosts_40 : decode cX1_claimCosts 40 = .ok (.iconst 0, 1) := dk_3 (dk_at dksX1_claimCosts_1 18 rfl rfl)
theorem dX1_claimCosts_41 : decode cX1_claimCosts 41 = .ok (.invokevirtual 355, 3) := dk_182 1 99 (dk_at dksX1_claimCosts_1 19 rfl rfl)
theorem dX1_claimCosts_44 : decode cX1_claimCosts 44 = .ok (.aload_n 2, 1) := dk_44 (dk_at dksX1_claimCosts_1 22 rfl rfl)
theorem dX1_claimCosts_45 : decode cX1_claimCosts 45 = .ok (.iconst 1, 1) := dk_4 (dk_at dksX1_claimCosts_1 23 rfl rfl)
theorem dX1_claimCosts_46 : decode cX1_claimCosts 46 = .ok (.invokevirtual 355, 3) := dk_182 1 99 (dk_at dksX1_claimCosts_2 0 rfl rfl)
theorem dX1_claimCosts_49 : decode cX1_claimCosts 49 = .ok (.isub, 1) := dk_100 (dk_at dksX1_claimCosts_2 3 rfl rfl)
theorem dX1_claimCosts_50 : decode cX1_claimCosts 50 = .ok (.ireturn, 1) := dk_172 (dk_at dksX1_claimCosts_2 4 rfl rfl)
abbrev cX1_purseIf : ByteArray := prog_1_method_59_code
def yX1_purseIf : MethodName := ⟨RX1, "purseIf", "(I)I"⟩
def dkwX1_purseIf_3 : List UInt8 := [167, 255, 214, 28, 172]
abbrev dktX1_purseIf_3 : List UInt8 := dkwX1_purseIf_3 ++ []
def dkwX1_purseIf_2 : List UInt8 := [58, 4, 28, 25, 4, 180, 0, 155, 4, 160, 0, 12, 25, 4, 27, 184, 1, 37, 167, 0, 4, 3, 96, 61]
abbrev dktX1_purseIf_2 : List UInt8 := dkwX1_purseIf_2 ++ dktX1_purseIf_3
def dkwX1_purseIf_1 : List UInt8 := [185, 0, 141, 1, 0, 78, 45, 185, 0, 145, 1, 0, 153, 0, 39, 45, 185, 0, 151, 1, 0, 192, 0, 43]
abbrev dktX1_purseIf_1 : List UInt8 := dkwX1_purseIf_1 ++ dktX1_purseIf_2
def dkwX1_purseIf_0 : List UInt8 := [42, 27, 182, 0, 253, 42, 180, 0, 75, 180, 0, 178, 27, 46, 61, 42, 180, 0, 75, 180, 0, 10]
abbrev dktX1_purseIf_0 : List UInt8 := dkwX1_purseIf_0 ++ dktX1_purseIf_1
theorem dksX1_purseIf_0 : cX1_purseIf.data.toList.drop 0 = dktX1_purseIf_0 := by decide +kernel
theorem dksX1_purseIf_1 : cX1_purseIf.data.toList.drop 22 = dktX1_purseIf_1 := dk_seg dksX1_purseIf_0 22 rfl rfl
theorem dksX1_purseIf_2 : cX1_purseIf.data.toList.drop 46 = dktX1_purseIf_2 := dk_seg dksX1_purseIf_1 24 rfl rfl
theorem dksX1_purseIf_3 : cX1_purseIf.data.toList.drop 70 = dktX1_purseIf_3 := dk_seg dksX1_purseIf_2 24 rfl rfl
theorem dX1_purseIf_0 : decode cX1_purseIf 0 = .ok (.aload_n 0, 1) := dk_42 (dk_at dksX1_purseIf_0 0 rfl rfl)
theorem dX1_purseIf_1 : decode cX1_purseIf 1 = .ok (.iload_n 1, 1) := dk_27 (dk_at dksX1_purseIf_0 1 rfl rfl)
theorem dX1_purseIf_2 : decode cX1_purseIf 2 = .ok (.invokevirtual 253, 3) := dk_182 0 253 (dk_at dksX1_purseIf_0 2 rfl rfl)
theorem dX1_purseIf_5 : decode cX1_purseIf 5 = .ok (.aload_n 0, 1) := dk_42 (dk_at dksX1_purseIf_0 5 rfl rfl)
theorem dX1_purseIf_6 : decode cX1_purseIf 6 = .ok (.getfield 75, 3) := dk_180 0 75 (dk_at dksX1_purseIf_0 6 rfl rfl)
theorem dX1_purseIf_9 : decode cX1_purseIf 9 = .ok (.getfield 178, 3) := dk_180 0 178 (dk_at dksX1_purseIf_0 9 rfl rfl)
theorem dX1_purseIf_12 : decode cX1_purseIf 12 = .ok (.iload_n 1, 1) := dk_27 (dk_at dksX1_purseIf_0 12 rfl rfl)
theorem dX1_purseIf_13 : decode cX1_purseIf 13 = .ok (.iaload, 1) := dk_46 (dk_at dksX1_purseIf_0 13 rfl rfl)
theorem dX1_purseIf_14 : decode cX1_purseIf 14 = .ok (.istore_n 2, 1) := dk_61 (dk_at dksX1_purseIf_0 14 rfl rfl)
theorem dX1_purseIf_15 : decode cX1_purseIf 15 = .ok (.aload_n 0, 1) := dk_42 (dk_at dksX1_purseIf_0 15 rfl rfl)
theorem dX1_purseIf_16 : decode cX1_purseIf 16 = .ok (.getfield 75, 3) := dk_180 0 75 (dk_at dksX1_purseIf_0 16 rfl rfl)
theorem dX1_purseIf_19 : decode cX1_purseIf 19 = .ok (.getfield 10, 3) := dk_180 0 10 (dk_at dksX1_purseIf_0 19 rfl rfl)
theorem dX1_purseIf_22 : decode cX1_purseIf 22 = .ok (.invokeinterface 141 1, 5) := by decide +kernel
theorem dX1_purseIf_27 : decode cX1_purseIf 27 = .ok (.astore_n 3, 1) := dk_78 (dk_at dksX1_purseIf_1 5 rfl rfl)
theorem dX1_purseIf_28 : decode cX1_purseIf 28 = .ok (.aload_n 3, 1) := dk_45 (dk_at dksX1_purseIf_1 6 rfl rfl)
theorem dX1_purseIf_29 : decode cX1_purseIf 29 = .ok (.invokeinterface 145 1, 5) := by decide +kernel
theorem dX1_purseIf_34 : decode cX1_purseIf 34 = .ok (.ifCond .eq 39, 3) := dk_153 0 39 (dk_at dksX1_purseIf_1 12 rfl rfl)
theorem dX1_purseIf_37 : decode cX1_purseIf 37 = .ok (.aload_n 3, 1) := dk_45 (dk_at dksX1_purseIf_1 15 rfl rfl)
theorem dX1_purseIf_38 : decode cX1_purseIf 38 = .ok (.invokeinterface 151 1, 5) := by decide +kernel
theorem dX1_purseIf_43 : decode cX1_purseIf 43 = .ok (.checkcast 43, 3) := dk_192 0 43 (dk_at dksX1_purseIf_1 21 rfl rfl)
theorem dX1_purseIf_46 : decode cX1_purseIf 46 = .ok (.astore 4, 2) := dk_58 4 (dk_at dksX1_purseIf_2 0 rfl rfl)
theorem dX1_purseIf_48 : decode cX1_purseIf 48 = .ok (.iload_n 2, 1) := dk_28 (dk_at dksX1_purseIf_2 2 rfl rfl)
theorem dX1_purseIf_49 : decode cX1_purseIf 49 = .ok (.aload 4, 2) := dk_25 4 (dk_at dksX1_purseIf_2 3 rfl rfl)
theorem dX1_purseIf_51 : decode cX1_purseIf 51 = .ok (.getfield 155, 3) := dk_180 0 155 (dk_at dksX1_purseIf_2 5 rfl rfl)
theorem dX1_purseIf_54 : decode cX1_purseIf 54 = .ok (.iconst 1, 1) := dk_4 (dk_at dksX1_purseIf_2 8 rfl rfl)
theorem dX1_purseIf_55 : decode cX1_purseIf 55 = .ok (.if_icmp .ne 12, 3) := dk_160 0 12 (dk_at dksX1_purseIf_2 9 rfl rfl)
theorem dX1_purseIf_58 : decode cX1_purseIf 58 = .ok (.aload 4, 2) := dk_25 4 (dk_at dksX1_purseIf_2 12 rfl rfl)
theorem dX1_purseIf_60 : decode cX1_purseIf 60 = .ok (.iload_n 1, 1) := dk_27 (dk_at dksX1_purseIf_2 14 rfl rfl)
theorem dX1_purseIf_61 : decode cX1_purseIf 61 = .ok (.invokestatic 293, 3) := dk_184 1 37 (dk_at dksX1_purseIf_2 15 rfl rfl)
theorem dX1_purseIf_64 : decode cX1_purseIf 64 = .ok (.goto 4, 3) := dk_167 0 4 (dk_at dksX1_purseIf_2 18 rfl rfl)
theorem dX1_purseIf_67 : decode cX1_purseIf 67 = .ok (.iconst 0, 1) := dk_3 (dk_at dksX1_purseIf_2 21 rfl rfl)
theorem dX1_purseIf_68 : decode cX1_purseIf 68 = .ok (.iadd, 1) := dk_96 (dk_at dksX1_purseIf_2 22 rfl rfl)
theorem dX1_purseIf_69 : decode cX1_purseIf 69 = .ok (.istore_n 2, 1) := dk_61 (dk_at dksX1_purseIf_2 23 rfl rfl)
theorem dX1_purseIf_70 : decode cX1_purseIf 70 = .ok (.goto (-42), 3) := dk_167 255 214 (dk_at dksX1_purseIf_3 0 rfl rfl)
theorem dX1_purseIf_73 : decode cX1_purseIf 73 = .ok (.iload_n 2, 1) := dk_28 (dk_at dksX1_purseIf_3 3 rfl rfl)
theorem dX1_purseIf_74 : decode cX1_purseIf 74 = .ok (.ireturn, 1) := dk_172 (dk_at dksX1_purseIf_3 4 rfl rfl)
abbrev cX1_why : ByteArray := prog_1_method_60_code
def yX1_why : MethodName := ⟨RX1, "why", "(I)I"⟩
def dkwX1_why_0 : List UInt8 := [42, 180, 0, 75, 42, 27, 182, 0, 207, 182, 1, 102, 172]
abbrev dktX1_why_0 : List UInt8 := dkwX1_why_0 ++ []
theorem dksX1_why_0 : cX1_why.data.toList.drop 0 = dktX1_why_0 := by decide +kernel
theorem dX1_why_0 : decode cX1_why 0 = .ok (.aload_n 0, 1) := dk_42 (dk_at dksX1_why_0 0 rfl rfl)
theorem dX1_why_1 : decode cX1_why 1 = .ok (.getfield 75, 3) := dk_180 0 75 (dk_at dksX1_why_0 1 rfl rfl)
theorem dX1_why_4 : decode cX1_why 4 = .ok (.aload_n 0, 1) := dk_42 (dk_at dksX1_why_0 4 rfl rfl)
theorem dX1_why_5 : decode cX1_why 5 = .ok (.iload_n 1, 1) := dk_27 (dk_at dksX1_why_0 5 rfl rfl)
theorem dX1_why_6 : decode cX1_why 6 = .ok (.invokevirtual 207, 3) := dk_182 0 207 (dk_at dksX1_why_0 6 rfl rfl)
theorem dX1_why_9 : decode cX1_why 9 = .ok (.invokevirtual 358, 3) := dk_182 1 102 (dk_at dksX1_why_0 9 rfl rfl)
theorem dX1_why_12 : decode cX1_why 12 = .ok (.ireturn, 1) := dk_172 (dk_at dksX1_why_0 12 rfl rfl)
abbrev cX1_cause : ByteArray := prog_1_method_61_code
def yX1_cause : MethodName := ⟨RX1, "cause", "(I)I"⟩
def dkwX1_cause_3 : List UInt8 := [180, 0, 235, 182, 0, 239, 100, 167, 0, 4, 2, 172]
abbrev dktX1_cause_3 : List UInt8 := dkwX1_cause_3 ++ []
def dkwX1_cause_2 : List UInt8 := [44, 180, 0, 155, 167, 0, 30, 42, 180, 0, 75, 44, 182, 1, 48, 167, 0, 19, 44, 180, 0, 226, 44]
abbrev dktX1_cause_2 : List UInt8 := dkwX1_cause_2 ++ dktX1_cause_3
def dkwX1_cause_1 : List UInt8 := [170, 0, 0, 0, 0, 59, 255, 255, 255, 252, 255, 255, 255, 254, 0, 0, 0, 44, 0, 0, 0, 33, 0, 0, 0, 26]
abbrev dktX1_cause_1 : List UInt8 := dkwX1_cause_1 ++ dktX1_cause_2
def dkwX1_cause_0 : List UInt8 := [42, 27, 182, 0, 207, 77, 42, 180, 0, 75, 44, 182, 1, 102]
abbrev dktX1_cause_0 : List UInt8 := dkwX1_cause_0 ++ dktX1_cause_1
theorem dksX1_cause_0 : cX1_cause.data.toList.drop 0 = dktX1_cause_0 := by decide +kernel
theorem dksX1_cause_1 : cX1_cause.data.toList.drop 14 = dktX1_cause_1 := dk_seg dksX1_cause_0 14 rfl rfl
theorem dksX1_cause_2 : cX1_cause.data.toList.drop 40 = dktX1_cause_2 := dk_seg dksX1_cause_1 26 rfl rfl
theorem dksX1_cause_3 : cX1_cause.data.toList.drop 63 = dktX1_cause_3 := dk_seg dksX1_cause_2 23 rfl rfl
theorem dX1_cause_0 : decode cX1_cause 0 = .ok (.aload_n 0, 1) := dk_42 (dk_at dksX1_cause_0 0 rfl rfl)
theorem dX1_cause_1 : decode cX1_cause 1 = .ok (.iload_n 1, 1) := dk_27 (dk_at dksX1_cause_0 1 rfl rfl)
theorem dX1_cause_2 : decode cX1_cause 2 = .ok (.invokevirtual 207, 3) := dk_182 0 207 (dk_at dksX1_cause_0 2 rfl rfl)
theorem dX1_cause_5 : decode cX1_cause 5 = .ok (.astore_n 2, 1) := dk_77 (dk_at dksX1_cause_0 5 rfl rfl)
theorem dX1_cause_6 : decode cX1_cause 6 = .ok (.aload_n 0, 1) := dk_42 (dk_at dksX1_cause_0 6 rfl rfl)
theorem dX1_cause_7 : decode cX1_cause 7 = .ok (.getfield 75, 3) := dk_180 0 75 (dk_at dksX1_cause_0 7 rfl rfl)
theorem dX1_cause_10 : decode cX1_cause 10 = .ok (.aload_n 2, 1) := dk_44 (dk_at dksX1_cause_0 10 rfl rfl)
theorem dX1_cause_11 : decode cX1_cause 11 = .ok (.invokevirtual 358, 3) := dk_182 1 102 (dk_at dksX1_cause_0 11 rfl rfl)
theorem dX1_cause_14 : decode cX1_cause 14 = .ok (.tableswitch 59 (-4) (-2) #[44, 33, 26], 26) := by decide +kernel
theorem dX1_cause_40 : decode cX1_cause 40 = .ok (.aload_n 2, 1) := dk_44 (dk_at dksX1_cause_2 0 rfl rfl)
theorem dX1_cause_41 : decode cX1_cause 41 = .ok (.getfield 155, 3) := dk_180 0 155 (dk_at dksX1_cause_2 1 rfl rfl)
theorem dX1_cause_44 : decode cX1_cause 44 = .ok (.goto 30, 3) := dk_167 0 30 (dk_at dksX1_cause_2 4 rfl rfl)
theorem dX1_cause_47 : decode cX1_cause 47 = .ok (.aload_n 0, 1) := dk_42 (dk_at dksX1_cause_2 7 rfl rfl)
theorem dX1_cause_48 : decode cX1_cause 48 = .ok (.getfield 75, 3) := dk_180 0 75 (dk_at dksX1_cause_2 8 rfl rfl)
theorem dX1_cause_51 : decode cX1_cause 51 = .ok (.aload_n 2, 1) := dk_44 (dk_at dksX1_cause_2 11 rfl rfl)
theorem dX1_cause_52 : decode cX1_cause 52 = .ok (.invokevirtual 304, 3) := dk_182 1 48 (dk_at dksX1_cause_2 12 rfl rfl)
theorem dX1_cause_55 : decode cX1_cause 55 = .ok (.goto 19, 3) := dk_167 0 19 (dk_at dksX1_cause_2 15 rfl rfl)
theorem dX1_cause_58 : decode cX1_cause 58 = .ok (.aload_n 2, 1) := dk_44 (dk_at dksX1_cause_2 18 rfl rfl)
theorem dX1_cause_59 : decode cX1_cause 59 = .ok (.getfield 226, 3) := dk_180 0 226 (dk_at dksX1_cause_2 19 rfl rfl)
theorem dX1_cause_62 : decode cX1_cause 62 = .ok (.aload_n 2, 1) := dk_44 (dk_at dksX1_cause_2 22 rfl rfl)
theorem dX1_cause_63 : decode cX1_cause 63 = .ok (.getfield 235, 3) := dk_180 0 235 (dk_at dksX1_cause_3 0 rfl rfl)
theorem dX1_cause_66 : decode cX1_cause 66 = .ok (.invokevirtual 239, 3) := dk_182 0 239 (dk_at dksX1_cause_3 3 rfl rfl)
theorem dX1_cause_69 : decode cX1_cause 69 = .ok (.isub, 1) := dk_100 (dk_at dksX1_cause_3 6 rfl rfl)
theorem dX1_cause_70 : decode cX1_cause 70 = .ok (.goto 4, 3) := dk_167 0 4 (dk_at dksX1_cause_3 7 rfl rfl)
theorem dX1_cause_73 : decode cX1_cause 73 = .ok (.iconst (-1), 1) := dk_2 (dk_at dksX1_cause_3 10 rfl rfl)
theorem dX1_cause_74 : decode cX1_cause 74 = .ok (.ireturn, 1) := dk_172 (dk_at dksX1_cause_3 11 rfl rfl)
abbrev cX1_whyDivide : ByteArray := prog_1_method_62_code
def yX1_whyDivide : MethodName := ⟨RX1, "whyDivide", "(I)I"⟩
def dkwX1_whyDivide_0 : List UInt8 := [42, 180, 0, 75, 42, 27, 182, 0, 207, 182, 1, 105, 172]
abbrev dktX1_whyDivide_0 : List UInt8 := dkwX1_whyDivide_0 ++ []
theorem dksX1_whyDivide_0 : cX1_whyDivide.data.toList.drop 0 = dktX1_whyDivide_0 := by decide +kernel
theorem dX1_whyDivide_0 : decode cX1_whyDivide 0 = .ok (.aload_n 0, 1) := dk_42 (dk_at dksX1_whyDivide_0 0 rfl rfl)
theorem dX1_whyDivide_1 : decode cX1_whyDivide 1 = .ok (.getfield 75, 3) := dk_180 0 75 (dk_at dksX1_whyDivide_0 1 rfl rfl)
theorem dX1_whyDivide_4 : decode cX1_whyDivide 4 = .ok (.aload_n 0, 1) := dk_42 (dk_at dksX1_whyDivide_0 4 rfl rfl)
theorem dX1_whyDivide_5 : decode cX1_whyDivide 5 = .ok (.iload_n 1, 1) := dk_27 (dk_at dksX1_whyDivide_0 5 rfl rfl)
theorem dX1_whyDivide_6 : decode cX1_whyDivide 6 = .ok (.invokevirtual 207, 3) := dk_182 0 207 (dk_at dksX1_whyDivide_0 6 rfl rfl)
theorem dX1_whyDivide_9 : decode cX1_whyDivide 9 = .ok (.invokevirtual 361, 3) := dk_182 1 105 (dk_at dksX1_whyDivide_0 9 rfl rfl)
theorem dX1_whyDivide_12 : decode cX1_whyDivide 12 = .ok (.ireturn, 1) := dk_172 (dk_at dksX1_whyDivide_0 12 rfl rfl)
abbrev cX1_rope : ByteArray := prog_1_method_68_code
def yX1_rope : MethodName := ⟨RX1, "rope", "(II)I"⟩
def dkwX1_rope_0 : List UInt8 := [42, 27, 182, 0, 253, 42, 28, 182, 0, 207, 78, 42, 27, 28, 184, 1, 128, 182, 1, 131, 172]
abbrev dktX1_rope_0 : List UInt8 := dkwX1_rope_0 ++ []
theorem dksX1_rope_0 : cX1_rope.data.toList.drop 0 = dktX1_rope_0 := by decide +kernel
theorem dX1_rope_0 : decode cX1_rope 0 = .ok (.aload_n 0, 1) := dk_42 (dk_at dksX1_rope_0 0 rfl rfl)
theorem dX1_rope_1 : decode cX1_rope 1 = .ok (.iload_n 1, 1) := dk_27 (dk_at dksX1_rope_0 1 rfl rfl)
theorem dX1_rope_2 : decode cX1_rope 2 = .ok (.invokevirtual 253, 3) := dk_182 0 253 (dk_at dksX1_rope_0 2 rfl rfl)
theorem dX1_rope_5 : decode cX1_rope 5 = .ok (.aload_n 0, 1) := dk_42 (dk_at dksX1_rope_0 5 rfl rfl)
theorem dX1_rope_6 : decode cX1_rope 6 = .ok (.iload_n 2, 1) := dk_28 (dk_at dksX1_rope_0 6 rfl rfl)
theorem dX1_rope_7 : decode cX1_rope 7 = .ok (.invokevirtual 207, 3) := dk_182 0 207 (dk_at dksX1_rope_0 7 rfl rfl)
theorem dX1_rope_10 : decode cX1_rope 10 = .ok (.astore_n 3, 1) := dk_78 (dk_at dksX1_rope_0 10 rfl rfl)
theorem dX1_rope_11 : decode cX1_rope 11 = .ok (.aload_n 0, 1) := dk_42 (dk_at dksX1_rope_0 11 rfl rfl)
theorem dX1_rope_12 : decode cX1_rope 12 = .ok (.iload_n 1, 1) := dk_27 (dk_at dksX1_rope_0 12 rfl rfl)
theorem dX1_rope_13 : decode cX1_rope 13 = .ok (.iload_n 2, 1) := dk_28 (dk_at dksX1_rope_0 13 rfl rfl)
theorem dX1_rope_14 : decode cX1_rope 14 = .ok (.invokestatic 384, 3) := dk_184 1 128 (dk_at dksX1_rope_0 14 rfl rfl)
theorem dX1_rope_17 : decode cX1_rope 17 = .ok (.invokevirtual 387, 3) := dk_182 1 131 (dk_at dksX1_rope_0 17 rfl rfl)
theorem dX1_rope_20 : decode cX1_rope 20 = .ok (.ireturn, 1) := dk_172 (dk_at dksX1_rope_0 20 rfl rfl)
abbrev cX1_roping : ByteArray := prog_1_method_6_code
def yX1_roping : MethodName := ⟨RX1, "roping", "(II)LWreckShares$Deed;"⟩
def dkwX1_roping_0 : List UInt8 := [26, 27, 186, 0, 22, 0, 0, 176]
abbrev dktX1_roping_0 : List UInt8 := dkwX1_roping_0 ++ []
theorem dksX1_roping_0 : cX1_roping.data.toList.drop 0 = dktX1_roping_0 := by decide +kernel
theorem dX1_roping_0 : decode cX1_roping 0 = .ok (.iload_n 0, 1) := dk_26 (dk_at dksX1_roping_0 0 rfl rfl)
theorem dX1_roping_1 : decode cX1_roping 1 = .ok (.iload_n 1, 1) := dk_27 (dk_at dksX1_roping_0 1 rfl rfl)
theorem dX1_roping_2 : decode cX1_roping 2 = .ok (.invokedynamic 22, 5) := by decide +kernel
theorem dX1_roping_7 : decode cX1_roping 7 = .ok (.areturn, 1) := dk_176 (dk_at dksX1_roping_0 7 rfl rfl)
abbrev cX1_lambda_roping_0 : ByteArray := prog_1_method_95_code
def yX1_lambda_roping_0 : MethodName := ⟨RX1, "lambda$roping$0", "(IILWreckShares$Shore;)I"⟩
def dkwX1_lambda_roping_0_1 : List UInt8 := [182, 1, 234, 167, 0, 5, 16, 247, 172]
abbrev dktX1_lambda_roping_0_1 : List UInt8 := dkwX1_lambda_roping_0_1 ++ []
def dkwX1_lambda_roping_0_0 : List UInt8 := [26, 44, 180, 0, 178, 190, 162, 0, 24, 44, 27, 184, 1, 211, 153, 0, 16, 44, 26, 44, 27, 182, 0, 203]
abbrev dktX1_lambda_roping_0_0 : List UInt8 := dkwX1_lambda_roping_0_0 ++ dktX1_lambda_roping_0_1
theorem dksX1_lambda_roping_0_0 : cX1_lambda_roping_0.data.toList.drop 0 = dktX1_lambda_roping_0_0 := by decide +kernel
theorem dksX1_lambda_roping_0_1 : cX1_lambda_roping_0.data.toList.drop 24 = dktX1_lambda_roping_0_1 := dk_seg dksX1_lambda_roping_0_0 24 rfl rfl
theorem dX1_lambda_roping_0_0 : decode cX1_lambda_roping_0 0 = .ok (.iload_n 0, 1) := dk_26 (dk_at dksX1_lambda_roping_0_0 0 rfl rfl)
theorem dX1_lambda_roping_0_1 : decode cX1_lambda_roping_0 1 = .ok (.aload_n 2, 1) := dk_44 (dk_at dksX1_lambda_roping_0_0 1 rfl rfl)
theorem dX1_lambda_roping_0_2 : decode cX1_lambda_roping_0 2 = .ok (.getfield 178, 3) := dk_180 0 178 (dk_at dksX1_lambda_roping_0_0 2 rfl rfl)
theorem dX1_lambda_roping_0_5 : decode cX1_lambda_roping_0 5 = .ok (.arraylength, 1) := dk_190 (dk_at dksX1_lambda_roping_0_0 5 rfl rfl)
theorem dX1_lambda_roping_0_6 : decode cX1_lambda_roping_0 6 = .ok (.if_icmp .ge 24, 3) := dk_162 0 24 (dk_at dksX1_lambda_roping_0_0 6 rfl rfl)
theorem dX1_lambda_roping_0_9 : decode cX1_lambda_roping_0 9 = .ok (.aload_n 2, 1) := dk_44 (dk_at dksX1_lambda_roping_0_0 9 rfl rfl)
theorem dX1_lambda_roping_0_10 : decode cX1_lambda_roping_0 10 = .ok (.iload_n 1, 1) := dk_27 (dk_at dksX1_lambda_roping_0_0 10 rfl rfl)
theorem dX1_lambda_roping_0_11 : decode cX1_lambda_roping_0 11 = .ok (.invokestatic 467, 3) := dk_184 1 211 (dk_at dksX1_lambda_roping_0_0 11 rfl rfl)
theorem dX1_lambda_roping_0_14 : decode cX1_lambda_roping_0 14 = .ok (.ifCond .eq 16, 3) := dk_153 0 16 (dk_at dksX1_lambda_roping_0_0 14 rfl rfl)
theorem dX1_lambda_roping_0_17 : decode cX1_lambda_roping_0 17 = .ok (.aload_n 2, 1) := dk_44 (dk_at dksX1_lambda_roping_0_0 17 rfl rfl)
theorem dX1_lambda_roping_0_18 : decode cX1_lambda_roping_0 18 = .ok (.iload_n 0, 1) := dk_26 (dk_at dksX1_lambda_roping_0_0 18 rfl rfl)
theorem dX1_lambda_roping_0_19 : decode cX1_lambda_roping_0 19 = .ok (.aload_n 2, 1) := dk_44 (dk_at dksX1_lambda_roping_0_0 19 rfl rfl)
theorem dX1_lambda_roping_0_20 : decode cX1_lambda_roping_0 20 = .ok (.iload_n 1, 1) := dk_27 (dk_at dksX1_lambda_roping_0_0 20 rfl rfl)
theorem dX1_lambda_roping_0_21 : decode cX1_lambda_roping_0 21 = .ok (.invokevirtual 203, 3) := dk_182 0 203 (dk_at dksX1_lambda_roping_0_0 21 rfl rfl)
theorem dX1_lambda_roping_0_24 : decode cX1_lambda_roping_0 24 = .ok (.invokevirtual 490, 3) := dk_182 1 234 (dk_at dksX1_lambda_roping_0_1 0 rfl rfl)
theorem dX1_lambda_roping_0_27 : decode cX1_lambda_roping_0 27 = .ok (.goto 5, 3) := dk_167 0 5 (dk_at dksX1_lambda_roping_0_1 3 rfl rfl)
theorem dX1_lambda_roping_0_30 : decode cX1_lambda_roping_0 30 = .ok (.bipush (-9), 2) := dk_16 247 (dk_at dksX1_lambda_roping_0_1 6 rfl rfl)
theorem dX1_lambda_roping_0_32 : decode cX1_lambda_roping_0 32 = .ok (.ireturn, 1) := dk_172 (dk_at dksX1_lambda_roping_0_1 8 rfl rfl)
abbrev cX1_isGood : ByteArray := prog_1_method_5_code
def yX1_isGood : MethodName := ⟨RX1, "isGood", "(LWreckShares$Shore;I)Z"⟩
def dkwX1_isGood_0 : List UInt8 := [27, 42, 180, 0, 10, 185, 0, 16, 1, 0, 162, 0, 7, 4, 167, 0, 4, 3, 172]
abbrev dktX1_isGood_0 : List UInt8 := dkwX1_isGood_0 ++ []
theorem dksX1_isGood_0 : cX1_isGood.data.toList.drop 0 = dktX1_isGood_0 := by decide +kernel
theorem dX1_isGood_0 : decode cX1_isGood 0 = .ok (.iload_n 1, 1) := dk_27 (dk_at dksX1_isGood_0 0 rfl rfl)
theorem dX1_isGood_1 : decode cX1_isGood 1 = .ok (.aload_n 0, 1) := dk_42 (dk_at dksX1_isGood_0 1 rfl rfl)
theorem dX1_isGood_2 : decode cX1_isGood 2 = .ok (.getfield 10, 3) := dk_180 0 10 (dk_at dksX1_isGood_0 2 rfl rfl)
theorem dX1_isGood_5 : decode cX1_isGood 5 = .ok (.invokeinterface 16 1, 5) := by decide +kernel
theorem dX1_isGood_10 : decode cX1_isGood 10 = .ok (.if_icmp .ge 7, 3) := dk_162 0 7 (dk_at dksX1_isGood_0 10 rfl rfl)
theorem dX1_isGood_13 : decode cX1_isGood 13 = .ok (.iconst 1, 1) := dk_4 (dk_at dksX1_isGood_0 13 rfl rfl)
theorem dX1_isGood_14 : decode cX1_isGood 14 = .ok (.goto 4, 3) := dk_167 0 4 (dk_at dksX1_isGood_0 14 rfl rfl)
theorem dX1_isGood_17 : decode cX1_isGood 17 = .ok (.iconst 0, 1) := dk_3 (dk_at dksX1_isGood_0 17 rfl rfl)
theorem dX1_isGood_18 : decode cX1_isGood 18 = .ok (.ireturn, 1) := dk_172 (dk_at dksX1_isGood_0 18 rfl rfl)
abbrev cX1_off : ByteArray := prog_1_method_69_code
def yX1_off : MethodName := ⟨RX1, "off", "(I)I"⟩
def dkwX1_off_0 : List UInt8 := [42, 27, 182, 0, 253, 42, 27, 184, 1, 135, 182, 1, 131, 172]
abbrev dktX1_off_0 : List UInt8 := dkwX1_off_0 ++ []
theorem dksX1_off_0 : cX1_off.data.toList.drop 0 = dktX1_off_0 := by decide +kernel
theorem dX1_off_0 : decode cX1_off 0 = .ok (.aload_n 0, 1) := dk_42 (dk_at dksX1_off_0 0 rfl rfl)
theorem dX1_off_1 : decode cX1_off 1 = .ok (.iload_n 1, 1) := dk_27 (dk_at dksX1_off_0 1 rfl rfl)
theorem dX1_off_2 : decode cX1_off 2 = .ok (.invokevirtual 253, 3) := dk_182 0 253 (dk_at dksX1_off_0 2 rfl rfl)
theorem dX1_off_5 : decode cX1_off 5 = .ok (.aload_n 0, 1) := dk_42 (dk_at dksX1_off_0 5 rfl rfl)
theorem dX1_off_6 : decode cX1_off 6 = .ok (.iload_n 1, 1) := dk_27 (dk_at dksX1_off_0 6 rfl rfl)
theorem dX1_off_7 : decode cX1_off 7 = .ok (.invokestatic 391, 3) := dk_184 1 135 (dk_at dksX1_off_0 7 rfl rfl)
theorem dX1_off_10 : decode cX1_off 10 = .ok (.invokevirtual 387, 3) := dk_182 1 131 (dk_at dksX1_off_0 10 rfl rfl)
theorem dX1_off_13 : decode cX1_off 13 = .ok (.ireturn, 1) := dk_172 (dk_at dksX1_off_0 13 rfl rfl)
abbrev cX1_letting : ByteArray := prog_1_method_7_code
def yX1_letting : MethodName := ⟨RX1, "letting", "(I)LWreckShares$Deed;"⟩
theorem dX1_letting_0 : decode cX1_letting 0 = .ok (.iload_n 0, 1) := by decide +kernel
theorem dX1_letting_1 : decode cX1_letting 1 = .ok (.invokedynamic 26, 5) := by decide +kernel
theorem dX1_letting_6 : decode cX1_letting 6 = .ok (.areturn, 1) := by decide +kernel
abbrev cX1_lambda_letting_1 : ByteArray := prog_1_method_94_code
def yX1_lambda_letting_1 : MethodName := ⟨RX1, "lambda$letting$1", "(ILWreckShares$Shore;)I"⟩
def dkwX1_lambda_letting_1_0 : List UInt8 := [26, 43, 180, 0, 178, 190, 162, 0, 11, 43, 26, 182, 1, 231, 167, 0, 5, 16, 247, 172]
abbrev dktX1_lambda_letting_1_0 : List UInt8 := dkwX1_lambda_letting_1_0 ++ []
theorem dksX1_lambda_letting_1_0 : cX1_lambda_letting_1.data.toList.drop 0 = dktX1_lambda_letting_1_0 := by decide +kernel
theorem dX1_lambda_letting_1_0 : decode cX1_lambda_letting_1 0 = .ok (.iload_n 0, 1) := dk_26 (dk_at dksX1_lambda_letting_1_0 0 rfl rfl)
theorem dX1_lambda_letting_1_1 : decode cX1_lambda_letting_1 1 = .ok (.aload_n 1, 1) := dk_43 (dk_at dksX1_lambda_letting_1_0 1 rfl rfl)
theorem dX1_lambda_letting_1_2 : decode cX1_lambda_letting_1 2 = .ok (.getfield 178, 3) := dk_180 0 178 (dk_at dksX1_lambda_letting_1_0 2 rfl rfl)
theorem dX1_lambda_letting_1_5 : decode cX1_lambda_letting_1 5 = .ok (.arraylength, 1) := dk_190 (dk_at dksX1_lambda_letting_1_0 5 rfl rfl)
theorem dX1_lambda_letting_1_6 : decode cX1_lambda_letting_1 6 = .ok (.if_icmp .ge 11, 3) := dk_162 0 11 (dk_at dksX1_lambda_letting_1_0 6 rfl rfl)
theorem dX1_lambda_letting_1_9 : decode cX1_lambda_letting_1 9 = .ok (.aload_n 1, 1) := dk_43 (dk_at dksX1_lambda_letting_1_0 9 rfl rfl)
theorem dX1_lambda_letting_1_10 : decode cX1_lambda_letting_1 10 = .ok (.iload_n 0, 1) := dk_26 (dk_at dksX1_lambda_letting_1_0 10 rfl rfl)
theorem dX1_lambda_letting_1_11 : decode cX1_lambda_letting_1 11 = .ok (.invokevirtual 487, 3) := dk_182 1 231 (dk_at dksX1_lambda_letting_1_0 11 rfl rfl)
theorem dX1_lambda_letting_1_14 : decode cX1_lambda_letting_1 14 = .ok (.goto 5, 3) := dk_167 0 5 (dk_at dksX1_lambda_letting_1_0 14 rfl rfl)
theorem dX1_lambda_letting_1_17 : decode cX1_lambda_letting_1 17 = .ok (.bipush (-9), 2) := dk_16 247 (dk_at dksX1_lambda_letting_1_0 17 rfl rfl)
theorem dX1_lambda_letting_1_19 : decode cX1_lambda_letting_1 19 = .ok (.ireturn, 1) := dk_172 (dk_at dksX1_lambda_letting_1_0 19 rfl rfl)
abbrev cX1_pay : ByteArray := prog_1_method_71_code
def yX1_pay : MethodName := ⟨RX1, "pay", "(III)I"⟩
def dkwX1_pay_1 : List UInt8 := [29, 184, 1, 141, 182, 1, 131, 172]
abbrev dktX1_pay_1 : List UInt8 := dkwX1_pay_1 ++ []
def dkwX1_pay_0 : List UInt8 := [42, 27, 182, 0, 253, 42, 28, 182, 0, 253, 29, 4, 17, 3, 231, 184, 0, 103, 184, 0, 107, 42, 27, 28]
abbrev dktX1_pay_0 : List UInt8 := dkwX1_pay_0 ++ dktX1_pay_1
theorem dksX1_pay_0 : cX1_pay.data.toList.drop 0 = dktX1_pay_0 := by decide +kernel
theorem dksX1_pay_1 : cX1_pay.data.toList.drop 24 = dktX1_pay_1 := dk_seg dksX1_pay_0 24 rfl rfl
theorem dX1_pay_0 : decode cX1_pay 0 = .ok (.aload_n 0, 1) := dk_42 (dk_at dksX1_pay_0 0 rfl rfl)
theorem dX1_pay_1 : decode cX1_pay 1 = .ok (.iload_n 1, 1) := dk_27 (dk_at dksX1_pay_0 1 rfl rfl)
theorem dX1_pay_2 : decode cX1_pay 2 = .ok (.invokevirtual 253, 3) := dk_182 0 253 (dk_at dksX1_pay_0 2 rfl rfl)
theorem dX1_pay_5 : decode cX1_pay 5 = .ok (.aload_n 0, 1) := dk_42 (dk_at dksX1_pay_0 5 rfl rfl)
theorem dX1_pay_6 : decode cX1_pay 6 = .ok (.iload_n 2, 1) := dk_28 (dk_at dksX1_pay_0 6 rfl rfl)
theorem dX1_pay_7 : decode cX1_pay 7 = .ok (.invokevirtual 253, 3) := dk_182 0 253 (dk_at dksX1_pay_0 7 rfl rfl)
theorem dX1_pay_10 : decode cX1_pay 10 = .ok (.iload_n 3, 1) := dk_29 (dk_at dksX1_pay_0 10 rfl rfl)
theorem dX1_pay_11 : decode cX1_pay 11 = .ok (.iconst 1, 1) := dk_4 (dk_at dksX1_pay_0 11 rfl rfl)
theorem dX1_pay_12 : decode cX1_pay 12 = .ok (.sipush 999, 3) := dk_17 3 231 (dk_at dksX1_pay_0 12 rfl rfl)
theorem dX1_pay_15 : decode cX1_pay 15 = .ok (.invokestatic 103, 3) := dk_184 0 103 (dk_at dksX1_pay_0 15 rfl rfl)
theorem dX1_pay_18 : decode cX1_pay 18 = .ok (.invokestatic 107, 3) := dk_184 0 107 (dk_at dksX1_pay_0 18 rfl rfl)
theorem dX1_pay_21 : decode cX1_pay 21 = .ok (.aload_n 0, 1) := dk_42 (dk_at dksX1_pay_0 21 rfl rfl)
theorem dX1_pay_22 : decode cX1_pay 22 = .ok (.iload_n 1, 1) := dk_27 (dk_at dksX1_pay_0 22 rfl rfl)
theorem dX1_pay_23 : decode cX1_pay 23 = .ok (.iload_n 2, 1) := dk_28 (dk_at dksX1_pay_0 23 rfl rfl)
theorem dX1_pay_24 : decode cX1_pay 24 = .ok (.iload_n 3, 1) := dk_29 (dk_at dksX1_pay_1 0 rfl rfl)
theorem dX1_pay_25 : decode cX1_pay 25 = .ok (.invokestatic 397, 3) := dk_184 1 141 (dk_at dksX1_pay_1 1 rfl rfl)
theorem dX1_pay_28 : decode cX1_pay 28 = .ok (.invokevirtual 387, 3) := dk_182 1 131 (dk_at dksX1_pay_1 4 rfl rfl)
theorem dX1_pay_31 : decode cX1_pay 31 = .ok (.ireturn, 1) := dk_172 (dk_at dksX1_pay_1 7 rfl rfl)
abbrev cX1_paying : ByteArray := prog_1_method_9_code
def yX1_paying : MethodName := ⟨RX1, "paying", "(III)LWreckShares$Deed;"⟩
def dkwX1_paying_0 : List UInt8 := [26, 27, 28, 186, 0, 32, 0, 0, 176]
abbrev dktX1_paying_0 : List UInt8 := dkwX1_paying_0 ++ []
theorem dksX1_paying_0 : cX1_paying.data.toList.drop 0 = dktX1_paying_0 := by decide +kernel
theorem dX1_paying_0 : decode cX1_paying 0 = .ok (.iload_n 0, 1) := dk_26 (dk_at dksX1_paying_0 0 rfl rfl)
theorem dX1_paying_1 : decode cX1_paying 1 = .ok (.iload_n 1, 1) := dk_27 (dk_at dksX1_paying_0 1 rfl rfl)
theorem dX1_paying_2 : decode cX1_paying 2 = .ok (.iload_n 2, 1) := dk_28 (dk_at dksX1_paying_0 2 rfl rfl)
theorem dX1_paying_3 : decode cX1_paying 3 = .ok (.invokedynamic 32, 5) := by decide +kernel
theorem dX1_paying_8 : decode cX1_paying 8 = .ok (.areturn, 1) := dk_176 (dk_at dksX1_paying_0 8 rfl rfl)
abbrev cX1_lambda_paying_3 : ByteArray := prog_1_method_92_code
def yX1_lambda_paying_3 : MethodName := ⟨RX1, "lambda$paying$3", "(IIILWreckShares$Shore;)I"⟩
def dkwX1_lambda_paying_3_1 : List UInt8 := [16, 247, 172]
abbrev dktX1_lambda_paying_3_1 : List UInt8 := dkwX1_lambda_paying_3_1 ++ []
def dkwX1_lambda_paying_3_0 : List UInt8 := [26, 27, 184, 1, 82, 45, 180, 0, 178, 190, 162, 0, 13, 45, 26, 27, 28, 182, 1, 224, 167, 0, 5]
abbrev dktX1_lambda_paying_3_0 : List UInt8 := dkwX1_lambda_paying_3_0 ++ dktX1_lambda_paying_3_1
theorem dksX1_lambda_paying_3_0 : cX1_lambda_paying_3.data.toList.drop 0 = dktX1_lambda_paying_3_0 := by decide +kernel
theorem dksX1_lambda_paying_3_1 : cX1_lambda_paying_3.data.toList.drop 23 = dktX1_lambda_paying_3_1 := dk_seg dksX1_lambda_paying_3_0 23 rfl rfl
theorem dX1_lambda_paying_3_0 : decode cX1_lambda_paying_3 0 = .ok (.iload_n 0, 1) := dk_26 (dk_at dksX1_lambda_paying_3_0 0 rfl rfl)
theorem dX1_lambda_paying_3_1 : decode cX1_lambda_paying_3 1 = .ok (.iload_n 1, 1) := dk_27 (dk_at dksX1_lambda_paying_3_0 1 rfl rfl)
theorem dX1_lambda_paying_3_2 : decode cX1_lambda_paying_3 2 = .ok (.invokestatic 338, 3) := dk_184 1 82 (dk_at dksX1_lambda_paying_3_0 2 rfl rfl)
theorem dX1_lambda_paying_3_5 : decode cX1_lambda_paying_3 5 = .ok (.aload_n 3, 1) := dk_45 (dk_at dksX1_lambda_paying_3_0 5 rfl rfl)
theorem dX1_lambda_paying_3_6 : decode cX1_lambda_paying_3 6 = .ok (.getfield 178, 3) := dk_180 0 178 (dk_at dksX1_lambda_paying_3_0 6 rfl rfl)
theorem dX1_lambda_paying_3_9 : decode cX1_lambda_paying_3 9 = .ok (.arraylength, 1) := dk_190 (dk_at dksX1_lambda_paying_3_0 9 rfl rfl)
theorem dX1_lambda_paying_3_10 : decode cX1_lambda_paying_3 10 = .ok (.if_icmp .ge 13, 3) := dk_162 0 13 (dk_at dksX1_lambda_paying_3_0 10 rfl rfl)
theorem dX1_lambda_paying_3_13 : decode cX1_lambda_paying_3 13 = .ok (.aload_n 3, 1) := dk_45 (dk_at dksX1_lambda_paying_3_0 13 rfl rfl)
theorem dX1_lambda_paying_3_14 : decode cX1_lambda_paying_3 14 = .ok (.iload_n 0, 1) := dk_26 (dk_at dksX1_lambda_paying_3_0 14 rfl rfl)
theorem dX1_lambda_paying_3_15 : decode cX1_lambda_paying_3 15 = .ok (.iload_n 1, 1) := dk_27 (dk_at dksX1_lambda_paying_3_0 15 rfl rfl)
theorem dX1_lambda_paying_3_16 : decode cX1_lambda_paying_3 16 = .ok (.iload_n 2, 1) := dk_28 (dk_at dksX1_lambda_paying_3_0 16 rfl rfl)
theorem dX1_lambda_paying_3_17 : decode cX1_lambda_paying_3 17 = .ok (.invokevirtual 480, 3) := dk_182 1 224 (dk_at dksX1_lambda_paying_3_0 17 rfl rfl)
theorem dX1_lambda_paying_3_20 : decode cX1_lambda_paying_3 20 = .ok (.goto 5, 3) := dk_167 0 5 (dk_at dksX1_lambda_paying_3_0 20 rfl rfl)
theorem dX1_lambda_paying_3_23 : decode cX1_lambda_paying_3 23 = .ok (.bipush (-9), 2) := dk_16 247 (dk_at dksX1_lambda_paying_3_1 0 rfl rfl)
theorem dX1_lambda_paying_3_25 : decode cX1_lambda_paying_3 25 = .ok (.ireturn, 1) := dk_172 (dk_at dksX1_lambda_paying_3_1 2 rfl rfl)
abbrev cX1_haul : ByteArray := prog_1_method_72_code
def yX1_haul : MethodName := ⟨RX1, "haul", "(I)I"⟩
def dkwX1_haul_0 : List UInt8 := [42, 27, 182, 0, 207, 77, 42, 27, 184, 1, 144, 182, 1, 131, 172]
abbrev dktX1_haul_0 : List UInt8 := dkwX1_haul_0 ++ []
theorem dksX1_haul_0 : cX1_haul.data.toList.drop 0 = dktX1_haul_0 := by decide +kernel
theorem dX1_haul_0 : decode cX1_haul 0 = .ok (.aload_n 0, 1) := dk_42 (dk_at dksX1_haul_0 0 rfl rfl)
theorem dX1_haul_1 : decode cX1_haul 1 = .ok (.iload_n 1, 1) := dk_27 (dk_at dksX1_haul_0 1 rfl rfl)
theorem dX1_haul_2 : decode cX1_haul 2 = .ok (.invokevirtual 207, 3) := dk_182 0 207 (dk_at dksX1_haul_0 2 rfl rfl)
theorem dX1_haul_5 : decode cX1_haul 5 = .ok (.astore_n 2, 1) := dk_77 (dk_at dksX1_haul_0 5 rfl rfl)
theorem dX1_haul_6 : decode cX1_haul 6 = .ok (.aload_n 0, 1) := dk_42 (dk_at dksX1_haul_0 6 rfl rfl)
theorem dX1_haul_7 : decode cX1_haul 7 = .ok (.iload_n 1, 1) := dk_27 (dk_at dksX1_haul_0 7 rfl rfl)
theorem dX1_haul_8 : decode cX1_haul 8 = .ok (.invokestatic 400, 3) := dk_184 1 144 (dk_at dksX1_haul_0 8 rfl rfl)
theorem dX1_haul_11 : decode cX1_haul 11 = .ok (.invokevirtual 387, 3) := dk_182 1 131 (dk_at dksX1_haul_0 11 rfl rfl)
theorem dX1_haul_14 : decode cX1_haul 14 = .ok (.ireturn, 1) := dk_172 (dk_at dksX1_haul_0 14 rfl rfl)
abbrev cX1_hauling : ByteArray := prog_1_method_10_code
def yX1_hauling : MethodName := ⟨RX1, "hauling", "(I)LWreckShares$Deed;"⟩
theorem dX1_hauling_0 : decode cX1_hauling 0 = .ok (.iload_n 0, 1) := by decide +kernel
theorem dX1_hauling_1 : decode cX1_hauling 1 = .ok (.invokedynamic 35, 5) := by decide +kernel
theorem dX1_hauling_6 : decode cX1_hauling 6 = .ok (.areturn, 1) := by decide +kernel
abbrev cX1_lambda_hauling_4 : ByteArray := prog_1_method_91_code
def yX1_lambda_hauling_4 : MethodName := ⟨RX1, "lambda$hauling$4", "(ILWreckShares$Shore;)I"⟩
def dkwX1_lambda_hauling_4_0 : List UInt8 := [43, 26, 184, 1, 211, 153, 0, 15, 43, 43, 26, 182, 0, 203, 182, 1, 221, 167, 0, 5, 16, 247, 172]
abbrev dktX1_lambda_hauling_4_0 : List UInt8 := dkwX1_lambda_hauling_4_0 ++ []
theorem dksX1_lambda_hauling_4_0 : cX1_lambda_hauling_4.data.toList.drop 0 = dktX1_lambda_hauling_4_0 := by decide +kernel
theorem dX1_lambda_hauling_4_0 : decode cX1_lambda_hauling_4 0 = .ok (.aload_n 1, 1) := dk_43 (dk_at dksX1_lambda_hauling_4_0 0 rfl rfl)
theorem dX1_lambda_hauling_4_1 : decode cX1_lambda_hauling_4 1 = .ok (.iload_n 0, 1) := dk_26 (dk_at dksX1_lambda_hauling_4_0 1 rfl rfl)
theorem dX1_lambda_hauling_4_2 : decode cX1_lambda_hauling_4 2 = .ok (.invokestatic 467, 3) := dk_184 1 211 (dk_at dksX1_lambda_hauling_4_0 2 rfl rfl)
theorem dX1_lambda_hauling_4_5 : decode cX1_lambda_hauling_4 5 = .ok (.ifCond .eq 15, 3) := dk_153 0 15 (dk_at dksX1_lambda_hauling_4_0 5 rfl rfl)
theorem dX1_lambda_hauling_4_8 : decode cX1_lambda_hauling_4 8 = .ok (.aload_n 1, 1) := dk_43 (dk_at dksX1_lambda_hauling_4_0 8 rfl rfl)
theorem dX1_lambda_hauling_4_9 : decode cX1_lambda_hauling_4 9 = .ok (.aload_n 1, 1) := dk_43 (dk_at dksX1_lambda_hauling_4_0 9 rfl rfl)
theorem dX1_lambda_hauling_4_10 : decode cX1_lambda_hauling_4 10 = .ok (.iload_n 0, 1) := dk_26 (dk_at dksX1_lambda_hauling_4_0 10 rfl rfl)
theorem dX1_lambda_hauling_4_11 : decode cX1_lambda_hauling_4 11 = .ok (.invokevirtual 203, 3) := dk_182 0 203 (dk_at dksX1_lambda_hauling_4_0 11 rfl rfl)
theorem dX1_lambda_hauling_4_14 : decode cX1_lambda_hauling_4 14 = .ok (.invokevirtual 477, 3) := dk_182 1 221 (dk_at dksX1_lambda_hauling_4_0 14 rfl rfl)
theorem dX1_lambda_hauling_4_17 : decode cX1_lambda_hauling_4 17 = .ok (.goto 5, 3) := dk_167 0 5 (dk_at dksX1_lambda_hauling_4_0 17 rfl rfl)
theorem dX1_lambda_hauling_4_20 : decode cX1_lambda_hauling_4 20 = .ok (.bipush (-9), 2) := dk_16 247 (dk_at dksX1_lambda_hauling_4_0 20 rfl rfl)
theorem dX1_lambda_hauling_4_22 : decode cX1_lambda_hauling_4 22 = .ok (.ireturn, 1) := dk_172 (dk_at dksX1_lambda_hauling_4_0 22 rfl rfl)
abbrev cX1_claim : ByteArray := prog_1_method_73_code
def yX1_claim : MethodName := ⟨RX1, "claim", "(I)I"⟩
def dkwX1_claim_0 : List UInt8 := [27, 4, 8, 184, 0, 103, 184, 0, 107, 42, 27, 184, 1, 147, 182, 1, 131, 172]
abbrev dktX1_claim_0 : List UInt8 := dkwX1_claim_0 ++ []
theorem dksX1_claim_0 : cX1_claim.data.toList.drop 0 = dktX1_claim_0 := by decide +kernel
theorem dX1_claim_0 : decode cX1_claim 0 = .ok (.iload_n 1, 1) := dk_27 (dk_at dksX1_claim_0 0 rfl rfl)
theorem dX1_claim_1 : decode cX1_claim 1 = .ok (.iconst 1, 1) := dk_4 (dk_at dksX1_claim_0 1 rfl rfl)
theorem dX1_claim_2 : decode cX1_claim 2 = .ok (.iconst 5, 1) := dk_8 (dk_at dksX1_claim_0 2 rfl rfl)
theorem dX1_claim_3 : decode cX1_claim 3 = .ok (.invokestatic 103, 3) := dk_184 0 103 (dk_at dksX1_claim_0 3 rfl rfl)
theorem dX1_claim_6 : decode cX1_claim 6 = .ok (.invokestatic 107, 3) := dk_184 0 107 (dk_at dksX1_claim_0 6 rfl rfl)
theorem dX1_claim_9 : decode cX1_claim 9 = .ok (.aload_n 0, 1) := dk_42 (dk_at dksX1_claim_0 9 rfl rfl)
theorem dX1_claim_10 : decode cX1_claim 10 = .ok (.iload_n 1, 1) := dk_27 (dk_at dksX1_claim_0 10 rfl rfl)
theorem dX1_claim_11 : decode cX1_claim 11 = .ok (.invokestatic 403, 3) := dk_184 1 147 (dk_at dksX1_claim_0 11 rfl rfl)
theorem dX1_claim_14 : decode cX1_claim 14 = .ok (.invokevirtual 387, 3) := dk_182 1 131 (dk_at dksX1_claim_0 14 rfl rfl)
theorem dX1_claim_17 : decode cX1_claim 17 = .ok (.ireturn, 1) := dk_172 (dk_at dksX1_claim_0 17 rfl rfl)
abbrev cX1_claiming : ByteArray := prog_1_method_11_code
def yX1_claiming : MethodName := ⟨RX1, "claiming", "(I)LWreckShares$Deed;"⟩
theorem dX1_claiming_0 : decode cX1_claiming 0 = .ok (.iload_n 0, 1) := by decide +kernel
theorem dX1_claiming_1 : decode cX1_claiming 1 = .ok (.invokedynamic 36, 5) := by decide +kernel
theorem dX1_claiming_6 : decode cX1_claiming 6 = .ok (.areturn, 1) := by decide +kernel
abbrev cX1_lambda_claiming_5 : ByteArray := prog_1_method_90_code
def yX1_lambda_claiming_5 : MethodName := ⟨RX1, "lambda$claiming$5", "(ILWreckShares$Shore;)I"⟩
def dkwX1_lambda_claiming_5_0 : List UInt8 := [43, 26, 182, 1, 218, 172]
abbrev dktX1_lambda_claiming_5_0 : List UInt8 := dkwX1_lambda_claiming_5_0 ++ []
theorem dksX1_lambda_claiming_5_0 : cX1_lambda_claiming_5.data.toList.drop 0 = dktX1_lambda_claiming_5_0 := by decide +kernel
theorem dX1_lambda_claiming_5_0 : decode cX1_lambda_claiming_5 0 = .ok (.aload_n 1, 1) := dk_43 (dk_at dksX1_lambda_claiming_5_0 0 rfl rfl)
theorem dX1_lambda_claiming_5_1 : decode cX1_lambda_claiming_5 1 = .ok (.iload_n 0, 1) := dk_26 (dk_at dksX1_lambda_claiming_5_0 1 rfl rfl)
theorem dX1_lambda_claiming_5_2 : decode cX1_lambda_claiming_5 2 = .ok (.invokevirtual 474, 3) := dk_182 1 218 (dk_at dksX1_lambda_claiming_5_0 2 rfl rfl)
theorem dX1_lambda_claiming_5_5 : decode cX1_lambda_claiming_5 5 = .ok (.ireturn, 1) := dk_172 (dk_at dksX1_lambda_claiming_5_0 5 rfl rfl)
abbrev cX1_divide : ByteArray := prog_1_method_74_code
def yX1_divide : MethodName := ⟨RX1, "divide", "(I)I"⟩
def dkwX1_divide_0 : List UInt8 := [42, 27, 182, 0, 207, 77, 42, 27, 184, 1, 150, 182, 1, 131, 172]
abbrev dktX1_divide_0 : List UInt8 := dkwX1_divide_0 ++ []
theorem dksX1_divide_0 : cX1_divide.data.toList.drop 0 = dktX1_divide_0 := by decide +kernel
theorem dX1_divide_0 : decode cX1_divide 0 = .ok (.aload_n 0, 1) := dk_42 (dk_at dksX1_divide_0 0 rfl rfl)
theorem dX1_divide_1 : decode cX1_divide 1 = .ok (.iload_n 1, 1) := dk_27 (dk_at dksX1_divide_0 1 rfl rfl)
theorem dX1_divide_2 : decode cX1_divide 2 = .ok (.invokevirtual 207, 3) := dk_182 0 207 (dk_at dksX1_divide_0 2 rfl rfl)
theorem dX1_divide_5 : decode cX1_divide 5 = .ok (.astore_n 2, 1) := dk_77 (dk_at dksX1_divide_0 5 rfl rfl)
theorem dX1_divide_6 : decode cX1_divide 6 = .ok (.aload_n 0, 1) := dk_42 (dk_at dksX1_divide_0 6 rfl rfl)
theorem dX1_divide_7 : decode cX1_divide 7 = .ok (.iload_n 1, 1) := dk_27 (dk_at dksX1_divide_0 7 rfl rfl)
theorem dX1_divide_8 : decode cX1_divide 8 = .ok (.invokestatic 406, 3) := dk_184 1 150 (dk_at dksX1_divide_0 8 rfl rfl)
theorem dX1_divide_11 : decode cX1_divide 11 = .ok (.invokevirtual 387, 3) := dk_182 1 131 (dk_at dksX1_divide_0 11 rfl rfl)
theorem dX1_divide_14 : decode cX1_divide 14 = .ok (.ireturn, 1) := dk_172 (dk_at dksX1_divide_0 14 rfl rfl)
abbrev cX1_dividing : ByteArray := prog_1_method_12_code
def yX1_dividing : MethodName := ⟨RX1, "dividing", "(I)LWreckShares$Deed;"⟩
theorem dX1_dividing_0 : decode cX1_dividing 0 = .ok (.iload_n 0, 1) := by decide +kernel
theorem dX1_dividing_1 : decode cX1_dividing 1 = .ok (.invokedynamic 37, 5) := by decide +kernel
theorem dX1_dividing_6 : decode cX1_dividing 6 = .ok (.areturn, 1) := by decide +kernel
abbrev cX1_lambda_dividing_6 : ByteArray := prog_1_method_89_code
def yX1_lambda_dividing_6 : MethodName := ⟨RX1, "lambda$dividing$6", "(ILWreckShares$Shore;)I"⟩
def dkwX1_lambda_dividing_6_0 : List UInt8 := [43, 26, 184, 1, 211, 153, 0, 15, 43, 43, 26, 182, 0, 203, 182, 1, 215, 167, 0, 5, 16, 247, 172]
abbrev dktX1_lambda_dividing_6_0 : List UInt8 := dkwX1_lambda_dividing_6_0 ++ []
theorem dksX1_lambda_dividing_6_0 : cX1_lambda_dividing_6.data.toList.drop 0 = dktX1_lambda_dividing_6_0 := by decide +kernel
theorem dX1_lambda_dividing_6_0 : decode cX1_lambda_dividing_6 0 = .ok (.aload_n 1, 1) := dk_43 (dk_at dksX1_lambda_dividing_6_0 0 rfl rfl)
theorem dX1_lambda_dividing_6_1 : decode cX1_lambda_dividing_6 1 = .ok (.iload_n 0, 1) := dk_26 (dk_at dksX1_lambda_dividing_6_0 1 rfl rfl)
theorem dX1_lambda_dividing_6_2 : decode cX1_lambda_dividing_6 2 = .ok (.invokestatic 467, 3) := dk_184 1 211 (dk_at dksX1_lambda_dividing_6_0 2 rfl rfl)
theorem dX1_lambda_dividing_6_5 : decode cX1_lambda_dividing_6 5 = .ok (.ifCond .eq 15, 3) := dk_153 0 15 (dk_at dksX1_lambda_dividing_6_0 5 rfl rfl)
theorem dX1_lambda_dividing_6_8 : decode cX1_lambda_dividing_6 8 = .ok (.aload_n 1, 1) := dk_43 (dk_at dksX1_lambda_dividing_6_0 8 rfl rfl)
theorem dX1_lambda_dividing_6_9 : decode cX1_lambda_dividing_6 9 = .ok (.aload_n 1, 1) := dk_43 (dk_at dksX1_lambda_dividing_6_0 9 rfl rfl)
theorem dX1_lambda_dividing_6_10 : decode cX1_lambda_dividing_6 10 = .ok (.iload_n 0, 1) := dk_26 (dk_at dksX1_lambda_dividing_6_0 10 rfl rfl)
theorem dX1_lambda_dividing_6_11 : decode cX1_lambda_dividing_6 11 = .ok (.invokevirtual 203, 3) := dk_182 0 203 (dk_at dksX1_lambda_dividing_6_0 11 rfl rfl)
theorem dX1_lambda_dividing_6_14 : decode cX1_lambda_dividing_6 14 = .ok (.invokevirtual 471, 3) := dk_182 1 215 (dk_at dksX1_lambda_dividing_6_0 14 rfl rfl)
theorem dX1_lambda_dividing_6_17 : decode cX1_lambda_dividing_6 17 = .ok (.goto 5, 3) := dk_167 0 5 (dk_at dksX1_lambda_dividing_6_0 17 rfl rfl)
theorem dX1_lambda_dividing_6_20 : decode cX1_lambda_dividing_6 20 = .ok (.bipush (-9), 2) := dk_16 247 (dk_at dksX1_lambda_dividing_6_0 20 rfl rfl)
theorem dX1_lambda_dividing_6_22 : decode cX1_lambda_dividing_6 22 = .ok (.ireturn, 1) := dk_172 (dk_at dksX1_lambda_dividing_6_0 22 rfl rfl)
abbrev cX1_ticks : ByteArray := prog_1_method_76_code
def yX1_ticks : MethodName := ⟨RX1, "ticks", "(I)I"⟩
def dkwX1_ticks_0 : List UInt8 := [27, 4, 17, 0, 200, 184, 0, 103, 184, 0, 107, 42, 27, 184, 1, 156, 182, 1, 131, 172]
abbrev dktX1_ticks_0 : List UInt8 := dkwX1_ticks_0 ++ []
theorem dksX1_ticks_0 : cX1_ticks.data.toList.drop 0 = dktX1_ticks_0 := by decide +kernel
theorem dX1_ticks_0 : decode cX1_ticks 0 = .ok (.iload_n 1, 1) := dk_27 (dk_at dksX1_ticks_0 0 rfl rfl)
theorem dX1_ticks_1 : decode cX1_ticks 1 = .ok (.iconst 1, 1) := dk_4 (dk_at dksX1_ticks_0 1 rfl rfl)
theorem dX1_ticks_2 : decode cX1_ticks 2 = .ok (.sipush 200, 3) := dk_17 0 200 (dk_at dksX1_ticks_0 2 rfl rfl)
theorem dX1_ticks_5 : decode cX1_ticks 5 = .ok (.invokestatic 103, 3) := dk_184 0 103 (dk_at dksX1_ticks_0 5 rfl rfl)
theorem dX1_ticks_8 : decode cX1_ticks 8 = .ok (.invokestatic 107, 3) := dk_184 0 107 (dk_at dksX1_ticks_0 8 rfl rfl)
theorem dX1_ticks_11 : decode cX1_ticks 11 = .ok (.aload_n 0, 1) := dk_42 (dk_at dksX1_ticks_0 11 rfl rfl)
theorem dX1_ticks_12 : decode cX1_ticks 12 = .ok (.iload_n 1, 1) := dk_27 (dk_at dksX1_ticks_0 12 rfl rfl)
theorem dX1_ticks_13 : decode cX1_ticks 13 = .ok (.invokestatic 412, 3) := dk_184 1 156 (dk_at dksX1_ticks_0 13 rfl rfl)
theorem dX1_ticks_16 : decode cX1_ticks 16 = .ok (.invokevirtual 387, 3) := dk_182 1 131 (dk_at dksX1_ticks_0 16 rfl rfl)
theorem dX1_ticks_19 : decode cX1_ticks 19 = .ok (.ireturn, 1) := dk_172 (dk_at dksX1_ticks_0 19 rfl rfl)
abbrev cX1_passing : ByteArray := prog_1_method_14_code
def yX1_passing : MethodName := ⟨RX1, "passing", "(I)LWreckShares$Deed;"⟩
theorem dX1_passing_0 : decode cX1_passing 0 = .ok (.iload_n 0, 1) := by decide +kernel
theorem dX1_passing_1 : decode cX1_passing 1 = .ok (.invokedynamic 39, 5) := by decide +kernel
theorem dX1_passing_6 : decode cX1_passing 6 = .ok (.areturn, 1) := by decide +kernel
abbrev cX1_lambda_passing_8 : ByteArray := prog_1_method_87_code
def yX1_lambda_passing_8 : MethodName := ⟨RX1, "lambda$passing$8", "(ILWreckShares$Shore;)I"⟩
def dkwX1_lambda_passing_8_0 : List UInt8 := [43, 26, 182, 1, 205, 172]
abbrev dktX1_lambda_passing_8_0 : List UInt8 := dkwX1_lambda_passing_8_0 ++ []
theorem dksX1_lambda_passing_8_0 : cX1_lambda_passing_8.data.toList.drop 0 = dktX1_lambda_passing_8_0 := by decide +kernel
theorem dX1_lambda_passing_8_0 : decode cX1_lambda_passing_8 0 = .ok (.aload_n 1, 1) := dk_43 (dk_at dksX1_lambda_passing_8_0 0 rfl rfl)
theorem dX1_lambda_passing_8_1 : decode cX1_lambda_passing_8 1 = .ok (.iload_n 0, 1) := dk_26 (dk_at dksX1_lambda_passing_8_0 1 rfl rfl)
theorem dX1_lambda_passing_8_2 : decode cX1_lambda_passing_8 2 = .ok (.invokevirtual 461, 3) := dk_182 1 205 (dk_at dksX1_lambda_passing_8_0 2 rfl rfl)
theorem dX1_lambda_passing_8_5 : decode cX1_lambda_passing_8 5 = .ok (.ireturn, 1) := dk_172 (dk_at dksX1_lambda_passing_8_0 5 rfl rfl)
abbrev cX1_play : ByteArray := prog_1_method_77_code
def yX1_play : MethodName := ⟨RX1, "play", "(I)I"⟩
def dkwX1_play_4 : List UInt8 := [3, 184, 0, 158, 96, 79, 42, 25, 4, 182, 1, 124, 21, 5, 172]
abbrev dktX1_play_4 : List UInt8 := dkwX1_play_4 ++ []
def dkwX1_play_3 : List UInt8 := [21, 5, 96, 79, 42, 180, 0, 86, 4, 92, 46, 21, 5, 44, 180, 1, 163, 162, 0, 7, 4, 167, 0, 4]
abbrev dktX1_play_3 : List UInt8 := dkwX1_play_3 ++ dktX1_play_4
def dkwX1_play_2 : List UInt8 := [25, 4, 185, 1, 119, 2, 0, 155, 0, 9, 132, 5, 1, 167, 255, 230, 42, 180, 0, 86, 3, 92, 46]
abbrev dktX1_play_2 : List UInt8 := dkwX1_play_2 ++ dktX1_play_3
def dkwX1_play_1 : List UInt8 := [180, 0, 75, 182, 1, 116, 58, 4, 3, 54, 5, 21, 5, 44, 180, 1, 163, 162, 0, 23, 45, 21, 5, 50]
abbrev dktX1_play_1 : List UInt8 := dkwX1_play_1 ++ dktX1_play_2
def dkwX1_play_0 : List UInt8 := [42, 27, 182, 0, 124, 77, 44, 182, 1, 159, 78, 167, 0, 12, 58, 4, 42, 25, 4, 182, 0, 131, 172, 42]
abbrev dktX1_play_0 : List UInt8 := dkwX1_play_0 ++ dktX1_play_1
theorem dksX1_play_0 : cX1_play.data.toList.drop 0 = dktX1_play_0 := by decide +kernel
theorem dksX1_play_1 : cX1_play.data.toList.drop 24 = dktX1_play_1 := dk_seg dksX1_play_0 24 rfl rfl
theorem dksX1_play_2 : cX1_play.data.toList.drop 48 = dktX1_play_2 := dk_seg dksX1_play_1 24 rfl rfl
theorem dksX1_play_3 : cX1_play.data.toList.drop 71 = dktX1_play_3 := dk_seg dksX1_play_2 23 rfl rfl
theorem dksX1_play_4 : cX1_play.data.toList.drop 95 = dktX1_play_4 := dk_seg dksX1_play_3 24 rfl rfl
theorem dX1_play_0 : decode cX1_play 0 = .ok (.aload_n 0, 1) := dk_42 (dk_at dksX1_play_0 0 rfl rfl)
theorem dX1_play_1 : decode cX1_play 1 = .ok (.iload_n 1, 1) := dk_27 (dk_at dksX1_play_0 1 rfl rfl)
theorem dX1_play_2 : decode cX1_play 2 = .ok (.invokevirtual 124, 3) := dk_182 0 124 (dk_at dksX1_play_0 2 rfl rfl)
theorem dX1_play_5 : decode cX1_play 5 = .ok (.astore_n 2, 1) := dk_77 (dk_at dksX1_play_0 5 rfl rfl)
theorem dX1_play_6 : decode cX1_play 6 = .ok (.aload_n 2, 1) := dk_44 (dk_at dksX1_play_0 6 rfl rfl)
theorem dX1_play_7 : decode cX1_play 7 = .ok (.invokevirtual 415, 3) := dk_182 1 159 (dk_at dksX1_play_0 7 rfl rfl)
theorem dX1_play_10 : decode cX1_play 10 = .ok (.astore_n 3, 1) := dk_78 (dk_at dksX1_play_0 10 rfl rfl)
theorem dX1_play_11 : decode cX1_play 11 = .ok (.goto 12, 3) := dk_167 0 12 (dk_at dksX1_play_0 11 rfl rfl)
theorem dX1_play_14 : decode cX1_play 14 = .ok (.astore 4, 2) := dk_58 4 (dk_at dksX1_play_0 14 rfl rfl)
theorem dX1_play_16 : decode cX1_play 16 = .ok (.aload_n 0, 1) := dk_42 (dk_at dksX1_play_0 16 rfl rfl)
theorem dX1_play_17 : decode cX1_play 17 = .ok (.aload 4, 2) := dk_25 4 (dk_at dksX1_play_0 17 rfl rfl)
theorem dX1_play_19 : decode cX1_play 19 = .ok (.invokevirtual 131, 3) := dk_182 0 131 (dk_at dksX1_play_0 19 rfl rfl)
theorem dX1_play_22 : decode cX1_play 22 = .ok (.ireturn, 1) := dk_172 (dk_at dksX1_play_0 22 rfl rfl)
theorem dX1_play_23 : decode cX1_play 23 = .ok (.aload_n 0, 1) := dk_42 (dk_at dksX1_play_0 23 rfl rfl)
theorem dX1_play_24 : decode cX1_play 24 = .ok (.getfield 75, 3) := dk_180 0 75 (dk_at dksX1_play_1 0 rfl rfl)
theorem dX1_play_27 : decode cX1_play 27 = .ok (.invokevirtual 372, 3) := dk_182 1 116 (dk_at dksX1_play_1 3 rfl rfl)
theorem dX1_play_30 : decode cX1_play 30 = .ok (.astore 4, 2) := dk_58 4 (dk_at dksX1_play_1 6 rfl rfl)
theorem dX1_play_32 : decode cX1_play 32 = .ok (.iconst 0, 1) := dk_3 (dk_at dksX1_play_1 8 rfl rfl)
theorem dX1_play_33 : decode cX1_play 33 = .ok (.istore 5, 2) := dk_54 5 (dk_at dksX1_play_1 9 rfl rfl)
theorem dX1_play_35 : decode cX1_play 35 = .ok (.iload 5, 2) := dk_21 5 (dk_at dksX1_play_1 11 rfl rfl)
theorem dX1_play_37 : decode cX1_play 37 = .ok (.aload_n 2, 1) := dk_44 (dk_at dksX1_play_1 13 rfl rfl)
theorem dX1_play_38 : decode cX1_play 38 = .ok (.getfield 419, 3) := dk_180 1 163 (dk_at dksX1_play_1 14 rfl rfl)
theorem dX1_play_41 : decode cX1_play 41 = .ok (.if_icmp .ge 23, 3) := dk_162 0 23 (dk_at dksX1_play_1 17 rfl rfl)
theorem dX1_play_44 : decode cX1_play 44 = .ok (.aload_n 3, 1) := dk_45 (dk_at dksX1_play_1 20 rfl rfl)
theorem dX1_play_45 : decode cX1_play 45 = .ok (.iload 5, 2) := dk_21 5 (dk_at dksX1_play_1 21 rfl rfl)
theorem dX1_play_47 : decode cX1_play 47 = .ok (.aaload, 1) := dk_50 (dk_at dksX1_play_1 23 rfl rfl)
theorem dX1_play_48 : decode cX1_play 48 = .ok (.aload 4, 2) := dk_25 4 (dk_at dksX1_play_2 0 rfl rfl)
theorem dX1_play_50 : decode cX1_play 50 = .ok (.invokeinterface 375 2, 5) := by decide +kernel
theorem dX1_play_55 : decode cX1_play 55 = .ok (.ifCond .lt 9, 3) := dk_155 0 9 (dk_at dksX1_play_2 7 rfl rfl)
theorem dX1_play_58 : decode cX1_play 58 = .ok (.iinc 5 1, 3) := dk_132 5 1 (dk_at dksX1_play_2 10 rfl rfl)
theorem dX1_play_61 : decode cX1_play 61 = .ok (.goto (-26), 3) := dk_167 255 230 (dk_at dksX1_play_2 13 rfl rfl)
theorem dX1_play_64 : decode cX1_play 64 = .ok (.aload_n 0, 1) := dk_42 (dk_at dksX1_play_2 16 rfl rfl)
theorem dX1_play_65 : decode cX1_play 65 = .ok (.getfield 86, 3) := dk_180 0 86 (dk_at dksX1_play_2 17 rfl rfl)
theorem dX1_play_68 : decode cX1_play 68 = .ok (.iconst 0, 1) := dk_3 (dk_at dksX1_play_2 20 rfl rfl)
theorem dX1_play_69 : decode cX1_play 69 = .ok (.dup2, 1) := dk_92 (dk_at dksX1_play_2 21 rfl rfl)
theorem dX1_play_70 : decode cX1_play 70 = .ok (.iaload, 1) := dk_46 (dk_at dksX1_play_2 22 rfl rfl)
theorem dX1_play_71 : decode cX1_play 71 = .ok (.iload 5, 2) := dk_21 5 (dk_at dksX1_play_3 0 rfl rfl)
theorem dX1_play_73 : decode cX1_play 73 = .ok (.iadd, 1) := dk_96 (dk_at dksX1_play_3 2 rfl rfl)
theorem dX1_play_74 : decode cX1_play 74 = .ok (.iastore, 1) := dk_79 (dk_at dksX1_play_3 3 rfl rfl)
theorem dX1_play_75 : decode cX1_play 75 = .ok (.aload_n 0, 1) := dk_42 (dk_at dksX1_play_3 4 rfl rfl)
theorem dX1_play_76 : decode cX1_play 76 = .ok (.getfield 86, 3) := dk_180 0 86 (dk_at dksX1_play_3 5 rfl rfl)
theorem dX1_play_79 : decode cX1_play 79 = .ok (.iconst 1, 1) := dk_4 (dk_at dksX1_play_3 8 rfl rfl)
theorem dX1_play_80 : decode cX1_play 80 = .ok (.dup2, 1) := dk_92 (dk_at dksX1_play_3 9 rfl rfl)
theorem dX1_play_81 : decode cX1_play 81 = .ok (.iaload, 1) := dk_46 (dk_at dksX1_play_3 10 rfl rfl)
theorem dX1_play_82 : decode cX1_play 82 = .ok (.iload 5, 2) := dk_21 5 (dk_at dksX1_play_3 11 rfl rfl)
theorem dX1_play_84 : decode cX1_play 84 = .ok (.aload_n 2, 1) := dk_44 (dk_at dksX1_play_3 13 rfl rfl)
theorem dX1_play_85 : decode cX1_play 85 = .ok (.getfield 419, 3) := dk_180 1 163 (dk_at dksX1_play_3 14 rfl rfl)
theorem dX1_play_88 : decode cX1_play 88 = .ok (.if_icmp .ge 7, 3) := dk_162 0 7 (dk_at dksX1_play_3 17 rfl rfl)
theorem dX1_play_91 : decode cX1_play 91 = .ok (.iconst 1, 1) := dk_4 (dk_at dksX1_play_3 20 rfl rfl)
theorem dX1_play_92 : decode cX1_play 92 = .ok (.goto 4, 3) := dk_167 0 4 (dk_at dksX1_play_3 21 rfl rfl)
theorem dX1_play_95 : decode cX1_play 95 = .ok (.iconst 0, 1) := dk_3 (dk_at dksX1_play_4 0 rfl rfl)
theorem dX1_play_96 : decode cX1_play 96 = .ok (.invokestatic 158, 3) := dk_184 0 158 (dk_at dksX1_play_4 1 rfl rfl)
theorem dX1_play_99 : decode cX1_play 99 = .ok (.iadd, 1) := dk_96 (dk_at dksX1_play_4 4 rfl rfl)
theorem dX1_play_100 : decode cX1_play 100 = .ok (.iastore, 1) := dk_79 (dk_at dksX1_play_4 5 rfl rfl)
theorem dX1_play_101 : decode cX1_play 101 = .ok (.aload_n 0, 1) := dk_42 (dk_at dksX1_play_4 6 rfl rfl)
theorem dX1_play_102 : decode cX1_play 102 = .ok (.aload 4, 2) := dk_25 4 (dk_at dksX1_play_4 7 rfl rfl)
theorem dX1_play_104 : decode cX1_play 104 = .ok (.invokevirtual 380, 3) := dk_182 1 124 (dk_at dksX1_play_4 9 rfl rfl)
theorem dX1_play_107 : decode cX1_play 107 = .ok (.iload 5, 2) := dk_21 5 (dk_at dksX1_play_4 12 rfl rfl)
theorem dX1_play_109 : decode cX1_play 109 = .ok (.ireturn, 1) := dk_172 (dk_at dksX1_play_4 14 rfl rfl)
abbrev cX1_format : ByteArray := prog_1_method_78_code
def yX1_format : MethodName := ⟨RX1, "format", "(I)I"⟩
def dkwX1_format_5 : List UInt8 := [182, 1, 185, 181, 0, 92, 42, 180, 0, 92, 182, 1, 189, 172]
abbrev dktX1_format_5 : List UInt8 := dkwX1_format_5 ++ []
def dkwX1_format_4 : List UInt8 := [132, 5, 1, 167, 255, 223, 44, 180, 0, 245, 153, 0, 10, 45, 16, 42, 182, 1, 177, 87, 42, 45]
abbrev dktX1_format_4 : List UInt8 := dkwX1_format_4 ++ dktX1_format_5
def dkwX1_format_3 : List UInt8 := [21, 5, 158, 0, 10, 45, 16, 44, 182, 1, 177, 87, 45, 25, 4, 21, 5, 46, 182, 1, 180, 87]
abbrev dktX1_format_3 : List UInt8 := dkwX1_format_3 ++ dktX1_format_4
def dkwX1_format_2 : List UInt8 := [182, 1, 171, 182, 1, 177, 87, 44, 182, 1, 95, 58, 4, 3, 54, 5, 21, 5, 25, 4, 190, 162, 0, 31]
abbrev dktX1_format_2 : List UInt8 := dkwX1_format_2 ++ dktX1_format_3
def dkwX1_format_1 : List UInt8 := [182, 0, 214, 182, 1, 171, 182, 1, 177, 44, 180, 0, 217, 182, 1, 180, 19, 1, 183, 44, 180, 0, 155]
abbrev dktX1_format_1 : List UInt8 := dkwX1_format_1 ++ dktX1_format_2
def dkwX1_format_0 : List UInt8 := [42, 27, 182, 0, 207, 77, 187, 1, 166, 89, 183, 1, 168, 78, 45, 19, 1, 169, 44, 180, 0, 210]
abbrev dktX1_format_0 : List UInt8 := dkwX1_format_0 ++ dktX1_format_1
theorem dksX1_format_0 : cX1_format.data.toList.drop 0 = dktX1_format_0 := by decide +kernel
theorem dksX1_format_1 : cX1_format.data.toList.drop 22 = dktX1_format_1 := dk_seg dksX1_format_0 22 rfl rfl
theorem dksX1_format_2 : cX1_format.data.toList.drop 45 = dktX1_format_2 := dk_seg dksX1_format_1 23 rfl rfl
theorem dksX1_format_3 : cX1_format.data.toList.drop 69 = dktX1_format_3 := dk_seg dksX1_format_2 24 rfl rfl
theorem dksX1_format_4 : cX1_format.data.toList.drop 91 = dktX1_format_4 := dk_seg dksX1_format_3 22 rfl rfl
theorem dksX1_format_5 : cX1_format.data.toList.drop 113 = dktX1_format_5 := dk_seg dksX1_format_4 22 rfl rfl
theorem dX1_format_0 : decode cX1_format 0 = .ok (.aload_n 0, 1) := dk_42 (dk_at dksX1_format_0 0 rfl rfl)
theorem dX1_format_1 : decode cX1_format 1 = .ok (.iload_n 1, 1) := dk_27 (dk_at dksX1_format_0 1 rfl rfl)
theorem dX1_format_2 : decode cX1_format 2 = .ok (.invokevirtual 207, 3) := dk_182 0 207 (dk_at dksX1_format_0 2 rfl rfl)
theorem dX1_format_5 : decode cX1_format 5 = .ok (.astore_n 2, 1) := dk_77 (dk_at dksX1_format_0 5 rfl rfl)
theorem dX1_format_6 : decode cX1_format 6 = .ok (.new 422, 3) := dk_187 1 166 (dk_at dksX1_format_0 6 rfl rfl)
theorem dX1_format_9 : decode cX1_format 9 = .ok (.dup, 1) := dk_89 (dk_at dksX1_format_0 9 rfl rfl)
theorem dX1_format_10 : decode cX1_format 10 = .ok (.invokespecial 424, 3) := dk_183 1 168 (dk_at dksX1_format_0 10 rfl rfl)
theorem dX1_format_13 : decode cX1_format 13 = .ok (.astore_n 3, 1) := dk_78 (dk_at dksX1_format_0 13 rfl rfl)
theorem dX1_format_14 : decode cX1_format 14 = .ok (.aload_n 3, 1) := dk_45 (dk_at dksX1_format_0 14 rfl rfl)
theorem dX1_format_15 : decode cX1_format 15 = .ok (.ldc_w 425, 3) := dk_19 1 169 (dk_at dksX1_format_0 15 rfl rfl)
theorem dX1_format_18 : decode cX1_format 18 = .ok (.aload_n 2, 1) := dk_44 (dk_at dksX1_format_0 18 rfl rfl)
theorem dX1_format_19 : decode cX1_format 19 = .ok (.getfield 210, 3) := dk_180 0 210 (dk_at dksX1_format_0 19 rfl rfl)
theorem dX1_format_22 : decode cX1_format 22 = .ok (.invokevirtual 214, 3) := dk_182 0 214 (dk_at dksX1_format_1 0 rfl rfl)
theorem dX1_format_25 : decode cX1_format 25 = .ok (.invokevirtual 427, 3) := dk_182 1 171 (dk_at dksX1_format_1 3 rfl rfl)
theorem dX1_format_28 : decode cX1_format 28 = .ok (.invokevirtual 433, 3) := dk_182 1 177 (dk_at dksX1_format_1 6 rfl rfl)
theorem dX1_format_31 : decode cX1_format 31 = .ok (.aload_n 2, 1) := dk_44 (dk_at dksX1_format_1 9 rfl rfl)
theorem dX1_format_32 : decode cX1_format 32 = .ok (.getfield 217, 3) := dk_180 0 217 (dk_at dksX1_format_1 10 rfl rfl)
theorem dX1_format_35 : decode cX1_format 35 = .ok (.invokevirtual 436, 3) := dk_182 1 180 (dk_at dksX1_format_1 13 rfl rfl)
theorem dX1_format_38 : decode cX1_format 38 = .ok (.ldc_w 439, 3) := dk_19 1 183 (dk_at dksX1_format_1 16 rfl rfl)
theorem dX1_format_41 : decode cX1_format 41 = .ok (.aload_n 2, 1) := dk_44 (dk_at dksX1_format_1 19 rfl rfl)
theorem dX1_format_42 : decode cX1_format 42 = .ok (.getfield 155, 3) := dk_180 0 155 (dk_at dksX1_format_1 20 rfl rfl)
theorem dX1_format_45 : decode cX1_format 45 = .ok (.invokevirtual 427, 3) := dk_182 1 171 (dk_at dksX1_format_2 0 rfl rfl)
theorem dX1_format_48 : decode cX1_format 48 = .ok (.invokevirtual 433, 3) := dk_182 1 177 (dk_at dksX1_format_2 3 rfl rfl)
theorem dX1_format_51 : decode cX1_format 51 = .ok (.pop, 1) := dk_87 (dk_at dksX1_format_2 6 rfl rfl)
theorem dX1_format_52 : decode cX1_format 52 = .ok (.aload_n 2, 1) := dk_44 (dk_at dksX1_format_2 7 rfl rfl)
theorem dX1_format_53 : decode cX1_format 53 = .ok (.invokevirtual 351, 3) := dk_182 1 95 (dk_at dksX1_format_2 8 rfl rfl)
theorem dX1_format_56 : decode cX1_format 56 = .ok (.astore 4, 2) := dk_58 4 (dk_at dksX1_format_2 11 rfl rfl)
theorem dX1_format_58 : decode cX1_format 58 = .ok (.iconst 0, 1) := dk_3 (dk_at dksX1_format_2 13 rfl rfl)
theorem dX1_format_59 : decode cX1_format 59 = .ok (.istore 5, 2) := dk_54 5 (dk_at dksX1_format_2 14 rfl rfl)
theorem dX1_format_61 : decode cX1_format 61 = .ok (.iload 5, 2) := dk_21 5 (dk_at dksX1_format_2 16 rfl rfl)
theorem dX1_format_63 : decode cX1_format 63 = .ok (.aload 4, 2) := dk_25 4 (dk_at dksX1_format_2 18 rfl rfl)
theorem dX1_format_65 : decode cX1_format 65 = .ok (.arraylength, 1) := dk_190 (dk_at dksX1_format_2 20 rfl rfl)
theorem dX1_format_66 : decode cX1_format 66 = .ok (.if_icmp .ge 31, 3) := dk_162 0 31 (dk_at dksX1_format_2 21 rfl rfl)
theorem dX1_format_69 : decode cX1_format 69 = .ok (.iload 5, 2) := dk_21 5 (dk_at dksX1_format_3 0 rfl rfl)
theorem dX1_format_71 : decode cX1_format 71 = .ok (.ifCond .le 10, 3) := dk_158 0 10 (dk_at dksX1_format_3 2 rfl rfl)
theorem dX1_format_74 : decode cX1_format 74 = .ok (.aload_n 3, 1) := dk_45 (dk_at dksX1_format_3 5 rfl rfl)
theorem dX1_format_75 : decode cX1_format 75 = .ok (.bipush 44, 2) := dk_16 44 (dk_at dksX1_format_3 6 rfl rfl)
theorem dX1_format_77 : decode cX1_format 77 = .ok (.invokevirtual 433, 3) := dk_182 1 177 (dk_at dksX1_format_3 8 rfl rfl)
theorem dX1_format_80 : decode cX1_format 80 = .ok (.pop, 1) := dk_87 (dk_at dksX1_format_3 11 rfl rfl)
theorem dX1_format_81 : decode cX1_format 81 = .ok (.aload_n 3, 1) := dk_45 (dk_at dksX1_format_3 12 rfl rfl)
theorem dX1_format_82 : decode cX1_format 82 = .ok (.aload 4, 2) := dk_25 4 (dk_at dksX1_format_3 13 rfl rfl)
theorem dX1_format_84 : decode cX1_format 84 = .ok (.iload 5, 2) := dk_21 5 (dk_at dksX1_format_3 15 rfl rfl)
theorem dX1_format_86 : decode cX1_format 86 = .ok (.iaload, 1) := dk_46 (dk_at dksX1_format_3 17 rfl rfl)
theorem dX1_format_87 : decode cX1_format 87 = .ok (.invokevirtual 436, 3) := dk_182 1 180 (dk_at dksX1_format_3 18 rfl rfl)
theorem dX1_format_90 : decode cX1_format 90 = .ok (.pop, 1) := dk_87 (dk_at dksX1_format_3 21 rfl rfl)
theorem dX1_format_91 : decode cX1_format 91 = .ok (.iinc 5 1, 3) := dk_132 5 1 (dk_at dksX1_format_4 0 rfl rfl)
theorem dX1_format_94 : decode cX1_format 94 = .ok (.goto (-33), 3) := dk_167 255 223 (dk_at dksX1_format_4 3 rfl rfl)
theorem dX1_format_97 : decode cX1_format 97 = .ok (.aload_n 2, 1) := dk_44 (dk_at dksX1_format_4 6 rfl rfl)
theorem dX1_format_98 : decode cX1_format 98 = .ok (.getfield 245, 3) := dk_180 0 245 (dk_at dksX1_format_4 7 rfl rfl)
theorem dX1_format_101 : decode cX1_format 101 = .ok (.ifCond .eq 10, 3) := dk_153 0 10 (dk_at dksX1_format_4 10 rfl rfl)
theorem dX1_format_104 : decode cX1_format 104 = .ok (.aload_n 3, 1) := dk_45 (dk_at dksX1_format_4 13 rfl rfl)
theorem dX1_format_105 : decode cX1_format 105 = .ok (.bipush 42, 2) := dk_16 42 (dk_at dksX1_format_4 14 rfl rfl)
theorem dX1_format_107 : decode cX1_format 107 = .ok (.invokevirtual 433, 3) := dk_182 1 177 (dk_at dksX1_format_4 16 rfl rfl)
theorem dX1_format_110 : decode cX1_format 110 = .ok (.pop, 1) := dk_87 (dk_at dksX1_format_4 19 rfl rfl)
theorem dX1_format_111 : decode cX1_format 111 = .ok (.aload_n 0, 1) := dk_42 (dk_at dksX1_format_4 20 rfl rfl)
theorem dX1_format_112 : decode cX1_format 112 = .ok (.aload_n 3, 1) := dk_45 (dk_at dksX1_format_4 21 rfl rfl)
theorem dX1_format_113 : decode cX1_format 113 = .ok (.invokevirtual 441, 3) := dk_182 1 185 (dk_at dksX1_format_5 0 rfl rfl)
theorem dX1_format_116 : decode cX1_format 116 = .ok (.putfield 92, 3) := dk_181 0 92 (dk_at dksX1_format_5 3 rfl rfl)
theorem dX1_format_119 : decode cX1_format 119 = .ok (.aload_n 0, 1) := dk_42 (dk_at dksX1_format_5 6 rfl rfl)
theorem dX1_format_120 : decode cX1_format 120 = .ok (.getfield 92, 3) := dk_180 0 92 (dk_at dksX1_format_5 7 rfl rfl)
theorem dX1_format_123 : decode cX1_format 123 = .ok (.invokevirtual 445, 3) := dk_182 1 189 (dk_at dksX1_format_5 10 rfl rfl)
theorem dX1_format_126 : decode cX1_format 126 = .ok (.ireturn, 1) := dk_172 (dk_at dksX1_format_5 13 rfl rfl)
theorem q125 : (Jvm.Cond.initialized "WreckShares") ∈ lw_all := lw_g (lw_at lw_m1 1 rfl) rfl
theorem q174 : (Jvm.Cond.instantiable "WreckShares" (8 : Nat)) ∈ lw_all := lw_g (lw_at lw_m1 50 rfl) rfl
theorem q176 : (Jvm.Cond.instanceMethod ({ cls := "WreckShares", name := "<init>", desc := "()V" } : Jvm.MethodName)) ∈ lw_all := lw_g (lw_at lw_m1 52 rfl) rfl
theorem q177 : (Jvm.Cond.code ({ cls := "WreckShares", name := "<init>", desc := "()V" } : Jvm.MethodName) prog_1_method_16_code (1 : Nat) (Option.none : Option Jvm.ClassFile.FieldType)) ∈ lw_all := lw_g (lw_at lw_m1 53 rfl) rfl
theorem q178 : (Jvm.Cond.methodLink "WreckShares" (58 : Nat) ({ cls := "java/lang/Object", name := "<init>", desc := "()V" } : Jvm.MethodName)) ∈ lw_all := lw_g (lw_at lw_m1 54 rfl) rfl
theorem q181 : (Jvm.Cond.methodLink "WreckShares" (71 : Nat) ({ cls := "WreckShares", name := "plain", desc := "()LWreckShares$Shore;" } : Jvm.MethodName)) ∈ lw_all := lw_g (lw_at lw_m1 57 rfl) rfl
theorem q182 : (Jvm.Cond.static ({ cls := "WreckShares", name := "plain", desc := "()LWreckShares$Shore;" } : Jvm.MethodName)) ∈ lw_all := lw_g (lw_at lw_m1 58 rfl) rfl
theorem q183 : (Jvm.Cond.code ({ cls := "WreckShares", name := "plain", desc := "()LWreckShares$Shore;" } : Jvm.MethodName) prog_1_method_15_code (1 : Nat) (Option.some (Jvm.ClassFile.FieldType.object "WreckShares$Shore"))) ∈ lw_all := lw_g (lw_at lw_m1 59 rfl) rfl
theorem q184 : (Jvm.Cond.classLink "WreckShares" (11 : Nat) "WreckShares$Shore") ∈ lw_all := lw_g (lw_at lw_m1 60 rfl) rfl
theorem q186 : (Jvm.Cond.methodLink "WreckShares" (40 : Nat) ({ cls := "WreckShares$Shore", name := "<init>", desc := "(IIII)V" } : Jvm.MethodName)) ∈ lw_all := lw_g (lw_at lw_m1 62 rfl) rfl
theorem q545 : (Jvm.Cond.fieldLinkNest "WreckShares" (169 : Nat) "WreckShares$Shore" "period" "I" "WreckShares") ∈ lw_tbl := lw_at lw_m2 181 rfl
theorem q547 : (Jvm.Cond.fieldLinkNest "WreckShares" (172 : Nat) "WreckShares$Shore" "stay" "I" "WreckShares") ∈ lw_tbl := lw_at lw_m2 183 rfl
theorem q549 : (Jvm.Cond.fieldLinkNest "WreckShares" (175 : Nat) "WreckShares$Shore" "wait" "I" "WreckShares") ∈ lw_tbl := lw_at lw_m2 185 rfl
theorem q552 : (Jvm.Cond.fieldLinkNest "WreckShares" (10 : Nat) "WreckShares$Shore" "goods" "Ljava/util/List;" "WreckShares") ∈ lw_tbl := lw_at lw_m2 188 rfl
theorem q555 : (Jvm.Cond.fieldLinkNest "WreckShares" (178 : Nat) "WreckShares$Shore" "purses" "[I" "WreckShares") ∈ lw_tbl := lw_at lw_m2 191 rfl
theorem q557 : (Jvm.Cond.fieldLinkNest "WreckShares" (275 : Nat) "WreckShares$Shore" "owners" "[I" "WreckShares") ∈ lw_tbl := lw_at lw_m2 193 rfl
theorem q559 : (Jvm.Cond.fieldLinkNest "WreckShares" (197 : Nat) "WreckShares$Shore" "sums" "[I" "WreckShares") ∈ lw_tbl := lw_at lw_m2 195 rfl
theorem q561 : (Jvm.Cond.fieldLinkNest "WreckShares" (162 : Nat) "WreckShares$Shore" "time" "I" "WreckShares") ∈ lw_tbl := lw_at lw_m2 197 rfl
theorem q563 : (Jvm.Cond.fieldLinkNest "WreckShares" (188 : Nat) "WreckShares$Shore" "crown" "I" "WreckShares") ∈ lw_tbl := lw_at lw_m2 199 rfl
theorem q583 : (Jvm.Cond.classLink "WreckShares" (43 : Nat) "WreckShares$Good") ∈ lw_all := lw_g (lw_at lw_m2 219 rfl) rfl
theorem q585 : (Jvm.Cond.methodLink "WreckShares" (45 : Nat) ({ cls := "WreckShares$Kind", name := "of", desc := "(I)LWreckShares$Kind;" } : Jvm.MethodName)) ∈ lw_all := lw_g (lw_at lw_m2 221 rfl) rfl
theorem q596 : (Jvm.Cond.methodLink "WreckShares" (51 : Nat) ({ cls := "WreckShares$Good", name := "<init>", desc := "(ILWreckShares$Kind;IIII)V" } : Jvm.MethodName)) ∈ lw_all := lw_g (lw_at lw_m2 232 rfl) rfl
theorem q624 : (Jvm.Cond.fieldLinkNest "WreckShares" (259 : Nat) "WreckShares$Good" "number" "I" "WreckShares") ∈ lw_tbl := lw_at lw_m3 20 rfl
theorem q627 : (Jvm.Cond.fieldLinkNest "WreckShares" (217 : Nat) "WreckShares$Good" "value" "I" "WreckShares") ∈ lw_tbl := lw_at lw_m3 23 rfl
theorem q630 : (Jvm.Cond.fieldLinkNest "WreckShares" (220 : Nat) "WreckShares$Good" "mark" "I" "WreckShares") ∈ lw_tbl := lw_at lw_m3 26 rfl
theorem q633 : (Jvm.Cond.fieldLinkNest "WreckShares" (223 : Nat) "WreckShares$Good" "height" "I" "WreckShares") ∈ lw_tbl := lw_at lw_m3 29 rfl
theorem q636 : (Jvm.Cond.fieldLinkNest "WreckShares" (226 : Nat) "WreckShares$Good" "need" "I" "WreckShares") ∈ lw_tbl := lw_at lw_m3 32 rfl
theorem q638 : (Jvm.Cond.fieldLinkNest "WreckShares" (210 : Nat) "WreckShares$Good" "kind" "LWreckShares$Kind;" "WreckShares") ∈ lw_tbl := lw_at lw_m3 34 rfl
theorem q641 : (Jvm.Cond.fieldLinkNest "WreckShares" (235 : Nat) "WreckShares$Good" "rope" "Ljava/util/LinkedList;" "WreckShares") ∈ lw_tbl := lw_at lw_m3 37 rfl
theorem q644 : (Jvm.Cond.fieldLinkNest "WreckShares" (242 : Nat) "WreckShares$Good" "crew" "[I" "WreckShares") ∈ lw_tbl := lw_at lw_m3 40 rfl
theorem q648 : (Jvm.Cond.fieldLinkNest "WreckShares" (155 : Nat) "WreckShares$Good" "state" "I" "WreckShares") ∈ lw_tbl := lw_at lw_m3 44 rfl
theorem q651 : (Jvm.Cond.fieldLinkNest "WreckShares" (229 : Nat) "WreckShares$Good" "washed" "I" "WreckShares") ∈ lw_tbl := lw_at lw_m3 47 rfl
theorem q654 : (Jvm.Cond.fieldLinkNest "WreckShares" (232 : Nat) "WreckShares$Good" "due" "I" "WreckShares") ∈ lw_tbl := lw_at lw_m3 50 rfl
theorem q657 : (Jvm.Cond.fieldLinkNest "WreckShares" (245 : Nat) "WreckShares$Good" "isClaimed" "Z" "WreckShares") ∈ lw_tbl := lw_at lw_m3 53 rfl
theorem q683 : (Jvm.Cond.interfaceEntry "WreckShares" (54 : Nat)) ∈ lw_tbl := lw_at lw_m3 79 rfl
theorem q684 : (Jvm.Cond.methodLink "WreckShares" (54 : Nat) ({ cls := "java/util/List", name := "add", desc := "(Ljava/lang/Object;)Z" } : Jvm.MethodName)) ∈ lw_all := lw_g (lw_at lw_m3 80 rfl) rfl
theorem q714 : (Jvm.Cond.selects "WreckShares" ({ cls := "java/lang/Object", name := "getClass", desc := "()Ljava/lang/Class;" } : Jvm.MethodName) ({ cls := "java/lang/Object", name := "getClass", desc := "()Ljava/lang/Class;" } : Jvm.MethodName)) ∈ lw_all := lw_g (lw_at lw_m3 110 rfl) rfl
theorem q783 : (Jvm.Cond.classLink "WreckShares" (79 : Nat) "java/util/ArrayDeque") ∈ lw_all := lw_g (lw_at lw_m3 179 rfl) rfl
theorem q785 : (Jvm.Cond.methodLink "WreckShares" (81 : Nat) ({ cls := "java/util/ArrayDeque", name := "<init>", desc := "()V" } : Jvm.MethodName)) ∈ lw_all := lw_g (lw_at lw_m3 181 rfl) rfl
theorem q800 : (Jvm.Cond.stringRef "WreckShares" (90 : Nat) "") ∈ lw_tbl := lw_at lw_m3 196 rfl
theorem q802 : (Jvm.Cond.fieldLink "WreckShares" (63 : Nat) "WreckShares" "buffer" "[B") ∈ lw_all := lw_g (lw_at lw_m3 198 rfl) rfl
theorem q803 : (Jvm.Cond.fieldLink "WreckShares" (96 : Nat) "WreckShares" "buffered" "I") ∈ lw_all := lw_g (lw_at lw_m3 199 rfl) rfl
theorem q804 : (Jvm.Cond.fieldLink "WreckShares" (67 : Nat) "WreckShares" "errorAt" "I") ∈ lw_all := lw_g (lw_at lw_m3 200 rfl) rfl
theorem q807 : (Jvm.Cond.fieldLink "WreckShares" (75 : Nat) "WreckShares" "now" "LWreckShares$Shore;") ∈ lw_all := lw_g (lw_at lw_m3 203 rfl) rfl
theorem q808 : (Jvm.Cond.fieldLink "WreckShares" (138 : Nat) "WreckShares" "snapshot" "LWreckShares$Shore;") ∈ lw_all := lw_g (lw_at lw_m3 204 rfl) rfl
theorem q809 : (Jvm.Cond.fieldLink "WreckShares" (82 : Nat) "WreckShares" "history" "Ljava/util/ArrayDeque;") ∈ lw_all := lw_g (lw_at lw_m3 205 rfl) rfl
theorem q810 : (Jvm.Cond.fieldLink "WreckShares" (86 : Nat) "WreckShares" "counts" "[I") ∈ lw_all := lw_g (lw_at lw_m3 206 rfl) rfl
theorem q811 : (Jvm.Cond.fieldLink "WreckShares" (92 : Nat) "WreckShares" "formatted" "Ljava/lang/String;") ∈ lw_all := lw_g (lw_at lw_m3 207 rfl) rfl
theorem q812 : (Jvm.Cond.laysFinal "WreckShares" "WreckShares" "buffer" "[B") ∈ lw_all := lw_g (lw_at lw_m3 208 rfl) rfl
theorem q813 : (Jvm.Cond.soleField "WreckShares" "buffer") ∈ lw_all := lw_g (lw_at lw_m3 209 rfl) rfl
theorem q814 : (Jvm.Cond.lays "WreckShares" "WreckShares" "buffered" "I") ∈ lw_all := lw_g (lw_at lw_m3 210 rfl) rfl
theorem q815 : (Jvm.Cond.soleField "WreckShares" "buffered") ∈ lw_all := lw_g (lw_at lw_m3 211 rfl) rfl
theorem q816 : (Jvm.Cond.lays "WreckShares" "WreckShares" "errorAt" "I") ∈ lw_all := lw_g (lw_at lw_m3 212 rfl) rfl
theorem q817 : (Jvm.Cond.soleField "WreckShares" "errorAt") ∈ lw_all := lw_g (lw_at lw_m3 213 rfl) rfl
theorem q818 : (Jvm.Cond.lays "WreckShares" "WreckShares" "now" "LWreckShares$Shore;") ∈ lw_all := lw_g (lw_at lw_m3 214 rfl) rfl
theorem q819 : (Jvm.Cond.soleField "WreckShares" "now") ∈ lw_all := lw_g (lw_at lw_m3 215 rfl) rfl
theorem q820 : (Jvm.Cond.lays "WreckShares" "WreckShares" "snapshot" "LWreckShares$Shore;") ∈ lw_all := lw_g (lw_at lw_m3 216 rfl) rfl
theorem q821 : (Jvm.Cond.soleField "WreckShares" "snapshot") ∈ lw_all := lw_g (lw_at lw_m3 217 rfl) rfl
theorem q822 : (Jvm.Cond.laysFinal "WreckShares" "WreckShares" "history" "Ljava/util/ArrayDeque;") ∈ lw_all := lw_g (lw_at lw_m3 218 rfl) rfl
theorem q823 : (Jvm.Cond.soleField "WreckShares" "history") ∈ lw_all := lw_g (lw_at lw_m3 219 rfl) rfl
theorem q824 : (Jvm.Cond.laysFinal "WreckShares" "WreckShares" "counts" "[I") ∈ lw_all := lw_g (lw_at lw_m3 220 rfl) rfl
theorem q825 : (Jvm.Cond.soleField "WreckShares" "counts") ∈ lw_all := lw_g (lw_at lw_m3 221 rfl) rfl
theorem q826 : (Jvm.Cond.lays "WreckShares" "WreckShares" "formatted" "Ljava/lang/String;") ∈ lw_all := lw_g (lw_at lw_m3 222 rfl) rfl
theorem q827 : (Jvm.Cond.soleField "WreckShares" "formatted") ∈ lw_all := lw_g (lw_at lw_m3 223 rfl) rfl
theorem q828 : (Jvm.Cond.superclass "WreckShares" "java/lang/Object") ∈ lw_all := lw_g (lw_at lw_m3 224 rfl) rfl
theorem q830 : (Jvm.Cond.instanceMethod ({ cls := "WreckShares", name := "feed", desc := "(IIIII)I" } : Jvm.MethodName)) ∈ lw_all := lw_g (lw_at lw_m3 226 rfl) rfl
theorem q831 : (Jvm.Cond.selects "WreckShares" ({ cls := "WreckShares", name := "feed", desc := "(IIIII)I" } : Jvm.MethodName) ({ cls := "WreckShares", name := "feed", desc := "(IIIII)I" } : Jvm.MethodName)) ∈ lw_all := lw_g (lw_at lw_m3 227 rfl) rfl
theorem q832 : (Jvm.Cond.code ({ cls := "WreckShares", name := "feed", desc := "(IIIII)I" } : Jvm.MethodName) prog_1_method_18_code (6 : Nat) (Option.some Jvm.ClassFile.FieldType.int)) ∈ lw_all := lw_g (lw_at lw_m3 228 rfl) rfl
theorem q833 : (Jvm.Cond.methodLink "WreckShares" (99 : Nat) ({ cls := "WreckShares", name := "append", desc := "(I)V" } : Jvm.MethodName)) ∈ lw_all := lw_g (lw_at lw_m3 229 rfl) rfl
theorem q834 : (Jvm.Cond.privateMethod ({ cls := "WreckShares", name := "append", desc := "(I)V" } : Jvm.MethodName)) ∈ lw_tbl := lw_at lw_m3 230 rfl
theorem q835 : (Jvm.Cond.instanceMethod ({ cls := "WreckShares", name := "append", desc := "(I)V" } : Jvm.MethodName)) ∈ lw_all := lw_g (lw_at lw_m3 231 rfl) rfl
theorem q836 : (Jvm.Cond.code ({ cls := "WreckShares", name := "append", desc := "(I)V" } : Jvm.MethodName) prog_1_method_17_code (3 : Nat) (Option.none : Option Jvm.ClassFile.FieldType)) ∈ lw_all := lw_g (lw_at lw_m3 232 rfl) rfl
theorem q838 : (Jvm.Cond.instanceMethod ({ cls := "WreckShares", name := "errorPosition", desc := "()I" } : Jvm.MethodName)) ∈ lw_all := lw_g (lw_at lw_m3 234 rfl) rfl
theorem q839 : (Jvm.Cond.selects "WreckShares" ({ cls := "WreckShares", name := "errorPosition", desc := "()I" } : Jvm.MethodName) ({ cls := "WreckShares", name := "errorPosition", desc := "()I" } : Jvm.MethodName)) ∈ lw_all := lw_g (lw_at lw_m3 235 rfl) rfl
theorem q840 : (Jvm.Cond.code ({ cls := "WreckShares", name := "errorPosition", desc := "()I" } : Jvm.MethodName) prog_1_method_22_code (1 : Nat) (Option.some Jvm.ClassFile.FieldType.int)) ∈ lw_all := lw_g (lw_at lw_m3 236 rfl) rfl
theorem q842 : (Jvm.Cond.instanceMethod ({ cls := "WreckShares", name := "ranked", desc := "(I)I" } : Jvm.MethodName)) ∈ lw_all := lw_g (lw_at lw_m3 238 rfl) rfl
theorem q843 : (Jvm.Cond.selects "WreckShares" ({ cls := "WreckShares", name := "ranked", desc := "(I)I" } : Jvm.MethodName) ({ cls := "WreckShares", name := "ranked", desc := "(I)I" } : Jvm.MethodName)) ∈ lw_all := lw_g (lw_at lw_m3 239 rfl) rfl
theorem q844 : (Jvm.Cond.code ({ cls := "WreckShares", name := "ranked", desc := "(I)I" } : Jvm.MethodName) prog_1_method_38_code (5 : Nat) (Option.some Jvm.ClassFile.FieldType.int)) ∈ lw_all := lw_g (lw_at lw_m4 0 rfl) rfl
theorem q845 : (Jvm.Cond.methodLink "WreckShares" (289 : Nat) ({ cls := "WreckShares", name := "isAhead", desc := "(II)Z" } : Jvm.MethodName)) ∈ lw_all := lw_g (lw_at lw_m4 1 rfl) rfl
theorem q846 : (Jvm.Cond.privateMethod ({ cls := "WreckShares", name := "isAhead", desc := "(II)Z" } : Jvm.MethodName)) ∈ lw_tbl := lw_at lw_m4 2 rfl
theorem q847 : (Jvm.Cond.instanceMethod ({ cls := "WreckShares", name := "isAhead", desc := "(II)Z" } : Jvm.MethodName)) ∈ lw_all := lw_g (lw_at lw_m4 3 rfl) rfl
theorem q848 : (Jvm.Cond.code ({ cls := "WreckShares", name := "isAhead", desc := "(II)Z" } : Jvm.MethodName) prog_1_method_37_code (3 : Nat) (Option.some Jvm.ClassFile.FieldType.boolean)) ∈ lw_all := lw_g (lw_at lw_m4 4 rfl) rfl
theorem q849 : (Jvm.Cond.methodLink "WreckShares" (158 : Nat) ({ cls := "WreckShares", name := "asInt", desc := "(Z)I" } : Jvm.MethodName)) ∈ lw_all := lw_g (lw_at lw_m4 5 rfl) rfl
theorem q850 : (Jvm.Cond.static ({ cls := "WreckShares", name := "asInt", desc := "(Z)I" } : Jvm.MethodName)) ∈ lw_all := lw_g (lw_at lw_m4 6 rfl) rfl
theorem q851 : (Jvm.Cond.code ({ cls := "WreckShares", name := "asInt", desc := "(Z)I" } : Jvm.MethodName) prog_1_method_2_code (1 : Nat) (Option.some Jvm.ClassFile.FieldType.int)) ∈ lw_all := lw_g (lw_at lw_m4 7 rfl) rfl
theorem q853 : (Jvm.Cond.instanceMethod ({ cls := "WreckShares", name := "richest", desc := "()I" } : Jvm.MethodName)) ∈ lw_all := lw_g (lw_at lw_m4 9 rfl) rfl
theorem q854 : (Jvm.Cond.selects "WreckShares" ({ cls := "WreckShares", name := "richest", desc := "()I" } : Jvm.MethodName) ({ cls := "WreckShares", name := "richest", desc := "()I" } : Jvm.MethodName)) ∈ lw_all := lw_g (lw_at lw_m4 10 rfl) rfl
theorem q855 : (Jvm.Cond.code ({ cls := "WreckShares", name := "richest", desc := "()I" } : Jvm.MethodName) prog_1_method_40_code (3 : Nat) (Option.some Jvm.ClassFile.FieldType.int)) ∈ lw_all := lw_g (lw_at lw_m4 11 rfl) rfl
theorem q857 : (Jvm.Cond.instanceMethod ({ cls := "WreckShares", name := "gap", desc := "()I" } : Jvm.MethodName)) ∈ lw_all := lw_g (lw_at lw_m4 13 rfl) rfl
theorem q858 : (Jvm.Cond.selects "WreckShares" ({ cls := "WreckShares", name := "gap", desc := "()I" } : Jvm.MethodName) ({ cls := "WreckShares", name := "gap", desc := "()I" } : Jvm.MethodName)) ∈ lw_all := lw_g (lw_at lw_m4 14 rfl) rfl
theorem q859 : (Jvm.Cond.code ({ cls := "WreckShares", name := "gap", desc := "()I" } : Jvm.MethodName) prog_1_method_41_code (6 : Nat) (Option.some Jvm.ClassFile.FieldType.int)) ∈ lw_all := lw_g (lw_at lw_m4 15 rfl) rfl
theorem q860 : (Jvm.Cond.interfaceEntry "WreckShares" (141 : Nat)) ∈ lw_tbl := lw_at lw_m4 16 rfl
theorem q861 : (Jvm.Cond.methodLink "WreckShares" (141 : Nat) ({ cls := "java/util/List", name := "iterator", desc := "()Ljava/util/Iterator;" } : Jvm.MethodName)) ∈ lw_all := lw_g (lw_at lw_m4 17 rfl) rfl
theorem q963 : (Jvm.Cond.interfaceEntry "WreckShares" (145 : Nat)) ∈ lw_tbl := lw_at lw_m4 119 rfl
theorem q964 : (Jvm.Cond.methodLink "WreckShares" (145 : Nat) ({ cls := "java/util/Iterator", name := "hasNext", desc := "()Z" } : Jvm.MethodName)) ∈ lw_all := lw_g (lw_at lw_m4 120 rfl) rfl
theorem q1003 : (Jvm.Cond.interfaceEntry "WreckShares" (151 : Nat)) ∈ lw_tbl := lw_at lw_m4 159 rfl
theorem q1004 : (Jvm.Cond.methodLink "WreckShares" (151 : Nat) ({ cls := "java/util/Iterator", name := "next", desc := "()Ljava/lang/Object;" } : Jvm.MethodName)) ∈ lw_all := lw_g (lw_at lw_m4 160 rfl) rfl
theorem q1179 : (Jvm.Cond.methodLink "WreckShares" (239 : Nat) ({ cls := "java/util/LinkedList", name := "size", desc := "()I" } : Jvm.MethodName)) ∈ lw_all := lw_g (lw_at lw_m5 95 rfl) rfl
theorem q1180 : (Jvm.Cond.classLink "WreckShares" (297 : Nat) "WreckShares$Lying") ∈ lw_all := lw_g (lw_at lw_m5 96 rfl) rfl
theorem q1182 : (Jvm.Cond.methodLink "WreckShares" (299 : Nat) ({ cls := "WreckShares$Lying", name := "<init>", desc := "(LWreckShares;)V" } : Jvm.MethodName)) ∈ lw_all := lw_g (lw_at lw_m5 98 rfl) rfl
theorem q1255 : (Jvm.Cond.methodLink "WreckShares" (302 : Nat) ({ cls := "WreckShares$Lying", name := "iterator", desc := "()Ljava/util/Iterator;" } : Jvm.MethodName)) ∈ lw_all := lw_g (lw_at lw_m5 171 rfl) rfl
theorem q1273 : (Jvm.Cond.instanceMethod ({ cls := "WreckShares", name := "turnIn", desc := "(Z)I" } : Jvm.MethodName)) ∈ lw_all := lw_g (lw_at lw_m5 189 rfl) rfl
theorem q1274 : (Jvm.Cond.selects "WreckShares" ({ cls := "WreckShares", name := "turnIn", desc := "(Z)I" } : Jvm.MethodName) ({ cls := "WreckShares", name := "turnIn", desc := "(Z)I" } : Jvm.MethodName)) ∈ lw_all := lw_g (lw_at lw_m5 190 rfl) rfl
theorem q1275 : (Jvm.Cond.code ({ cls := "WreckShares", name := "turnIn", desc := "(Z)I" } : Jvm.MethodName) prog_1_method_43_code (4 : Nat) (Option.some Jvm.ClassFile.FieldType.int)) ∈ lw_all := lw_g (lw_at lw_m5 191 rfl) rfl
theorem q1277 : (Jvm.Cond.instanceMethod ({ cls := "WreckShares", name := "nextLost", desc := "()I" } : Jvm.MethodName)) ∈ lw_all := lw_g (lw_at lw_m5 193 rfl) rfl
theorem q1278 : (Jvm.Cond.selects "WreckShares" ({ cls := "WreckShares", name := "nextLost", desc := "()I" } : Jvm.MethodName) ({ cls := "WreckShares", name := "nextLost", desc := "()I" } : Jvm.MethodName)) ∈ lw_all := lw_g (lw_at lw_m5 194 rfl) rfl
theorem q1279 : (Jvm.Cond.code ({ cls := "WreckShares", name := "nextLost", desc := "()I" } : Jvm.MethodName) prog_1_method_47_code (6 : Nat) (Option.some Jvm.ClassFile.FieldType.int)) ∈ lw_all := lw_g (lw_at lw_m5 195 rfl) rfl
theorem q1280 : (Jvm.Cond.constant "WreckShares" (314 : Nat) (1000000 : Int32)) ∈ lw_all := lw_g (lw_at lw_m5 196 rfl) rfl
theorem q1281 : (Jvm.Cond.methodLink "WreckShares" (311 : Nat) ({ cls := "WreckShares$Shore", name := "lostIn", desc := "(LWreckShares$Good;)I" } : Jvm.MethodName)) ∈ lw_all := lw_g (lw_at lw_m5 197 rfl) rfl
theorem q1300 : (Jvm.Cond.instanceMethod ({ cls := "WreckShares", name := "bestClaim", desc := "()I" } : Jvm.MethodName)) ∈ lw_all := lw_g (lw_at lw_m5 216 rfl) rfl
theorem q1301 : (Jvm.Cond.selects "WreckShares" ({ cls := "WreckShares", name := "bestClaim", desc := "()I" } : Jvm.MethodName) ({ cls := "WreckShares", name := "bestClaim", desc := "()I" } : Jvm.MethodName)) ∈ lw_all := lw_g (lw_at lw_m5 217 rfl) rfl
theorem q1302 : (Jvm.Cond.code ({ cls := "WreckShares", name := "bestClaim", desc := "()I" } : Jvm.MethodName) prog_1_method_56_code (7 : Nat) (Option.some Jvm.ClassFile.FieldType.int)) ∈ lw_all := lw_g (lw_at lw_m5 218 rfl) rfl
theorem q1303 : (Jvm.Cond.methodLink "WreckShares" (347 : Nat) ({ cls := "WreckShares", name := "isClaimable", desc := "(LWreckShares$Good;)Z" } : Jvm.MethodName)) ∈ lw_all := lw_g (lw_at lw_m5 219 rfl) rfl
theorem q1304 : (Jvm.Cond.privateMethod ({ cls := "WreckShares", name := "isClaimable", desc := "(LWreckShares$Good;)Z" } : Jvm.MethodName)) ∈ lw_tbl := lw_at lw_m5 220 rfl
theorem q1305 : (Jvm.Cond.instanceMethod ({ cls := "WreckShares", name := "isClaimable", desc := "(LWreckShares$Good;)Z" } : Jvm.MethodName)) ∈ lw_all := lw_g (lw_at lw_m5 221 rfl) rfl
theorem q1306 : (Jvm.Cond.code ({ cls := "WreckShares", name := "isClaimable", desc := "(LWreckShares$Good;)Z" } : Jvm.MethodName) prog_1_method_54_code (2 : Nat) (Option.some Jvm.ClassFile.FieldType.boolean)) ∈ lw_all := lw_g (lw_at lw_m5 222 rfl) rfl
theorem q1307 : (Jvm.Cond.methodLink "WreckShares" (338 : Nat) ({ cls := "java/lang/Math", name := "max", desc := "(II)I" } : Jvm.MethodName)) ∈ lw_all := lw_g (lw_at lw_m5 223 rfl) rfl
theorem q1309 : (Jvm.Cond.instanceMethod ({ cls := "WreckShares", name := "firstDue", desc := "()I" } : Jvm.MethodName)) ∈ lw_all := lw_g (lw_at lw_m5 225 rfl) rfl
theorem q1310 : (Jvm.Cond.selects "WreckShares" ({ cls := "WreckShares", name := "firstDue", desc := "()I" } : Jvm.MethodName) ({ cls := "WreckShares", name := "firstDue", desc := "()I" } : Jvm.MethodName)) ∈ lw_all := lw_g (lw_at lw_m5 226 rfl) rfl
theorem q1311 : (Jvm.Cond.code ({ cls := "WreckShares", name := "firstDue", desc := "()I" } : Jvm.MethodName) prog_1_method_57_code (4 : Nat) (Option.some Jvm.ClassFile.FieldType.int)) ∈ lw_all := lw_g (lw_at lw_m5 227 rfl) rfl
theorem q1313 : (Jvm.Cond.instanceMethod ({ cls := "WreckShares", name := "bestHaul", desc := "()I" } : Jvm.MethodName)) ∈ lw_all := lw_g (lw_at lw_m5 229 rfl) rfl
theorem q1314 : (Jvm.Cond.selects "WreckShares" ({ cls := "WreckShares", name := "bestHaul", desc := "()I" } : Jvm.MethodName) ({ cls := "WreckShares", name := "bestHaul", desc := "()I" } : Jvm.MethodName)) ∈ lw_all := lw_g (lw_at lw_m5 230 rfl) rfl
theorem q1315 : (Jvm.Cond.code ({ cls := "WreckShares", name := "bestHaul", desc := "()I" } : Jvm.MethodName) prog_1_method_63_code (6 : Nat) (Option.some Jvm.ClassFile.FieldType.int)) ∈ lw_all := lw_g (lw_at lw_m5 231 rfl) rfl
theorem q1316 : (Jvm.Cond.methodLink "WreckShares" (191 : Nat) ({ cls := "WreckShares$Shore", name := "freeFinders", desc := "()I" } : Jvm.MethodName)) ∈ lw_all := lw_g (lw_at lw_m5 232 rfl) rfl
theorem q1367 : (Jvm.Cond.selects "WreckShares" ({ cls := "java/lang/Object", name := "equals", desc := "(Ljava/lang/Object;)Z" } : Jvm.MethodName) ({ cls := "java/lang/Object", name := "equals", desc := "(Ljava/lang/Object;)Z" } : Jvm.MethodName)) ∈ lw_all := lw_g (lw_at lw_m6 43 rfl) rfl
theorem q1409 : (Jvm.Cond.methodLink "WreckShares" (165 : Nat) ({ cls := "WreckShares$Shore", name := "isDry", desc := "(LWreckShares$Good;I)Z" } : Jvm.MethodName)) ∈ lw_all := lw_g (lw_at lw_m6 85 rfl) rfl
theorem q1411 : (Jvm.Cond.instanceMethod ({ cls := "WreckShares", name := "savedShare", desc := "()F" } : Jvm.MethodName)) ∈ lw_all := lw_g (lw_at lw_m6 87 rfl) rfl
theorem q1412 : (Jvm.Cond.selects "WreckShares" ({ cls := "WreckShares", name := "savedShare", desc := "()F" } : Jvm.MethodName) ({ cls := "WreckShares", name := "savedShare", desc := "()F" } : Jvm.MethodName)) ∈ lw_all := lw_g (lw_at lw_m6 88 rfl) rfl
theorem q1413 : (Jvm.Cond.code ({ cls := "WreckShares", name := "savedShare", desc := "()F" } : Jvm.MethodName) prog_1_method_64_code (2 : Nat) (Option.some Jvm.ClassFile.FieldType.float)) ∈ lw_all := lw_g (lw_at lw_m6 89 rfl) rfl
theorem q1415 : (Jvm.Cond.instanceMethod ({ cls := "WreckShares", name := "crownPart", desc := "()D" } : Jvm.MethodName)) ∈ lw_all := lw_g (lw_at lw_m6 91 rfl) rfl
theorem q1416 : (Jvm.Cond.selects "WreckShares" ({ cls := "WreckShares", name := "crownPart", desc := "()D" } : Jvm.MethodName) ({ cls := "WreckShares", name := "crownPart", desc := "()D" } : Jvm.MethodName)) ∈ lw_all := lw_g (lw_at lw_m6 92 rfl) rfl
theorem q1417 : (Jvm.Cond.code ({ cls := "WreckShares", name := "crownPart", desc := "()D" } : Jvm.MethodName) prog_1_method_65_code (1 : Nat) (Option.some Jvm.ClassFile.FieldType.double)) ∈ lw_all := lw_g (lw_at lw_m6 93 rfl) rfl
theorem q1419 : (Jvm.Cond.instanceMethod ({ cls := "WreckShares", name := "offAll", desc := "()I" } : Jvm.MethodName)) ∈ lw_all := lw_g (lw_at lw_m6 95 rfl) rfl
theorem q1420 : (Jvm.Cond.selects "WreckShares" ({ cls := "WreckShares", name := "offAll", desc := "()I" } : Jvm.MethodName) ({ cls := "WreckShares", name := "offAll", desc := "()I" } : Jvm.MethodName)) ∈ lw_all := lw_g (lw_at lw_m6 96 rfl) rfl
theorem q1421 : (Jvm.Cond.code ({ cls := "WreckShares", name := "offAll", desc := "()I" } : Jvm.MethodName) prog_1_method_70_code (1 : Nat) (Option.some Jvm.ClassFile.FieldType.int)) ∈ lw_all := lw_g (lw_at lw_m6 97 rfl) rfl
theorem q1422 : (Jvm.Cond.methodLink "WreckShares" (394 : Nat) ({ cls := "WreckShares", name := "lettingAll", desc := "()LWreckShares$Deed;" } : Jvm.MethodName)) ∈ lw_all := lw_g (lw_at lw_m6 98 rfl) rfl
theorem q1423 : (Jvm.Cond.static ({ cls := "WreckShares", name := "lettingAll", desc := "()LWreckShares$Deed;" } : Jvm.MethodName)) ∈ lw_all := lw_g (lw_at lw_m6 99 rfl) rfl
theorem q1424 : (Jvm.Cond.code ({ cls := "WreckShares", name := "lettingAll", desc := "()LWreckShares$Deed;" } : Jvm.MethodName) prog_1_method_8_code (0 : Nat) (Option.some (Jvm.ClassFile.FieldType.object "WreckShares$Deed"))) ∈ lw_all := lw_g (lw_at lw_m6 100 rfl) rfl
theorem q1425 : (Jvm.Cond.static ({ cls := "WreckShares", name := "lambda$lettingAll$2", desc := "(LWreckShares$Shore;)I" } : Jvm.MethodName)) ∈ lw_all := lw_g (lw_at lw_m6 101 rfl) rfl
theorem q1426 : (Jvm.Cond.code ({ cls := "WreckShares", name := "lambda$lettingAll$2", desc := "(LWreckShares$Shore;)I" } : Jvm.MethodName) prog_1_method_93_code (1 : Nat) (Option.some Jvm.ClassFile.FieldType.int)) ∈ lw_all := lw_g (lw_at lw_m6 102 rfl) rfl
theorem q1427 : (Jvm.Cond.methodLink "WreckShares" (484 : Nat) ({ cls := "WreckShares$Shore", name := "letsAll", desc := "()I" } : Jvm.MethodName)) ∈ lw_all := lw_g (lw_at lw_m6 103 rfl) rfl
theorem q1447 : (Jvm.Cond.methodLink "WreckShares" (387 : Nat) ({ cls := "WreckShares", name := "done", desc := "(LWreckShares$Deed;)I" } : Jvm.MethodName)) ∈ lw_all := lw_g (lw_at lw_m6 123 rfl) rfl
theorem q1448 : (Jvm.Cond.privateMethod ({ cls := "WreckShares", name := "done", desc := "(LWreckShares$Deed;)I" } : Jvm.MethodName)) ∈ lw_tbl := lw_at lw_m6 124 rfl
theorem q1449 : (Jvm.Cond.instanceMethod ({ cls := "WreckShares", name := "done", desc := "(LWreckShares$Deed;)I" } : Jvm.MethodName)) ∈ lw_all := lw_g (lw_at lw_m6 125 rfl) rfl
theorem q1450 : (Jvm.Cond.code ({ cls := "WreckShares", name := "done", desc := "(LWreckShares$Deed;)I" } : Jvm.MethodName) prog_1_method_67_code (4 : Nat) (Option.some Jvm.ClassFile.FieldType.int)) ∈ lw_all := lw_g (lw_at lw_m6 126 rfl) rfl
theorem q1451 : (Jvm.Cond.methodLink "WreckShares" (372 : Nat) ({ cls := "WreckShares$Shore", name := "copy", desc := "()LWreckShares$Shore;" } : Jvm.MethodName)) ∈ lw_all := lw_g (lw_at lw_m6 127 rfl) rfl
theorem q1484 : (Jvm.Cond.interfaceEntry "WreckShares" (375 : Nat)) ∈ lw_tbl := lw_at lw_m6 160 rfl
theorem q1485 : (Jvm.Cond.methodLink "WreckShares" (375 : Nat) ({ cls := "WreckShares$Deed", name := "does", desc := "(LWreckShares$Shore;)I" } : Jvm.MethodName)) ∈ lw_all := lw_g (lw_at lw_m6 161 rfl) rfl
theorem q1488 : (Jvm.Cond.methodLink "WreckShares" (380 : Nat) ({ cls := "WreckShares", name := "keeps", desc := "(LWreckShares$Shore;)V" } : Jvm.MethodName)) ∈ lw_all := lw_g (lw_at lw_m6 164 rfl) rfl
theorem q1489 : (Jvm.Cond.privateMethod ({ cls := "WreckShares", name := "keeps", desc := "(LWreckShares$Shore;)V" } : Jvm.MethodName)) ∈ lw_tbl := lw_at lw_m6 165 rfl
theorem q1490 : (Jvm.Cond.instanceMethod ({ cls := "WreckShares", name := "keeps", desc := "(LWreckShares$Shore;)V" } : Jvm.MethodName)) ∈ lw_all := lw_g (lw_at lw_m6 166 rfl) rfl
theorem q1491 : (Jvm.Cond.code ({ cls := "WreckShares", name := "keeps", desc := "(LWreckShares$Shore;)V" } : Jvm.MethodName) prog_1_method_66_code (2 : Nat) (Option.none : Option Jvm.ClassFile.FieldType)) ∈ lw_all := lw_g (lw_at lw_m6 167 rfl) rfl
theorem q1492 : (Jvm.Cond.methodLink "WreckShares" (364 : Nat) ({ cls := "java/util/ArrayDeque", name := "size", desc := "()I" } : Jvm.MethodName)) ∈ lw_all := lw_g (lw_at lw_m6 168 rfl) rfl
theorem q1499 : (Jvm.Cond.methodLink "WreckShares" (365 : Nat) ({ cls := "java/util/ArrayDeque", name := "removeFirst", desc := "()Ljava/lang/Object;" } : Jvm.MethodName)) ∈ lw_all := lw_g (lw_at lw_m6 175 rfl) rfl
theorem q1515 : (Jvm.Cond.methodLink "WreckShares" (368 : Nat) ({ cls := "java/util/ArrayDeque", name := "addLast", desc := "(Ljava/lang/Object;)V" } : Jvm.MethodName)) ∈ lw_all := lw_g (lw_at lw_m6 191 rfl) rfl
theorem q1532 : (Jvm.Cond.instanceMethod ({ cls := "WreckShares", name := "divideAll", desc := "()I" } : Jvm.MethodName)) ∈ lw_all := lw_g (lw_at lw_m6 208 rfl) rfl
theorem q1533 : (Jvm.Cond.selects "WreckShares" ({ cls := "WreckShares", name := "divideAll", desc := "()I" } : Jvm.MethodName) ({ cls := "WreckShares", name := "divideAll", desc := "()I" } : Jvm.MethodName)) ∈ lw_all := lw_g (lw_at lw_m6 209 rfl) rfl
theorem q1534 : (Jvm.Cond.code ({ cls := "WreckShares", name := "divideAll", desc := "()I" } : Jvm.MethodName) prog_1_method_75_code (1 : Nat) (Option.some Jvm.ClassFile.FieldType.int)) ∈ lw_all := lw_g (lw_at lw_m6 210 rfl) rfl
theorem q1535 : (Jvm.Cond.methodLink "WreckShares" (409 : Nat) ({ cls := "WreckShares", name := "dividingAll", desc := "()LWreckShares$Deed;" } : Jvm.MethodName)) ∈ lw_all := lw_g (lw_at lw_m6 211 rfl) rfl
theorem q1536 : (Jvm.Cond.static ({ cls := "WreckShares", name := "dividingAll", desc := "()LWreckShares$Deed;" } : Jvm.MethodName)) ∈ lw_all := lw_g (lw_at lw_m6 212 rfl) rfl
theorem q1537 : (Jvm.Cond.code ({ cls := "WreckShares", name := "dividingAll", desc := "()LWreckShares$Deed;" } : Jvm.MethodName) prog_1_method_13_code (0 : Nat) (Option.some (Jvm.ClassFile.FieldType.object "WreckShares$Deed"))) ∈ lw_all := lw_g (lw_at lw_m6 213 rfl) rfl
theorem q1538 : (Jvm.Cond.static ({ cls := "WreckShares", name := "lambda$dividingAll$7", desc := "(LWreckShares$Shore;)I" } : Jvm.MethodName)) ∈ lw_all := lw_g (lw_at lw_m6 214 rfl) rfl
theorem q1539 : (Jvm.Cond.code ({ cls := "WreckShares", name := "lambda$dividingAll$7", desc := "(LWreckShares$Shore;)I" } : Jvm.MethodName) prog_1_method_88_code (1 : Nat) (Option.some Jvm.ClassFile.FieldType.int)) ∈ lw_all := lw_g (lw_at lw_m6 215 rfl) rfl
theorem q1540 : (Jvm.Cond.methodLink "WreckShares" (464 : Nat) ({ cls := "WreckShares$Shore", name := "dividesAll", desc := "()I" } : Jvm.MethodName)) ∈ lw_all := lw_g (lw_at lw_m6 216 rfl) rfl
theorem q1680 : (Jvm.Cond.instanceMethod ({ cls := "WreckShares", name := "formattedByte", desc := "(I)I" } : Jvm.MethodName)) ∈ lw_all := lw_g (lw_at lw_m7 116 rfl) rfl
theorem q1681 : (Jvm.Cond.selects "WreckShares" ({ cls := "WreckShares", name := "formattedByte", desc := "(I)I" } : Jvm.MethodName) ({ cls := "WreckShares", name := "formattedByte", desc := "(I)I" } : Jvm.MethodName)) ∈ lw_all := lw_g (lw_at lw_m7 117 rfl) rfl
theorem q1682 : (Jvm.Cond.code ({ cls := "WreckShares", name := "formattedByte", desc := "(I)I" } : Jvm.MethodName) prog_1_method_79_code (2 : Nat) (Option.some Jvm.ClassFile.FieldType.int)) ∈ lw_all := lw_g (lw_at lw_m7 118 rfl) rfl
theorem q1683 : (Jvm.Cond.methodLink "WreckShares" (445 : Nat) ({ cls := "java/lang/String", name := "length", desc := "()I" } : Jvm.MethodName)) ∈ lw_all := lw_g (lw_at lw_m7 119 rfl) rfl
theorem q1684 : (Jvm.Cond.methodLink "WreckShares" (103 : Nat) ({ cls := "WreckShares", name := "isIn", desc := "(III)Z" } : Jvm.MethodName)) ∈ lw_all := lw_g (lw_at lw_m7 120 rfl) rfl
theorem q1685 : (Jvm.Cond.static ({ cls := "WreckShares", name := "isIn", desc := "(III)Z" } : Jvm.MethodName)) ∈ lw_all := lw_g (lw_at lw_m7 121 rfl) rfl
theorem q1686 : (Jvm.Cond.code ({ cls := "WreckShares", name := "isIn", desc := "(III)Z" } : Jvm.MethodName) prog_1_method_1_code (3 : Nat) (Option.some Jvm.ClassFile.FieldType.boolean)) ∈ lw_all := lw_g (lw_at lw_m7 122 rfl) rfl
theorem q1687 : (Jvm.Cond.methodLink "WreckShares" (427 : Nat) ({ cls := "java/lang/String", name := "charAt", desc := "(I)C" } : Jvm.MethodName)) ∈ lw_all := lw_g (lw_at lw_m7 123 rfl) rfl
theorem q1710 : (Jvm.Cond.instanceMethod ({ cls := "WreckShares", name := "undoCount", desc := "()I" } : Jvm.MethodName)) ∈ lw_all := lw_g (lw_at lw_m7 146 rfl) rfl
theorem q1711 : (Jvm.Cond.selects "WreckShares" ({ cls := "WreckShares", name := "undoCount", desc := "()I" } : Jvm.MethodName) ({ cls := "WreckShares", name := "undoCount", desc := "()I" } : Jvm.MethodName)) ∈ lw_all := lw_g (lw_at lw_m7 147 rfl) rfl
theorem q1712 : (Jvm.Cond.code ({ cls := "WreckShares", name := "undoCount", desc := "()I" } : Jvm.MethodName) prog_1_method_80_code (1 : Nat) (Option.some Jvm.ClassFile.FieldType.int)) ∈ lw_all := lw_g (lw_at lw_m7 148 rfl) rfl
theorem q1714 : (Jvm.Cond.instanceMethod ({ cls := "WreckShares", name := "undo", desc := "()I" } : Jvm.MethodName)) ∈ lw_all := lw_g (lw_at lw_m7 150 rfl) rfl
theorem q1715 : (Jvm.Cond.selects "WreckShares" ({ cls := "WreckShares", name := "undo", desc := "()I" } : Jvm.MethodName) ({ cls := "WreckShares", name := "undo", desc := "()I" } : Jvm.MethodName)) ∈ lw_all := lw_g (lw_at lw_m7 151 rfl) rfl
theorem q1716 : (Jvm.Cond.code ({ cls := "WreckShares", name := "undo", desc := "()I" } : Jvm.MethodName) prog_1_method_81_code (1 : Nat) (Option.some Jvm.ClassFile.FieldType.int)) ∈ lw_all := lw_g (lw_at lw_m7 152 rfl) rfl
theorem q1717 : (Jvm.Cond.methodLink "WreckShares" (448 : Nat) ({ cls := "java/util/ArrayDeque", name := "isEmpty", desc := "()Z" } : Jvm.MethodName)) ∈ lw_all := lw_g (lw_at lw_m7 153 rfl) rfl
theorem q1721 : (Jvm.Cond.methodLink "WreckShares" (451 : Nat) ({ cls := "java/util/ArrayDeque", name := "removeLast", desc := "()Ljava/lang/Object;" } : Jvm.MethodName)) ∈ lw_all := lw_g (lw_at lw_m7 157 rfl) rfl
theorem q1733 : (Jvm.Cond.instanceMethod ({ cls := "WreckShares", name := "saveSnapshot", desc := "()V" } : Jvm.MethodName)) ∈ lw_all := lw_g (lw_at lw_m7 169 rfl) rfl
theorem q1734 : (Jvm.Cond.selects "WreckShares" ({ cls := "WreckShares", name := "saveSnapshot", desc := "()V" } : Jvm.MethodName) ({ cls := "WreckShares", name := "saveSnapshot", desc := "()V" } : Jvm.MethodName)) ∈ lw_all := lw_g (lw_at lw_m7 170 rfl) rfl
theorem q1735 : (Jvm.Cond.code ({ cls := "WreckShares", name := "saveSnapshot", desc := "()V" } : Jvm.MethodName) prog_1_method_82_code (1 : Nat) (Option.none : Option Jvm.ClassFile.FieldType)) ∈ lw_all := lw_g (lw_at lw_m7 171 rfl) rfl
theorem q1737 : (Jvm.Cond.instanceMethod ({ cls := "WreckShares", name := "restoreSnapshot", desc := "()Z" } : Jvm.MethodName)) ∈ lw_all := lw_g (lw_at lw_m7 173 rfl) rfl
theorem q1738 : (Jvm.Cond.selects "WreckShares" ({ cls := "WreckShares", name := "restoreSnapshot", desc := "()Z" } : Jvm.MethodName) ({ cls := "WreckShares", name := "restoreSnapshot", desc := "()Z" } : Jvm.MethodName)) ∈ lw_all := lw_g (lw_at lw_m7 174 rfl) rfl
theorem q1739 : (Jvm.Cond.code ({ cls := "WreckShares", name := "restoreSnapshot", desc := "()Z" } : Jvm.MethodName) prog_1_method_83_code (1 : Nat) (Option.some Jvm.ClassFile.FieldType.boolean)) ∈ lw_all := lw_g (lw_at lw_m7 175 rfl) rfl
theorem q1740 : (Jvm.Cond.methodLink "WreckShares" (135 : Nat) ({ cls := "java/util/ArrayDeque", name := "clear", desc := "()V" } : Jvm.MethodName)) ∈ lw_all := lw_g (lw_at lw_m7 176 rfl) rfl
theorem q1752 : (Jvm.Cond.instanceMethod ({ cls := "WreckShares", name := "load", desc := "(I)I" } : Jvm.MethodName)) ∈ lw_all := lw_g (lw_at lw_m7 188 rfl) rfl
theorem q1753 : (Jvm.Cond.selects "WreckShares" ({ cls := "WreckShares", name := "load", desc := "(I)I" } : Jvm.MethodName) ({ cls := "WreckShares", name := "load", desc := "(I)I" } : Jvm.MethodName)) ∈ lw_all := lw_g (lw_at lw_m7 189 rfl) rfl
theorem q1754 : (Jvm.Cond.codeWith ({ cls := "WreckShares", name := "load", desc := "(I)I" } : Jvm.MethodName) prog_1_method_21_code (4 : Nat) (Option.some Jvm.ClassFile.FieldType.int) [((6 : Nat), (14 : Nat), (17 : Nat), (117 : Nat))]) ∈ lw_all := lw_g (lw_at lw_m7 190 rfl) rfl
theorem q1755 : (Jvm.Cond.classLink "WreckShares" (117 : Nat) "WreckShares$TextError") ∈ lw_all := lw_g (lw_at lw_m7 191 rfl) rfl
theorem q1756 : (Jvm.Cond.methodLink "WreckShares" (124 : Nat) ({ cls := "WreckShares", name := "reading", desc := "(I)LWreckShares$Parser;" } : Jvm.MethodName)) ∈ lw_all := lw_g (lw_at lw_m7 192 rfl) rfl
theorem q1757 : (Jvm.Cond.privateMethod ({ cls := "WreckShares", name := "reading", desc := "(I)LWreckShares$Parser;" } : Jvm.MethodName)) ∈ lw_tbl := lw_at lw_m7 193 rfl
theorem q1758 : (Jvm.Cond.instanceMethod ({ cls := "WreckShares", name := "reading", desc := "(I)LWreckShares$Parser;" } : Jvm.MethodName)) ∈ lw_all := lw_g (lw_at lw_m7 194 rfl) rfl
theorem q1759 : (Jvm.Cond.code ({ cls := "WreckShares", name := "reading", desc := "(I)LWreckShares$Parser;" } : Jvm.MethodName) prog_1_method_19_code (2 : Nat) (Option.some (Jvm.ClassFile.FieldType.object "WreckShares$Parser"))) ∈ lw_all := lw_g (lw_at lw_m7 195 rfl) rfl
theorem q1760 : (Jvm.Cond.methodLink "WreckShares" (107 : Nat) ({ cls := "WreckShares", name := "requireArgument", desc := "(Z)V" } : Jvm.MethodName)) ∈ lw_all := lw_g (lw_at lw_m7 196 rfl) rfl
theorem q1761 : (Jvm.Cond.static ({ cls := "WreckShares", name := "requireArgument", desc := "(Z)V" } : Jvm.MethodName)) ∈ lw_all := lw_g (lw_at lw_m7 197 rfl) rfl
theorem q1762 : (Jvm.Cond.code ({ cls := "WreckShares", name := "requireArgument", desc := "(Z)V" } : Jvm.MethodName) prog_1_method_3_code (1 : Nat) (Option.none : Option Jvm.ClassFile.FieldType)) ∈ lw_all := lw_g (lw_at lw_m7 198 rfl) rfl
theorem q1763 : (Jvm.Cond.classLink "WreckShares" (1 : Nat) "java/lang/IllegalArgumentException") ∈ lw_all := lw_g (lw_at lw_m7 199 rfl) rfl
theorem q1764 : (Jvm.Cond.methodLink "WreckShares" (3 : Nat) ({ cls := "java/lang/IllegalArgumentException", name := "<init>", desc := "()V" } : Jvm.MethodName)) ∈ lw_all := lw_g (lw_at lw_m7 200 rfl) rfl
theorem q1768 : (Jvm.Cond.classLink "WreckShares" (111 : Nat) "WreckShares$Parser") ∈ lw_all := lw_g (lw_at lw_m7 204 rfl) rfl
theorem q1770 : (Jvm.Cond.methodLink "WreckShares" (113 : Nat) ({ cls := "WreckShares$Parser", name := "<init>", desc := "(LWreckShares;I)V" } : Jvm.MethodName)) ∈ lw_all := lw_g (lw_at lw_m7 206 rfl) rfl
theorem q1843 : (Jvm.Cond.fieldLinkNest "WreckShares" (419 : Nat) "WreckShares$Parser" "many" "I" "WreckShares") ∈ lw_tbl := lw_at lw_m8 39 rfl
theorem q1865 : (Jvm.Cond.methodLink "WreckShares" (128 : Nat) ({ cls := "WreckShares$Parser", name := "text", desc := "()LWreckShares$Shore;" } : Jvm.MethodName)) ∈ lw_all := lw_g (lw_at lw_m8 61 rfl) rfl
theorem q1904 : (Jvm.Cond.fieldLinkNest "WreckShares" (121 : Nat) "WreckShares$TextError" "code" "I" "WreckShares") ∈ lw_tbl := lw_at lw_m8 100 rfl
theorem q1906 : (Jvm.Cond.fieldLinkNest "WreckShares" (116 : Nat) "WreckShares$TextError" "position" "I" "WreckShares") ∈ lw_tbl := lw_at lw_m8 102 rfl
theorem q2004 : (Jvm.Cond.methodLink "WreckShares" (131 : Nat) ({ cls := "WreckShares", name := "failed", desc := "(LWreckShares$TextError;)I" } : Jvm.MethodName)) ∈ lw_all := lw_g (lw_at lw_m8 200 rfl) rfl
theorem q2005 : (Jvm.Cond.privateMethod ({ cls := "WreckShares", name := "failed", desc := "(LWreckShares$TextError;)I" } : Jvm.MethodName)) ∈ lw_tbl := lw_at lw_m8 201 rfl
theorem q2006 : (Jvm.Cond.instanceMethod ({ cls := "WreckShares", name := "failed", desc := "(LWreckShares$TextError;)I" } : Jvm.MethodName)) ∈ lw_all := lw_g (lw_at lw_m8 202 rfl) rfl
theorem q2007 : (Jvm.Cond.code ({ cls := "WreckShares", name := "failed", desc := "(LWreckShares$TextError;)I" } : Jvm.MethodName) prog_1_method_20_code (2 : Nat) (Option.some Jvm.ClassFile.FieldType.int)) ∈ lw_all := lw_g (lw_at lw_m8 203 rfl) rfl
theorem q2008 : (Jvm.Cond.interfaceEntry "WreckShares" (16 : Nat)) ∈ lw_tbl := lw_at lw_m8 204 rfl
theorem q2009 : (Jvm.Cond.methodLink "WreckShares" (16 : Nat) ({ cls := "java/util/List", name := "size", desc := "()I" } : Jvm.MethodName)) ∈ lw_all := lw_g (lw_at lw_m8 205 rfl) rfl
theorem q2014 : (Jvm.Cond.instanceMethod ({ cls := "WreckShares", name := "size", desc := "(I)I" } : Jvm.MethodName)) ∈ lw_all := lw_g (lw_at lw_m8 210 rfl) rfl
theorem q2015 : (Jvm.Cond.selects "WreckShares" ({ cls := "WreckShares", name := "size", desc := "(I)I" } : Jvm.MethodName) ({ cls := "WreckShares", name := "size", desc := "(I)I" } : Jvm.MethodName)) ∈ lw_all := lw_g (lw_at lw_m8 211 rfl) rfl
theorem q2016 : (Jvm.Cond.code ({ cls := "WreckShares", name := "size", desc := "(I)I" } : Jvm.MethodName) prog_1_method_25_code (2 : Nat) (Option.some Jvm.ClassFile.FieldType.int)) ∈ lw_all := lw_g (lw_at lw_m8 212 rfl) rfl
theorem q2017 : (Jvm.Cond.methodLink "WreckShares" (181 : Nat) ({ cls := "WreckShares$Shore", name := "level", desc := "(I)I" } : Jvm.MethodName)) ∈ lw_all := lw_g (lw_at lw_m8 213 rfl) rfl
theorem q2018 : (Jvm.Cond.methodLink "WreckShares" (185 : Nat) ({ cls := "WreckShares", name := "inState", desc := "(I)I" } : Jvm.MethodName)) ∈ lw_all := lw_g (lw_at lw_m8 214 rfl) rfl
theorem q2019 : (Jvm.Cond.privateMethod ({ cls := "WreckShares", name := "inState", desc := "(I)I" } : Jvm.MethodName)) ∈ lw_tbl := lw_at lw_m8 215 rfl
theorem q2020 : (Jvm.Cond.instanceMethod ({ cls := "WreckShares", name := "inState", desc := "(I)I" } : Jvm.MethodName)) ∈ lw_all := lw_g (lw_at lw_m8 216 rfl) rfl
theorem q2021 : (Jvm.Cond.code ({ cls := "WreckShares", name := "inState", desc := "(I)I" } : Jvm.MethodName) prog_1_method_23_code (5 : Nat) (Option.some Jvm.ClassFile.FieldType.int)) ∈ lw_all := lw_g (lw_at lw_m8 217 rfl) rfl
theorem q2022 : (Jvm.Cond.methodLink "WreckShares" (194 : Nat) ({ cls := "WreckShares", name := "dryNow", desc := "()I" } : Jvm.MethodName)) ∈ lw_all := lw_g (lw_at lw_m8 218 rfl) rfl
theorem q2023 : (Jvm.Cond.privateMethod ({ cls := "WreckShares", name := "dryNow", desc := "()I" } : Jvm.MethodName)) ∈ lw_tbl := lw_at lw_m8 219 rfl
theorem q2024 : (Jvm.Cond.instanceMethod ({ cls := "WreckShares", name := "dryNow", desc := "()I" } : Jvm.MethodName)) ∈ lw_all := lw_g (lw_at lw_m8 220 rfl) rfl
theorem q2025 : (Jvm.Cond.code ({ cls := "WreckShares", name := "dryNow", desc := "()I" } : Jvm.MethodName) prog_1_method_24_code (4 : Nat) (Option.some Jvm.ClassFile.FieldType.int)) ∈ lw_all := lw_g (lw_at lw_m8 221 rfl) rfl
theorem q2030 : (Jvm.Cond.instanceMethod ({ cls := "WreckShares", name := "account", desc := "(I)I" } : Jvm.MethodName)) ∈ lw_all := lw_g (lw_at lw_m8 226 rfl) rfl
theorem q2031 : (Jvm.Cond.selects "WreckShares" ({ cls := "WreckShares", name := "account", desc := "(I)I" } : Jvm.MethodName) ({ cls := "WreckShares", name := "account", desc := "(I)I" } : Jvm.MethodName)) ∈ lw_all := lw_g (lw_at lw_m8 227 rfl) rfl
theorem q2032 : (Jvm.Cond.code ({ cls := "WreckShares", name := "account", desc := "(I)I" } : Jvm.MethodName) prog_1_method_26_code (2 : Nat) (Option.some Jvm.ClassFile.FieldType.int)) ∈ lw_all := lw_g (lw_at lw_m8 228 rfl) rfl
theorem q2038 : (Jvm.Cond.instanceMethod ({ cls := "WreckShares", name := "good", desc := "(II)I" } : Jvm.MethodName)) ∈ lw_all := lw_g (lw_at lw_m8 234 rfl) rfl
theorem q2039 : (Jvm.Cond.selects "WreckShares" ({ cls := "WreckShares", name := "good", desc := "(II)I" } : Jvm.MethodName) ({ cls := "WreckShares", name := "good", desc := "(II)I" } : Jvm.MethodName)) ∈ lw_all := lw_g (lw_at lw_m8 235 rfl) rfl
theorem q2040 : (Jvm.Cond.code ({ cls := "WreckShares", name := "good", desc := "(II)I" } : Jvm.MethodName) prog_1_method_29_code (4 : Nat) (Option.some Jvm.ClassFile.FieldType.int)) ∈ lw_all := lw_g (lw_at lw_m8 236 rfl) rfl
theorem q2041 : (Jvm.Cond.methodLink "WreckShares" (207 : Nat) ({ cls := "WreckShares", name := "goodAt", desc := "(I)LWreckShares$Good;" } : Jvm.MethodName)) ∈ lw_all := lw_g (lw_at lw_m8 237 rfl) rfl
theorem q2042 : (Jvm.Cond.privateMethod ({ cls := "WreckShares", name := "goodAt", desc := "(I)LWreckShares$Good;" } : Jvm.MethodName)) ∈ lw_tbl := lw_at lw_m8 238 rfl
theorem q2043 : (Jvm.Cond.instanceMethod ({ cls := "WreckShares", name := "goodAt", desc := "(I)LWreckShares$Good;" } : Jvm.MethodName)) ∈ lw_all := lw_g (lw_at lw_m8 239 rfl) rfl
theorem q2044 : (Jvm.Cond.code ({ cls := "WreckShares", name := "goodAt", desc := "(I)LWreckShares$Good;" } : Jvm.MethodName) prog_1_method_27_code (2 : Nat) (Option.some (Jvm.ClassFile.FieldType.object "WreckShares$Good"))) ∈ lw_all := lw_g (lw_at lw_m9 0 rfl) rfl
theorem q2045 : (Jvm.Cond.methodLink "WreckShares" (200 : Nat) ({ cls := "WreckShares", name := "requireElement", desc := "(Z)V" } : Jvm.MethodName)) ∈ lw_all := lw_g (lw_at lw_m9 1 rfl) rfl
theorem q2046 : (Jvm.Cond.static ({ cls := "WreckShares", name := "requireElement", desc := "(Z)V" } : Jvm.MethodName)) ∈ lw_all := lw_g (lw_at lw_m9 2 rfl) rfl
theorem q2047 : (Jvm.Cond.code ({ cls := "WreckShares", name := "requireElement", desc := "(Z)V" } : Jvm.MethodName) prog_1_method_4_code (1 : Nat) (Option.none : Option Jvm.ClassFile.FieldType)) ∈ lw_all := lw_g (lw_at lw_m9 3 rfl) rfl
theorem q2048 : (Jvm.Cond.classLink "WreckShares" (7 : Nat) "java/util/NoSuchElementException") ∈ lw_all := lw_g (lw_at lw_m9 4 rfl) rfl
theorem q2049 : (Jvm.Cond.methodLink "WreckShares" (9 : Nat) ({ cls := "java/util/NoSuchElementException", name := "<init>", desc := "()V" } : Jvm.MethodName)) ∈ lw_all := lw_g (lw_at lw_m9 5 rfl) rfl
theorem q2050 : (Jvm.Cond.methodLink "WreckShares" (203 : Nat) ({ cls := "WreckShares$Shore", name := "good", desc := "(I)LWreckShares$Good;" } : Jvm.MethodName)) ∈ lw_all := lw_g (lw_at lw_m9 6 rfl) rfl
theorem q2051 : (Jvm.Cond.methodLink "WreckShares" (214 : Nat) ({ cls := "WreckShares$Kind", name := "ordinal", desc := "()I" } : Jvm.MethodName)) ∈ lw_all := lw_g (lw_at lw_m9 7 rfl) rfl
theorem q2064 : (Jvm.Cond.instanceMethod ({ cls := "WreckShares", name := "finder", desc := "(II)I" } : Jvm.MethodName)) ∈ lw_all := lw_g (lw_at lw_m9 20 rfl) rfl
theorem q2065 : (Jvm.Cond.selects "WreckShares" ({ cls := "WreckShares", name := "finder", desc := "(II)I" } : Jvm.MethodName) ({ cls := "WreckShares", name := "finder", desc := "(II)I" } : Jvm.MethodName)) ∈ lw_all := lw_g (lw_at lw_m9 21 rfl) rfl
theorem q2066 : (Jvm.Cond.code ({ cls := "WreckShares", name := "finder", desc := "(II)I" } : Jvm.MethodName) prog_1_method_32_code (4 : Nat) (Option.some Jvm.ClassFile.FieldType.int)) ∈ lw_all := lw_g (lw_at lw_m9 22 rfl) rfl
theorem q2067 : (Jvm.Cond.methodLink "WreckShares" (253 : Nat) ({ cls := "WreckShares", name := "requireFinder", desc := "(I)V" } : Jvm.MethodName)) ∈ lw_all := lw_g (lw_at lw_m9 23 rfl) rfl
theorem q2068 : (Jvm.Cond.privateMethod ({ cls := "WreckShares", name := "requireFinder", desc := "(I)V" } : Jvm.MethodName)) ∈ lw_tbl := lw_at lw_m9 24 rfl
theorem q2069 : (Jvm.Cond.instanceMethod ({ cls := "WreckShares", name := "requireFinder", desc := "(I)V" } : Jvm.MethodName)) ∈ lw_all := lw_g (lw_at lw_m9 25 rfl) rfl
theorem q2070 : (Jvm.Cond.code ({ cls := "WreckShares", name := "requireFinder", desc := "(I)V" } : Jvm.MethodName) prog_1_method_28_code (2 : Nat) (Option.none : Option Jvm.ClassFile.FieldType)) ∈ lw_all := lw_g (lw_at lw_m9 26 rfl) rfl
theorem q2071 : (Jvm.Cond.methodLink "WreckShares" (256 : Nat) ({ cls := "WreckShares$Shore", name := "ropeOf", desc := "(I)LWreckShares$Good;" } : Jvm.MethodName)) ∈ lw_all := lw_g (lw_at lw_m9 27 rfl) rfl
theorem q2072 : (Jvm.Cond.methodLink "WreckShares" (262 : Nat) ({ cls := "java/lang/Integer", name := "valueOf", desc := "(I)Ljava/lang/Integer;" } : Jvm.MethodName)) ∈ lw_all := lw_g (lw_at lw_m9 28 rfl) rfl
theorem q2073 : (Jvm.Cond.methodLink "WreckShares" (268 : Nat) ({ cls := "java/util/LinkedList", name := "indexOf", desc := "(Ljava/lang/Object;)I" } : Jvm.MethodName)) ∈ lw_all := lw_g (lw_at lw_m9 29 rfl) rfl
theorem q2074 : (Jvm.Cond.methodLink "WreckShares" (272 : Nat) ({ cls := "WreckShares", name := "crewsWith", desc := "(I)I" } : Jvm.MethodName)) ∈ lw_all := lw_g (lw_at lw_m9 30 rfl) rfl
theorem q2075 : (Jvm.Cond.privateMethod ({ cls := "WreckShares", name := "crewsWith", desc := "(I)I" } : Jvm.MethodName)) ∈ lw_tbl := lw_at lw_m9 31 rfl
theorem q2076 : (Jvm.Cond.instanceMethod ({ cls := "WreckShares", name := "crewsWith", desc := "(I)I" } : Jvm.MethodName)) ∈ lw_all := lw_g (lw_at lw_m9 32 rfl) rfl
theorem q2077 : (Jvm.Cond.code ({ cls := "WreckShares", name := "crewsWith", desc := "(I)I" } : Jvm.MethodName) prog_1_method_31_code (5 : Nat) (Option.some Jvm.ClassFile.FieldType.int)) ∈ lw_all := lw_g (lw_at lw_m9 33 rfl) rfl
theorem q2078 : (Jvm.Cond.methodLink "WreckShares" (249 : Nat) ({ cls := "WreckShares", name := "has", desc := "([II)Z" } : Jvm.MethodName)) ∈ lw_all := lw_g (lw_at lw_m9 34 rfl) rfl
theorem q2079 : (Jvm.Cond.static ({ cls := "WreckShares", name := "has", desc := "([II)Z" } : Jvm.MethodName)) ∈ lw_all := lw_g (lw_at lw_m9 35 rfl) rfl
theorem q2080 : (Jvm.Cond.code ({ cls := "WreckShares", name := "has", desc := "([II)Z" } : Jvm.MethodName) prog_1_method_30_code (6 : Nat) (Option.some Jvm.ClassFile.FieldType.boolean)) ∈ lw_all := lw_g (lw_at lw_m9 36 rfl) rfl
theorem q2085 : (Jvm.Cond.instanceMethod ({ cls := "WreckShares", name := "owner", desc := "(I)I" } : Jvm.MethodName)) ∈ lw_all := lw_g (lw_at lw_m9 41 rfl) rfl
theorem q2086 : (Jvm.Cond.selects "WreckShares" ({ cls := "WreckShares", name := "owner", desc := "(I)I" } : Jvm.MethodName) ({ cls := "WreckShares", name := "owner", desc := "(I)I" } : Jvm.MethodName)) ∈ lw_all := lw_g (lw_at lw_m9 42 rfl) rfl
theorem q2087 : (Jvm.Cond.code ({ cls := "WreckShares", name := "owner", desc := "(I)I" } : Jvm.MethodName) prog_1_method_33_code (2 : Nat) (Option.some Jvm.ClassFile.FieldType.int)) ∈ lw_all := lw_g (lw_at lw_m9 43 rfl) rfl
theorem q2092 : (Jvm.Cond.instanceMethod ({ cls := "WreckShares", name := "hand", desc := "(IIZ)I" } : Jvm.MethodName)) ∈ lw_all := lw_g (lw_at lw_m9 48 rfl) rfl
theorem q2093 : (Jvm.Cond.selects "WreckShares" ({ cls := "WreckShares", name := "hand", desc := "(IIZ)I" } : Jvm.MethodName) ({ cls := "WreckShares", name := "hand", desc := "(IIZ)I" } : Jvm.MethodName)) ∈ lw_all := lw_g (lw_at lw_m9 49 rfl) rfl
theorem q2094 : (Jvm.Cond.code ({ cls := "WreckShares", name := "hand", desc := "(IIZ)I" } : Jvm.MethodName) prog_1_method_34_code (5 : Nat) (Option.some Jvm.ClassFile.FieldType.int)) ∈ lw_all := lw_g (lw_at lw_m9 50 rfl) rfl
theorem q2095 : (Jvm.Cond.methodLink "WreckShares" (278 : Nat) ({ cls := "java/util/LinkedList", name := "get", desc := "(I)Ljava/lang/Object;" } : Jvm.MethodName)) ∈ lw_all := lw_g (lw_at lw_m9 51 rfl) rfl
theorem q2096 : (Jvm.Cond.classLink "WreckShares" (263 : Nat) "java/lang/Integer") ∈ lw_all := lw_g (lw_at lw_m9 52 rfl) rfl
theorem q2097 : (Jvm.Cond.methodLink "WreckShares" (282 : Nat) ({ cls := "java/lang/Integer", name := "intValue", desc := "()I" } : Jvm.MethodName)) ∈ lw_all := lw_g (lw_at lw_m9 53 rfl) rfl
theorem q2102 : (Jvm.Cond.instanceMethod ({ cls := "WreckShares", name := "count", desc := "(II)I" } : Jvm.MethodName)) ∈ lw_all := lw_g (lw_at lw_m9 58 rfl) rfl
theorem q2103 : (Jvm.Cond.selects "WreckShares" ({ cls := "WreckShares", name := "count", desc := "(II)I" } : Jvm.MethodName) ({ cls := "WreckShares", name := "count", desc := "(II)I" } : Jvm.MethodName)) ∈ lw_all := lw_g (lw_at lw_m9 59 rfl) rfl
theorem q2104 : (Jvm.Cond.code ({ cls := "WreckShares", name := "count", desc := "(II)I" } : Jvm.MethodName) prog_1_method_35_code (6 : Nat) (Option.some Jvm.ClassFile.FieldType.int)) ∈ lw_all := lw_g (lw_at lw_m9 60 rfl) rfl
theorem q2105 : (Jvm.Cond.methodLink "WreckShares" (285 : Nat) ({ cls := "WreckShares$Kind", name := "values", desc := "()[LWreckShares$Kind;" } : Jvm.MethodName)) ∈ lw_all := lw_g (lw_at lw_m9 61 rfl) rfl
theorem q2120 : (Jvm.Cond.instanceMethod ({ cls := "WreckShares", name := "marked", desc := "(II)I" } : Jvm.MethodName)) ∈ lw_all := lw_g (lw_at lw_m9 76 rfl) rfl
theorem q2121 : (Jvm.Cond.selects "WreckShares" ({ cls := "WreckShares", name := "marked", desc := "(II)I" } : Jvm.MethodName) ({ cls := "WreckShares", name := "marked", desc := "(II)I" } : Jvm.MethodName)) ∈ lw_all := lw_g (lw_at lw_m9 77 rfl) rfl
theorem q2122 : (Jvm.Cond.code ({ cls := "WreckShares", name := "marked", desc := "(II)I" } : Jvm.MethodName) prog_1_method_36_code (6 : Nat) (Option.some Jvm.ClassFile.FieldType.int)) ∈ lw_all := lw_g (lw_at lw_m9 78 rfl) rfl
theorem q2127 : (Jvm.Cond.instanceMethod ({ cls := "WreckShares", name := "earned", desc := "(I)I" } : Jvm.MethodName)) ∈ lw_all := lw_g (lw_at lw_m9 83 rfl) rfl
theorem q2128 : (Jvm.Cond.selects "WreckShares" ({ cls := "WreckShares", name := "earned", desc := "(I)I" } : Jvm.MethodName) ({ cls := "WreckShares", name := "earned", desc := "(I)I" } : Jvm.MethodName)) ∈ lw_all := lw_g (lw_at lw_m9 84 rfl) rfl
theorem q2129 : (Jvm.Cond.code ({ cls := "WreckShares", name := "earned", desc := "(I)I" } : Jvm.MethodName) prog_1_method_39_code (5 : Nat) (Option.some Jvm.ClassFile.FieldType.int)) ∈ lw_all := lw_g (lw_at lw_m9 85 rfl) rfl
theorem q2130 : (Jvm.Cond.methodLink "WreckShares" (293 : Nat) ({ cls := "WreckShares", name := "shareOf", desc := "(LWreckShares$Good;I)I" } : Jvm.MethodName)) ∈ lw_all := lw_g (lw_at lw_m9 86 rfl) rfl
theorem q2131 : (Jvm.Cond.static ({ cls := "WreckShares", name := "shareOf", desc := "(LWreckShares$Good;I)I" } : Jvm.MethodName)) ∈ lw_all := lw_g (lw_at lw_m9 87 rfl) rfl
theorem q2132 : (Jvm.Cond.code ({ cls := "WreckShares", name := "shareOf", desc := "(LWreckShares$Good;I)I" } : Jvm.MethodName) prog_1_method_49_code (2 : Nat) (Option.some Jvm.ClassFile.FieldType.int)) ∈ lw_all := lw_g (lw_at lw_m9 88 rfl) rfl
theorem q2133 : (Jvm.Cond.static ({ cls := "WreckShares", name := "lambda$shareOf$9", desc := "(ILWreckShares$Part;)Z" } : Jvm.MethodName)) ∈ lw_all := lw_g (lw_at lw_m9 89 rfl) rfl
theorem q2134 : (Jvm.Cond.code ({ cls := "WreckShares", name := "lambda$shareOf$9", desc := "(ILWreckShares$Part;)Z" } : Jvm.MethodName) prog_1_method_86_code (3 : Nat) (Option.some Jvm.ClassFile.FieldType.boolean)) ∈ lw_all := lw_g (lw_at lw_m9 90 rfl) rfl
theorem q2135 : (Jvm.Cond.classLink "WreckShares" (333 : Nat) "WreckShares$ToFinder") ∈ lw_all := lw_g (lw_at lw_m9 91 rfl) rfl
theorem q2136 : (Jvm.Cond.methodLink "WreckShares" (458 : Nat) ({ cls := "WreckShares$ToFinder", name := "finder", desc := "()I" } : Jvm.MethodName)) ∈ lw_all := lw_g (lw_at lw_m9 92 rfl) rfl
theorem q2137 : (Jvm.Cond.methodLink "WreckShares" (319 : Nat) ({ cls := "WreckShares$Good", name := "sum", desc := "(LWreckShares$Rule;)I" } : Jvm.MethodName)) ∈ lw_all := lw_g (lw_at lw_m9 93 rfl) rfl
theorem q2169 : (Jvm.Cond.instanceMethod ({ cls := "WreckShares", name := "level", desc := "(I)I" } : Jvm.MethodName)) ∈ lw_all := lw_g (lw_at lw_m9 125 rfl) rfl
theorem q2170 : (Jvm.Cond.selects "WreckShares" ({ cls := "WreckShares", name := "level", desc := "(I)I" } : Jvm.MethodName) ({ cls := "WreckShares", name := "level", desc := "(I)I" } : Jvm.MethodName)) ∈ lw_all := lw_g (lw_at lw_m9 126 rfl) rfl
theorem q2171 : (Jvm.Cond.code ({ cls := "WreckShares", name := "level", desc := "(I)I" } : Jvm.MethodName) prog_1_method_42_code (2 : Nat) (Option.some Jvm.ClassFile.FieldType.int)) ∈ lw_all := lw_g (lw_at lw_m9 127 rfl) rfl
theorem q2172 : (Jvm.Cond.constant "WreckShares" (303 : Nat) (99999 : Int32)) ∈ lw_all := lw_g (lw_at lw_m9 128 rfl) rfl
theorem q2177 : (Jvm.Cond.instanceMethod ({ cls := "WreckShares", name := "dryIn", desc := "(I)I" } : Jvm.MethodName)) ∈ lw_all := lw_g (lw_at lw_m9 133 rfl) rfl
theorem q2178 : (Jvm.Cond.selects "WreckShares" ({ cls := "WreckShares", name := "dryIn", desc := "(I)I" } : Jvm.MethodName) ({ cls := "WreckShares", name := "dryIn", desc := "(I)I" } : Jvm.MethodName)) ∈ lw_all := lw_g (lw_at lw_m9 134 rfl) rfl
theorem q2179 : (Jvm.Cond.code ({ cls := "WreckShares", name := "dryIn", desc := "(I)I" } : Jvm.MethodName) prog_1_method_44_code (2 : Nat) (Option.some Jvm.ClassFile.FieldType.int)) ∈ lw_all := lw_g (lw_at lw_m9 135 rfl) rfl
theorem q2180 : (Jvm.Cond.methodLink "WreckShares" (304 : Nat) ({ cls := "WreckShares$Shore", name := "dryIn", desc := "(LWreckShares$Good;)I" } : Jvm.MethodName)) ∈ lw_all := lw_g (lw_at lw_m9 136 rfl) rfl
theorem q2188 : (Jvm.Cond.instanceMethod ({ cls := "WreckShares", name := "dryTicks", desc := "(I)I" } : Jvm.MethodName)) ∈ lw_all := lw_g (lw_at lw_m9 144 rfl) rfl
theorem q2189 : (Jvm.Cond.selects "WreckShares" ({ cls := "WreckShares", name := "dryTicks", desc := "(I)I" } : Jvm.MethodName) ({ cls := "WreckShares", name := "dryTicks", desc := "(I)I" } : Jvm.MethodName)) ∈ lw_all := lw_g (lw_at lw_m9 145 rfl) rfl
theorem q2190 : (Jvm.Cond.code ({ cls := "WreckShares", name := "dryTicks", desc := "(I)I" } : Jvm.MethodName) prog_1_method_45_code (2 : Nat) (Option.some Jvm.ClassFile.FieldType.int)) ∈ lw_all := lw_g (lw_at lw_m9 146 rfl) rfl
theorem q2191 : (Jvm.Cond.methodLink "WreckShares" (308 : Nat) ({ cls := "WreckShares$Shore", name := "wetTicks", desc := "(LWreckShares$Good;)I" } : Jvm.MethodName)) ∈ lw_all := lw_g (lw_at lw_m9 147 rfl) rfl
theorem q2196 : (Jvm.Cond.instanceMethod ({ cls := "WreckShares", name := "lostIn", desc := "(I)I" } : Jvm.MethodName)) ∈ lw_all := lw_g (lw_at lw_m9 152 rfl) rfl
theorem q2197 : (Jvm.Cond.selects "WreckShares" ({ cls := "WreckShares", name := "lostIn", desc := "(I)I" } : Jvm.MethodName) ({ cls := "WreckShares", name := "lostIn", desc := "(I)I" } : Jvm.MethodName)) ∈ lw_all := lw_g (lw_at lw_m9 153 rfl) rfl
theorem q2198 : (Jvm.Cond.code ({ cls := "WreckShares", name := "lostIn", desc := "(I)I" } : Jvm.MethodName) prog_1_method_46_code (2 : Nat) (Option.some Jvm.ClassFile.FieldType.int)) ∈ lw_all := lw_g (lw_at lw_m9 154 rfl) rfl
theorem q2203 : (Jvm.Cond.instanceMethod ({ cls := "WreckShares", name := "lossIn", desc := "(I)I" } : Jvm.MethodName)) ∈ lw_all := lw_g (lw_at lw_m9 159 rfl) rfl
theorem q2204 : (Jvm.Cond.selects "WreckShares" ({ cls := "WreckShares", name := "lossIn", desc := "(I)I" } : Jvm.MethodName) ({ cls := "WreckShares", name := "lossIn", desc := "(I)I" } : Jvm.MethodName)) ∈ lw_all := lw_g (lw_at lw_m9 160 rfl) rfl
theorem q2205 : (Jvm.Cond.code ({ cls := "WreckShares", name := "lossIn", desc := "(I)I" } : Jvm.MethodName) prog_1_method_48_code (5 : Nat) (Option.some Jvm.ClassFile.FieldType.int)) ∈ lw_all := lw_g (lw_at lw_m9 161 rfl) rfl
theorem q2210 : (Jvm.Cond.instanceMethod ({ cls := "WreckShares", name := "share", desc := "(II)I" } : Jvm.MethodName)) ∈ lw_all := lw_g (lw_at lw_m9 166 rfl) rfl
theorem q2211 : (Jvm.Cond.selects "WreckShares" ({ cls := "WreckShares", name := "share", desc := "(II)I" } : Jvm.MethodName) ({ cls := "WreckShares", name := "share", desc := "(II)I" } : Jvm.MethodName)) ∈ lw_all := lw_g (lw_at lw_m9 167 rfl) rfl
theorem q2212 : (Jvm.Cond.code ({ cls := "WreckShares", name := "share", desc := "(II)I" } : Jvm.MethodName) prog_1_method_50_code (4 : Nat) (Option.some Jvm.ClassFile.FieldType.int)) ∈ lw_all := lw_g (lw_at lw_m9 168 rfl) rfl
theorem q2217 : (Jvm.Cond.instanceMethod ({ cls := "WreckShares", name := "crownShare", desc := "(I)I" } : Jvm.MethodName)) ∈ lw_all := lw_g (lw_at lw_m9 173 rfl) rfl
theorem q2218 : (Jvm.Cond.selects "WreckShares" ({ cls := "WreckShares", name := "crownShare", desc := "(I)I" } : Jvm.MethodName) ({ cls := "WreckShares", name := "crownShare", desc := "(I)I" } : Jvm.MethodName)) ∈ lw_all := lw_g (lw_at lw_m9 174 rfl) rfl
theorem q2219 : (Jvm.Cond.code ({ cls := "WreckShares", name := "crownShare", desc := "(I)I" } : Jvm.MethodName) prog_1_method_51_code (2 : Nat) (Option.some Jvm.ClassFile.FieldType.int)) ∈ lw_all := lw_g (lw_at lw_m9 175 rfl) rfl
theorem q2220 : (Jvm.Cond.static ({ cls := "WreckShares", name := "lambda$crownShare$10", desc := "(LWreckShares$Part;)Z" } : Jvm.MethodName)) ∈ lw_all := lw_g (lw_at lw_m9 176 rfl) rfl
theorem q2221 : (Jvm.Cond.code ({ cls := "WreckShares", name := "lambda$crownShare$10", desc := "(LWreckShares$Part;)Z" } : Jvm.MethodName) prog_1_method_85_code (1 : Nat) (Option.some Jvm.ClassFile.FieldType.boolean)) ∈ lw_all := lw_g (lw_at lw_m9 177 rfl) rfl
theorem q2222 : (Jvm.Cond.classLink "WreckShares" (456 : Nat) "WreckShares$ToCrown") ∈ lw_all := lw_g (lw_at lw_m9 178 rfl) rfl
theorem q2227 : (Jvm.Cond.instanceMethod ({ cls := "WreckShares", name := "ownerShare", desc := "(I)I" } : Jvm.MethodName)) ∈ lw_all := lw_g (lw_at lw_m9 183 rfl) rfl
theorem q2228 : (Jvm.Cond.selects "WreckShares" ({ cls := "WreckShares", name := "ownerShare", desc := "(I)I" } : Jvm.MethodName) ({ cls := "WreckShares", name := "ownerShare", desc := "(I)I" } : Jvm.MethodName)) ∈ lw_all := lw_g (lw_at lw_m9 184 rfl) rfl
theorem q2229 : (Jvm.Cond.code ({ cls := "WreckShares", name := "ownerShare", desc := "(I)I" } : Jvm.MethodName) prog_1_method_52_code (2 : Nat) (Option.some Jvm.ClassFile.FieldType.int)) ∈ lw_all := lw_g (lw_at lw_m9 185 rfl) rfl
theorem q2230 : (Jvm.Cond.static ({ cls := "WreckShares", name := "lambda$ownerShare$11", desc := "(LWreckShares$Part;)Z" } : Jvm.MethodName)) ∈ lw_all := lw_g (lw_at lw_m9 186 rfl) rfl
theorem q2231 : (Jvm.Cond.code ({ cls := "WreckShares", name := "lambda$ownerShare$11", desc := "(LWreckShares$Part;)Z" } : Jvm.MethodName) prog_1_method_84_code (1 : Nat) (Option.some Jvm.ClassFile.FieldType.boolean)) ∈ lw_all := lw_g (lw_at lw_m9 187 rfl) rfl
theorem q2232 : (Jvm.Cond.classLink "WreckShares" (454 : Nat) "WreckShares$ToOwner") ∈ lw_all := lw_g (lw_at lw_m9 188 rfl) rfl
theorem q2237 : (Jvm.Cond.instanceMethod ({ cls := "WreckShares", name := "unequal", desc := "(I)I" } : Jvm.MethodName)) ∈ lw_all := lw_g (lw_at lw_m9 193 rfl) rfl
theorem q2238 : (Jvm.Cond.selects "WreckShares" ({ cls := "WreckShares", name := "unequal", desc := "(I)I" } : Jvm.MethodName) ({ cls := "WreckShares", name := "unequal", desc := "(I)I" } : Jvm.MethodName)) ∈ lw_all := lw_g (lw_at lw_m9 194 rfl) rfl
theorem q2239 : (Jvm.Cond.code ({ cls := "WreckShares", name := "unequal", desc := "(I)I" } : Jvm.MethodName) prog_1_method_53_code (7 : Nat) (Option.some Jvm.ClassFile.FieldType.int)) ∈ lw_all := lw_g (lw_at lw_m9 195 rfl) rfl
theorem q2240 : (Jvm.Cond.methodLink "WreckShares" (327 : Nat) ({ cls := "WreckShares$Good", name := "parts", desc := "()Ljava/util/List;" } : Jvm.MethodName)) ∈ lw_all := lw_g (lw_at lw_m9 196 rfl) rfl
theorem q2241 : (Jvm.Cond.classLink "WreckShares" (331 : Nat) "WreckShares$Part") ∈ lw_all := lw_g (lw_at lw_m9 197 rfl) rfl
theorem q2242 : (Jvm.Cond.interfaceEntry "WreckShares" (335 : Nat)) ∈ lw_tbl := lw_at lw_m9 198 rfl
theorem q2243 : (Jvm.Cond.methodLink "WreckShares" (335 : Nat) ({ cls := "WreckShares$Part", name := "amount", desc := "()I" } : Jvm.MethodName)) ∈ lw_all := lw_g (lw_at lw_m9 199 rfl) rfl
theorem q2244 : (Jvm.Cond.methodLink "WreckShares" (344 : Nat) ({ cls := "java/lang/Math", name := "min", desc := "(II)I" } : Jvm.MethodName)) ∈ lw_all := lw_g (lw_at lw_m9 200 rfl) rfl
theorem q2249 : (Jvm.Cond.instanceMethod ({ cls := "WreckShares", name := "claimTime", desc := "(I)I" } : Jvm.MethodName)) ∈ lw_all := lw_g (lw_at lw_m9 205 rfl) rfl
theorem q2250 : (Jvm.Cond.selects "WreckShares" ({ cls := "WreckShares", name := "claimTime", desc := "(I)I" } : Jvm.MethodName) ({ cls := "WreckShares", name := "claimTime", desc := "(I)I" } : Jvm.MethodName)) ∈ lw_all := lw_g (lw_at lw_m9 206 rfl) rfl
theorem q2251 : (Jvm.Cond.code ({ cls := "WreckShares", name := "claimTime", desc := "(I)I" } : Jvm.MethodName) prog_1_method_55_code (3 : Nat) (Option.some Jvm.ClassFile.FieldType.int)) ∈ lw_all := lw_g (lw_at lw_m9 207 rfl) rfl
theorem q2256 : (Jvm.Cond.instanceMethod ({ cls := "WreckShares", name := "claimCosts", desc := "(I)I" } : Jvm.MethodName)) ∈ lw_all := lw_g (lw_at lw_m9 212 rfl) rfl
theorem q2257 : (Jvm.Cond.selects "WreckShares" ({ cls := "WreckShares", name := "claimCosts", desc := "(I)I" } : Jvm.MethodName) ({ cls := "WreckShares", name := "claimCosts", desc := "(I)I" } : Jvm.MethodName)) ∈ lw_all := lw_g (lw_at lw_m9 213 rfl) rfl
theorem q2258 : (Jvm.Cond.code ({ cls := "WreckShares", name := "claimCosts", desc := "(I)I" } : Jvm.MethodName) prog_1_method_58_code (3 : Nat) (Option.some Jvm.ClassFile.FieldType.int)) ∈ lw_all := lw_g (lw_at lw_m9 214 rfl) rfl
theorem q2259 : (Jvm.Cond.methodLink "WreckShares" (351 : Nat) ({ cls := "WreckShares$Good", name := "hands", desc := "()[I" } : Jvm.MethodName)) ∈ lw_all := lw_g (lw_at lw_m9 215 rfl) rfl
theorem q2260 : (Jvm.Cond.methodLink "WreckShares" (355 : Nat) ({ cls := "WreckShares$Good", name := "rest", desc := "(Z)I" } : Jvm.MethodName)) ∈ lw_all := lw_g (lw_at lw_m9 216 rfl) rfl
theorem q2265 : (Jvm.Cond.instanceMethod ({ cls := "WreckShares", name := "purseIf", desc := "(I)I" } : Jvm.MethodName)) ∈ lw_all := lw_g (lw_at lw_m9 221 rfl) rfl
theorem q2266 : (Jvm.Cond.selects "WreckShares" ({ cls := "WreckShares", name := "purseIf", desc := "(I)I" } : Jvm.MethodName) ({ cls := "WreckShares", name := "purseIf", desc := "(I)I" } : Jvm.MethodName)) ∈ lw_all := lw_g (lw_at lw_m9 222 rfl) rfl
theorem q2267 : (Jvm.Cond.code ({ cls := "WreckShares", name := "purseIf", desc := "(I)I" } : Jvm.MethodName) prog_1_method_59_code (5 : Nat) (Option.some Jvm.ClassFile.FieldType.int)) ∈ lw_all := lw_g (lw_at lw_m9 223 rfl) rfl
theorem q2272 : (Jvm.Cond.instanceMethod ({ cls := "WreckShares", name := "why", desc := "(I)I" } : Jvm.MethodName)) ∈ lw_all := lw_g (lw_at lw_m9 228 rfl) rfl
theorem q2273 : (Jvm.Cond.selects "WreckShares" ({ cls := "WreckShares", name := "why", desc := "(I)I" } : Jvm.MethodName) ({ cls := "WreckShares", name := "why", desc := "(I)I" } : Jvm.MethodName)) ∈ lw_all := lw_g (lw_at lw_m9 229 rfl) rfl
theorem q2274 : (Jvm.Cond.code ({ cls := "WreckShares", name := "why", desc := "(I)I" } : Jvm.MethodName) prog_1_method_60_code (2 : Nat) (Option.some Jvm.ClassFile.FieldType.int)) ∈ lw_all := lw_g (lw_at lw_m9 230 rfl) rfl
theorem q2275 : (Jvm.Cond.methodLink "WreckShares" (358 : Nat) ({ cls := "WreckShares$Shore", name := "refusal", desc := "(LWreckShares$Good;)I" } : Jvm.MethodName)) ∈ lw_all := lw_g (lw_at lw_m9 231 rfl) rfl
theorem q2284 : (Jvm.Cond.instanceMethod ({ cls := "WreckShares", name := "cause", desc := "(I)I" } : Jvm.MethodName)) ∈ lw_all := lw_g (lw_at lw_m10 0 rfl) rfl
theorem q2285 : (Jvm.Cond.selects "WreckShares" ({ cls := "WreckShares", name := "cause", desc := "(I)I" } : Jvm.MethodName) ({ cls := "WreckShares", name := "cause", desc := "(I)I" } : Jvm.MethodName)) ∈ lw_all := lw_g (lw_at lw_m10 1 rfl) rfl
theorem q2286 : (Jvm.Cond.code ({ cls := "WreckShares", name := "cause", desc := "(I)I" } : Jvm.MethodName) prog_1_method_61_code (3 : Nat) (Option.some Jvm.ClassFile.FieldType.int)) ∈ lw_all := lw_g (lw_at lw_m10 2 rfl) rfl
theorem q2291 : (Jvm.Cond.instanceMethod ({ cls := "WreckShares", name := "whyDivide", desc := "(I)I" } : Jvm.MethodName)) ∈ lw_all := lw_g (lw_at lw_m10 7 rfl) rfl
theorem q2292 : (Jvm.Cond.selects "WreckShares" ({ cls := "WreckShares", name := "whyDivide", desc := "(I)I" } : Jvm.MethodName) ({ cls := "WreckShares", name := "whyDivide", desc := "(I)I" } : Jvm.MethodName)) ∈ lw_all := lw_g (lw_at lw_m10 8 rfl) rfl
theorem q2293 : (Jvm.Cond.code ({ cls := "WreckShares", name := "whyDivide", desc := "(I)I" } : Jvm.MethodName) prog_1_method_62_code (2 : Nat) (Option.some Jvm.ClassFile.FieldType.int)) ∈ lw_all := lw_g (lw_at lw_m10 9 rfl) rfl
theorem q2294 : (Jvm.Cond.methodLink "WreckShares" (361 : Nat) ({ cls := "WreckShares$Shore", name := "divisionRefusal", desc := "(LWreckShares$Good;)I" } : Jvm.MethodName)) ∈ lw_all := lw_g (lw_at lw_m10 10 rfl) rfl
theorem q2299 : (Jvm.Cond.instanceMethod ({ cls := "WreckShares", name := "rope", desc := "(II)I" } : Jvm.MethodName)) ∈ lw_all := lw_g (lw_at lw_m10 15 rfl) rfl
theorem q2300 : (Jvm.Cond.selects "WreckShares" ({ cls := "WreckShares", name := "rope", desc := "(II)I" } : Jvm.MethodName) ({ cls := "WreckShares", name := "rope", desc := "(II)I" } : Jvm.MethodName)) ∈ lw_all := lw_g (lw_at lw_m10 16 rfl) rfl
theorem q2301 : (Jvm.Cond.code ({ cls := "WreckShares", name := "rope", desc := "(II)I" } : Jvm.MethodName) prog_1_method_68_code (4 : Nat) (Option.some Jvm.ClassFile.FieldType.int)) ∈ lw_all := lw_g (lw_at lw_m10 17 rfl) rfl
theorem q2302 : (Jvm.Cond.methodLink "WreckShares" (384 : Nat) ({ cls := "WreckShares", name := "roping", desc := "(II)LWreckShares$Deed;" } : Jvm.MethodName)) ∈ lw_all := lw_g (lw_at lw_m10 18 rfl) rfl
theorem q2303 : (Jvm.Cond.static ({ cls := "WreckShares", name := "roping", desc := "(II)LWreckShares$Deed;" } : Jvm.MethodName)) ∈ lw_all := lw_g (lw_at lw_m10 19 rfl) rfl
theorem q2304 : (Jvm.Cond.code ({ cls := "WreckShares", name := "roping", desc := "(II)LWreckShares$Deed;" } : Jvm.MethodName) prog_1_method_6_code (2 : Nat) (Option.some (Jvm.ClassFile.FieldType.object "WreckShares$Deed"))) ∈ lw_all := lw_g (lw_at lw_m10 20 rfl) rfl
theorem q2305 : (Jvm.Cond.static ({ cls := "WreckShares", name := "lambda$roping$0", desc := "(IILWreckShares$Shore;)I" } : Jvm.MethodName)) ∈ lw_all := lw_g (lw_at lw_m10 21 rfl) rfl
theorem q2306 : (Jvm.Cond.code ({ cls := "WreckShares", name := "lambda$roping$0", desc := "(IILWreckShares$Shore;)I" } : Jvm.MethodName) prog_1_method_95_code (3 : Nat) (Option.some Jvm.ClassFile.FieldType.int)) ∈ lw_all := lw_g (lw_at lw_m10 22 rfl) rfl
theorem q2307 : (Jvm.Cond.methodLink "WreckShares" (467 : Nat) ({ cls := "WreckShares", name := "isGood", desc := "(LWreckShares$Shore;I)Z" } : Jvm.MethodName)) ∈ lw_all := lw_g (lw_at lw_m10 23 rfl) rfl
theorem q2308 : (Jvm.Cond.static ({ cls := "WreckShares", name := "isGood", desc := "(LWreckShares$Shore;I)Z" } : Jvm.MethodName)) ∈ lw_all := lw_g (lw_at lw_m10 24 rfl) rfl
theorem q2309 : (Jvm.Cond.code ({ cls := "WreckShares", name := "isGood", desc := "(LWreckShares$Shore;I)Z" } : Jvm.MethodName) prog_1_method_5_code (2 : Nat) (Option.some Jvm.ClassFile.FieldType.boolean)) ∈ lw_all := lw_g (lw_at lw_m10 25 rfl) rfl
theorem q2310 : (Jvm.Cond.methodLink "WreckShares" (490 : Nat) ({ cls := "WreckShares$Shore", name := "ropes", desc := "(ILWreckShares$Good;)I" } : Jvm.MethodName)) ∈ lw_all := lw_g (lw_at lw_m10 26 rfl) rfl
theorem q2319 : (Jvm.Cond.instanceMethod ({ cls := "WreckShares", name := "off", desc := "(I)I" } : Jvm.MethodName)) ∈ lw_all := lw_g (lw_at lw_m10 35 rfl) rfl
theorem q2320 : (Jvm.Cond.selects "WreckShares" ({ cls := "WreckShares", name := "off", desc := "(I)I" } : Jvm.MethodName) ({ cls := "WreckShares", name := "off", desc := "(I)I" } : Jvm.MethodName)) ∈ lw_all := lw_g (lw_at lw_m10 36 rfl) rfl
theorem q2321 : (Jvm.Cond.code ({ cls := "WreckShares", name := "off", desc := "(I)I" } : Jvm.MethodName) prog_1_method_69_code (2 : Nat) (Option.some Jvm.ClassFile.FieldType.int)) ∈ lw_all := lw_g (lw_at lw_m10 37 rfl) rfl
theorem q2322 : (Jvm.Cond.methodLink "WreckShares" (391 : Nat) ({ cls := "WreckShares", name := "letting", desc := "(I)LWreckShares$Deed;" } : Jvm.MethodName)) ∈ lw_all := lw_g (lw_at lw_m10 38 rfl) rfl
theorem q2323 : (Jvm.Cond.static ({ cls := "WreckShares", name := "letting", desc := "(I)LWreckShares$Deed;" } : Jvm.MethodName)) ∈ lw_all := lw_g (lw_at lw_m10 39 rfl) rfl
theorem q2324 : (Jvm.Cond.code ({ cls := "WreckShares", name := "letting", desc := "(I)LWreckShares$Deed;" } : Jvm.MethodName) prog_1_method_7_code (1 : Nat) (Option.some (Jvm.ClassFile.FieldType.object "WreckShares$Deed"))) ∈ lw_all := lw_g (lw_at lw_m10 40 rfl) rfl
theorem q2325 : (Jvm.Cond.static ({ cls := "WreckShares", name := "lambda$letting$1", desc := "(ILWreckShares$Shore;)I" } : Jvm.MethodName)) ∈ lw_all := lw_g (lw_at lw_m10 41 rfl) rfl
theorem q2326 : (Jvm.Cond.code ({ cls := "WreckShares", name := "lambda$letting$1", desc := "(ILWreckShares$Shore;)I" } : Jvm.MethodName) prog_1_method_94_code (2 : Nat) (Option.some Jvm.ClassFile.FieldType.int)) ∈ lw_all := lw_g (lw_at lw_m10 42 rfl) rfl
theorem q2327 : (Jvm.Cond.methodLink "WreckShares" (487 : Nat) ({ cls := "WreckShares$Shore", name := "lets", desc := "(I)I" } : Jvm.MethodName)) ∈ lw_all := lw_g (lw_at lw_m10 43 rfl) rfl
theorem q2332 : (Jvm.Cond.instanceMethod ({ cls := "WreckShares", name := "pay", desc := "(III)I" } : Jvm.MethodName)) ∈ lw_all := lw_g (lw_at lw_m10 48 rfl) rfl
theorem q2333 : (Jvm.Cond.selects "WreckShares" ({ cls := "WreckShares", name := "pay", desc := "(III)I" } : Jvm.MethodName) ({ cls := "WreckShares", name := "pay", desc := "(III)I" } : Jvm.MethodName)) ∈ lw_all := lw_g (lw_at lw_m10 49 rfl) rfl
theorem q2334 : (Jvm.Cond.code ({ cls := "WreckShares", name := "pay", desc := "(III)I" } : Jvm.MethodName) prog_1_method_71_code (4 : Nat) (Option.some Jvm.ClassFile.FieldType.int)) ∈ lw_all := lw_g (lw_at lw_m10 50 rfl) rfl
theorem q2335 : (Jvm.Cond.methodLink "WreckShares" (397 : Nat) ({ cls := "WreckShares", name := "paying", desc := "(III)LWreckShares$Deed;" } : Jvm.MethodName)) ∈ lw_all := lw_g (lw_at lw_m10 51 rfl) rfl
theorem q2336 : (Jvm.Cond.static ({ cls := "WreckShares", name := "paying", desc := "(III)LWreckShares$Deed;" } : Jvm.MethodName)) ∈ lw_all := lw_g (lw_at lw_m10 52 rfl) rfl
theorem q2337 : (Jvm.Cond.code ({ cls := "WreckShares", name := "paying", desc := "(III)LWreckShares$Deed;" } : Jvm.MethodName) prog_1_method_9_code (3 : Nat) (Option.some (Jvm.ClassFile.FieldType.object "WreckShares$Deed"))) ∈ lw_all := lw_g (lw_at lw_m10 53 rfl) rfl
theorem q2338 : (Jvm.Cond.static ({ cls := "WreckShares", name := "lambda$paying$3", desc := "(IIILWreckShares$Shore;)I" } : Jvm.MethodName)) ∈ lw_all := lw_g (lw_at lw_m10 54 rfl) rfl
theorem q2339 : (Jvm.Cond.code ({ cls := "WreckShares", name := "lambda$paying$3", desc := "(IIILWreckShares$Shore;)I" } : Jvm.MethodName) prog_1_method_92_code (4 : Nat) (Option.some Jvm.ClassFile.FieldType.int)) ∈ lw_all := lw_g (lw_at lw_m10 55 rfl) rfl
theorem q2340 : (Jvm.Cond.methodLink "WreckShares" (480 : Nat) ({ cls := "WreckShares$Shore", name := "pays", desc := "(III)I" } : Jvm.MethodName)) ∈ lw_all := lw_g (lw_at lw_m10 56 rfl) rfl
theorem q2348 : (Jvm.Cond.instanceMethod ({ cls := "WreckShares", name := "haul", desc := "(I)I" } : Jvm.MethodName)) ∈ lw_all := lw_g (lw_at lw_m10 64 rfl) rfl
theorem q2349 : (Jvm.Cond.selects "WreckShares" ({ cls := "WreckShares", name := "haul", desc := "(I)I" } : Jvm.MethodName) ({ cls := "WreckShares", name := "haul", desc := "(I)I" } : Jvm.MethodName)) ∈ lw_all := lw_g (lw_at lw_m10 65 rfl) rfl
theorem q2350 : (Jvm.Cond.code ({ cls := "WreckShares", name := "haul", desc := "(I)I" } : Jvm.MethodName) prog_1_method_72_code (3 : Nat) (Option.some Jvm.ClassFile.FieldType.int)) ∈ lw_all := lw_g (lw_at lw_m10 66 rfl) rfl
theorem q2351 : (Jvm.Cond.methodLink "WreckShares" (400 : Nat) ({ cls := "WreckShares", name := "hauling", desc := "(I)LWreckShares$Deed;" } : Jvm.MethodName)) ∈ lw_all := lw_g (lw_at lw_m10 67 rfl) rfl
theorem q2352 : (Jvm.Cond.static ({ cls := "WreckShares", name := "hauling", desc := "(I)LWreckShares$Deed;" } : Jvm.MethodName)) ∈ lw_all := lw_g (lw_at lw_m10 68 rfl) rfl
theorem q2353 : (Jvm.Cond.code ({ cls := "WreckShares", name := "hauling", desc := "(I)LWreckShares$Deed;" } : Jvm.MethodName) prog_1_method_10_code (1 : Nat) (Option.some (Jvm.ClassFile.FieldType.object "WreckShares$Deed"))) ∈ lw_all := lw_g (lw_at lw_m10 69 rfl) rfl
theorem q2354 : (Jvm.Cond.static ({ cls := "WreckShares", name := "lambda$hauling$4", desc := "(ILWreckShares$Shore;)I" } : Jvm.MethodName)) ∈ lw_all := lw_g (lw_at lw_m10 70 rfl) rfl
theorem q2355 : (Jvm.Cond.code ({ cls := "WreckShares", name := "lambda$hauling$4", desc := "(ILWreckShares$Shore;)I" } : Jvm.MethodName) prog_1_method_91_code (2 : Nat) (Option.some Jvm.ClassFile.FieldType.int)) ∈ lw_all := lw_g (lw_at lw_m10 71 rfl) rfl
theorem q2356 : (Jvm.Cond.methodLink "WreckShares" (477 : Nat) ({ cls := "WreckShares$Shore", name := "hauls", desc := "(LWreckShares$Good;)I" } : Jvm.MethodName)) ∈ lw_all := lw_g (lw_at lw_m10 72 rfl) rfl
theorem q2370 : (Jvm.Cond.instanceMethod ({ cls := "WreckShares", name := "claim", desc := "(I)I" } : Jvm.MethodName)) ∈ lw_all := lw_g (lw_at lw_m10 86 rfl) rfl
theorem q2371 : (Jvm.Cond.selects "WreckShares" ({ cls := "WreckShares", name := "claim", desc := "(I)I" } : Jvm.MethodName) ({ cls := "WreckShares", name := "claim", desc := "(I)I" } : Jvm.MethodName)) ∈ lw_all := lw_g (lw_at lw_m10 87 rfl) rfl
theorem q2372 : (Jvm.Cond.code ({ cls := "WreckShares", name := "claim", desc := "(I)I" } : Jvm.MethodName) prog_1_method_73_code (2 : Nat) (Option.some Jvm.ClassFile.FieldType.int)) ∈ lw_all := lw_g (lw_at lw_m10 88 rfl) rfl
theorem q2373 : (Jvm.Cond.methodLink "WreckShares" (403 : Nat) ({ cls := "WreckShares", name := "claiming", desc := "(I)LWreckShares$Deed;" } : Jvm.MethodName)) ∈ lw_all := lw_g (lw_at lw_m10 89 rfl) rfl
theorem q2374 : (Jvm.Cond.static ({ cls := "WreckShares", name := "claiming", desc := "(I)LWreckShares$Deed;" } : Jvm.MethodName)) ∈ lw_all := lw_g (lw_at lw_m10 90 rfl) rfl
theorem q2375 : (Jvm.Cond.code ({ cls := "WreckShares", name := "claiming", desc := "(I)LWreckShares$Deed;" } : Jvm.MethodName) prog_1_method_11_code (1 : Nat) (Option.some (Jvm.ClassFile.FieldType.object "WreckShares$Deed"))) ∈ lw_all := lw_g (lw_at lw_m10 91 rfl) rfl
theorem q2376 : (Jvm.Cond.static ({ cls := "WreckShares", name := "lambda$claiming$5", desc := "(ILWreckShares$Shore;)I" } : Jvm.MethodName)) ∈ lw_all := lw_g (lw_at lw_m10 92 rfl) rfl
theorem q2377 : (Jvm.Cond.code ({ cls := "WreckShares", name := "lambda$claiming$5", desc := "(ILWreckShares$Shore;)I" } : Jvm.MethodName) prog_1_method_90_code (2 : Nat) (Option.some Jvm.ClassFile.FieldType.int)) ∈ lw_all := lw_g (lw_at lw_m10 93 rfl) rfl
theorem q2378 : (Jvm.Cond.methodLink "WreckShares" (474 : Nat) ({ cls := "WreckShares$Shore", name := "claims", desc := "(I)I" } : Jvm.MethodName)) ∈ lw_all := lw_g (lw_at lw_m10 94 rfl) rfl
theorem q2386 : (Jvm.Cond.instanceMethod ({ cls := "WreckShares", name := "divide", desc := "(I)I" } : Jvm.MethodName)) ∈ lw_all := lw_g (lw_at lw_m10 102 rfl) rfl
theorem q2387 : (Jvm.Cond.selects "WreckShares" ({ cls := "WreckShares", name := "divide", desc := "(I)I" } : Jvm.MethodName) ({ cls := "WreckShares", name := "divide", desc := "(I)I" } : Jvm.MethodName)) ∈ lw_all := lw_g (lw_at lw_m10 103 rfl) rfl
theorem q2388 : (Jvm.Cond.code ({ cls := "WreckShares", name := "divide", desc := "(I)I" } : Jvm.MethodName) prog_1_method_74_code (3 : Nat) (Option.some Jvm.ClassFile.FieldType.int)) ∈ lw_all := lw_g (lw_at lw_m10 104 rfl) rfl
theorem q2389 : (Jvm.Cond.methodLink "WreckShares" (406 : Nat) ({ cls := "WreckShares", name := "dividing", desc := "(I)LWreckShares$Deed;" } : Jvm.MethodName)) ∈ lw_all := lw_g (lw_at lw_m10 105 rfl) rfl
theorem q2390 : (Jvm.Cond.static ({ cls := "WreckShares", name := "dividing", desc := "(I)LWreckShares$Deed;" } : Jvm.MethodName)) ∈ lw_all := lw_g (lw_at lw_m10 106 rfl) rfl
theorem q2391 : (Jvm.Cond.code ({ cls := "WreckShares", name := "dividing", desc := "(I)LWreckShares$Deed;" } : Jvm.MethodName) prog_1_method_12_code (1 : Nat) (Option.some (Jvm.ClassFile.FieldType.object "WreckShares$Deed"))) ∈ lw_all := lw_g (lw_at lw_m10 107 rfl) rfl
theorem q2392 : (Jvm.Cond.static ({ cls := "WreckShares", name := "lambda$dividing$6", desc := "(ILWreckShares$Shore;)I" } : Jvm.MethodName)) ∈ lw_all := lw_g (lw_at lw_m10 108 rfl) rfl
theorem q2393 : (Jvm.Cond.code ({ cls := "WreckShares", name := "lambda$dividing$6", desc := "(ILWreckShares$Shore;)I" } : Jvm.MethodName) prog_1_method_89_code (2 : Nat) (Option.some Jvm.ClassFile.FieldType.int)) ∈ lw_all := lw_g (lw_at lw_m10 109 rfl) rfl
theorem q2394 : (Jvm.Cond.methodLink "WreckShares" (471 : Nat) ({ cls := "WreckShares$Shore", name := "divides", desc := "(LWreckShares$Good;)I" } : Jvm.MethodName)) ∈ lw_all := lw_g (lw_at lw_m10 110 rfl) rfl
theorem q2399 : (Jvm.Cond.instanceMethod ({ cls := "WreckShares", name := "ticks", desc := "(I)I" } : Jvm.MethodName)) ∈ lw_all := lw_g (lw_at lw_m10 115 rfl) rfl
theorem q2400 : (Jvm.Cond.selects "WreckShares" ({ cls := "WreckShares", name := "ticks", desc := "(I)I" } : Jvm.MethodName) ({ cls := "WreckShares", name := "ticks", desc := "(I)I" } : Jvm.MethodName)) ∈ lw_all := lw_g (lw_at lw_m10 116 rfl) rfl
theorem q2401 : (Jvm.Cond.code ({ cls := "WreckShares", name := "ticks", desc := "(I)I" } : Jvm.MethodName) prog_1_method_76_code (2 : Nat) (Option.some Jvm.ClassFile.FieldType.int)) ∈ lw_all := lw_g (lw_at lw_m10 117 rfl) rfl
theorem q2402 : (Jvm.Cond.methodLink "WreckShares" (412 : Nat) ({ cls := "WreckShares", name := "passing", desc := "(I)LWreckShares$Deed;" } : Jvm.MethodName)) ∈ lw_all := lw_g (lw_at lw_m10 118 rfl) rfl
theorem q2403 : (Jvm.Cond.static ({ cls := "WreckShares", name := "passing", desc := "(I)LWreckShares$Deed;" } : Jvm.MethodName)) ∈ lw_all := lw_g (lw_at lw_m10 119 rfl) rfl
theorem q2404 : (Jvm.Cond.code ({ cls := "WreckShares", name := "passing", desc := "(I)LWreckShares$Deed;" } : Jvm.MethodName) prog_1_method_14_code (1 : Nat) (Option.some (Jvm.ClassFile.FieldType.object "WreckShares$Deed"))) ∈ lw_all := lw_g (lw_at lw_m10 120 rfl) rfl
theorem q2405 : (Jvm.Cond.static ({ cls := "WreckShares", name := "lambda$passing$8", desc := "(ILWreckShares$Shore;)I" } : Jvm.MethodName)) ∈ lw_all := lw_g (lw_at lw_m10 121 rfl) rfl
theorem q2406 : (Jvm.Cond.code ({ cls := "WreckShares", name := "lambda$passing$8", desc := "(ILWreckShares$Shore;)I" } : Jvm.MethodName) prog_1_method_87_code (2 : Nat) (Option.some Jvm.ClassFile.FieldType.int)) ∈ lw_all := lw_g (lw_at lw_m10 122 rfl) rfl
theorem q2407 : (Jvm.Cond.methodLink "WreckShares" (461 : Nat) ({ cls := "WreckShares$Shore", name := "passes", desc := "(I)I" } : Jvm.MethodName)) ∈ lw_all := lw_g (lw_at lw_m10 123 rfl) rfl
theorem q2419 : (Jvm.Cond.instanceMethod ({ cls := "WreckShares", name := "play", desc := "(I)I" } : Jvm.MethodName)) ∈ lw_all := lw_g (lw_at lw_m10 135 rfl) rfl
theorem q2420 : (Jvm.Cond.selects "WreckShares" ({ cls := "WreckShares", name := "play", desc := "(I)I" } : Jvm.MethodName) ({ cls := "WreckShares", name := "play", desc := "(I)I" } : Jvm.MethodName)) ∈ lw_all := lw_g (lw_at lw_m10 136 rfl) rfl
theorem q2421 : (Jvm.Cond.codeWith ({ cls := "WreckShares", name := "play", desc := "(I)I" } : Jvm.MethodName) prog_1_method_77_code (6 : Nat) (Option.some Jvm.ClassFile.FieldType.int) [((6 : Nat), (11 : Nat), (14 : Nat), (117 : Nat))]) ∈ lw_all := lw_g (lw_at lw_m10 137 rfl) rfl
theorem q2422 : (Jvm.Cond.methodLink "WreckShares" (415 : Nat) ({ cls := "WreckShares$Parser", name := "script", desc := "()[LWreckShares$Deed;" } : Jvm.MethodName)) ∈ lw_all := lw_g (lw_at lw_m10 138 rfl) rfl
theorem q2462 : (Jvm.Cond.instanceMethod ({ cls := "WreckShares", name := "format", desc := "(I)I" } : Jvm.MethodName)) ∈ lw_all := lw_g (lw_at lw_m10 178 rfl) rfl
theorem q2463 : (Jvm.Cond.selects "WreckShares" ({ cls := "WreckShares", name := "format", desc := "(I)I" } : Jvm.MethodName) ({ cls := "WreckShares", name := "format", desc := "(I)I" } : Jvm.MethodName)) ∈ lw_all := lw_g (lw_at lw_m10 179 rfl) rfl
theorem q2464 : (Jvm.Cond.code ({ cls := "WreckShares", name := "format", desc := "(I)I" } : Jvm.MethodName) prog_1_method_78_code (6 : Nat) (Option.some Jvm.ClassFile.FieldType.int)) ∈ lw_all := lw_g (lw_at lw_m10 180 rfl) rfl
theorem q2465 : (Jvm.Cond.classLink "WreckShares" (422 : Nat) "java/lang/StringBuilder") ∈ lw_all := lw_g (lw_at lw_m10 181 rfl) rfl
theorem q2466 : (Jvm.Cond.methodLink "WreckShares" (424 : Nat) ({ cls := "java/lang/StringBuilder", name := "<init>", desc := "()V" } : Jvm.MethodName)) ∈ lw_all := lw_g (lw_at lw_m10 182 rfl) rfl
theorem q2467 : (Jvm.Cond.stringRef "WreckShares" (425 : Nat) "cbsc") ∈ lw_tbl := lw_at lw_m10 183 rfl
theorem q2468 : (Jvm.Cond.methodLink "WreckShares" (433 : Nat) ({ cls := "java/lang/StringBuilder", name := "append", desc := "(C)Ljava/lang/StringBuilder;" } : Jvm.MethodName)) ∈ lw_all := lw_g (lw_at lw_m10 184 rfl) rfl
theorem q2469 : (Jvm.Cond.methodLink "WreckShares" (436 : Nat) ({ cls := "java/lang/StringBuilder", name := "append", desc := "(I)Ljava/lang/StringBuilder;" } : Jvm.MethodName)) ∈ lw_all := lw_g (lw_at lw_m10 185 rfl) rfl
theorem q2470 : (Jvm.Cond.stringRef "WreckShares" (439 : Nat) "-+=~") ∈ lw_tbl := lw_at lw_m10 186 rfl
theorem q2471 : (Jvm.Cond.methodLink "WreckShares" (441 : Nat) ({ cls := "java/lang/StringBuilder", name := "toString", desc := "()Ljava/lang/String;" } : Jvm.MethodName)) ∈ lw_all := lw_g (lw_at lw_m10 187 rfl) rfl
theorem q3158 : (Jvm.Cond.castable "WreckShares" "java/lang/Object") ∈ lw_tbl := lw_at lw_m13 154 rfl
theorem in_X1 : ∀ w ∈ wsX10, w ∈ lw_all := lw_in wsX10 [812, 814, 816, 818, 820, 822, 824, 826] (by decide +kernel) (by decide +kernel)

/-! WreckShares$Shore -/
def RX2 : String := "WreckShares$Shore"
def TX2 : u_T := fun k => match k with
  | 0 => ("WreckShares$Shore", "period", "I", true)
  | 1 => ("WreckShares$Shore", "stay", "I", true)
  | 2 => ("WreckShares$Shore", "wait", "I", true)
  | 3 => ("WreckShares$Shore", "goods", "Ljava/util/List;", true)
  | 4 => ("WreckShares$Shore", "purses", "[I", true)
  | 5 => ("WreckShares$Shore", "owners", "[I", true)
  | 6 => ("WreckShares$Shore", "sums", "[I", true)
  | 7 => ("WreckShares$Shore", "time", "I", false)
  | _ => ("WreckShares$Shore", "crown", "I", false)
def tyX2 : Nat → FieldType := fun k => match k with
  | 0 => .int
  | 1 => .int
  | 2 => .int
  | 3 => .object "java/util/List"
  | 4 => .array .int
  | 5 => .array .int
  | 6 => .array .int
  | 7 => .int
  | _ => .int
abbrev wsX20 : List Cond := u_ws RX2 TX2 9
theorem nmX2 : ∀ a, a < 9 → ∀ b, b < 9 → a ≠ b → (TX2 a).2.1 ≠ (TX2 b).2.1 := by decide +kernel
theorem tyX2_ok : ∀ k, k < 9 → parseFieldDescriptor (TX2 k).2.2.1 = some (tyX2 k) := by decide +kernel
abbrev cX2_init : ByteArray := prog_14_method_1_code
def yX2_init : MethodName := ⟨RX2, "<init>", "(IIII)V"⟩
def dkwX2_init_0 : List UInt8 := [42, 27, 28, 29, 21, 4, 188, 10, 16, 6, 188, 10, 16, 8, 188, 10, 183, 0, 3, 177]
abbrev dktX2_init_0 : List UInt8 := dkwX2_init_0 ++ []
theorem dksX2_init_0 : cX2_init.data.toList.drop 0 = dktX2_init_0 := by decide +kernel
theorem dX2_init_0 : decode cX2_init 0 = .ok (.aload_n 0, 1) := dk_42 (dk_at dksX2_init_0 0 rfl rfl)
theorem dX2_init_1 : decode cX2_init 1 = .ok (.iload_n 1, 1) := dk_27 (dk_at dksX2_init_0 1 rfl rfl)
theorem dX2_init_2 : decode cX2_init 2 = .ok (.iload_n 2, 1) := dk_28 (dk_at dksX2_init_0 2 rfl rfl)
theorem dX2_init_3 : decode cX2_init 3 = .ok (.iload_n 3, 1) := dk_29 (dk_at dksX2_init_0 3 rfl rfl)
theorem dX2_init_4 : decode cX2_init 4 = .ok (.iload 4, 2) := dk_21 4 (dk_at dksX2_init_0 4 rfl rfl)
theorem dX2_init_6 : decode cX2_init 6 = .ok (.newarray .int, 2) := dk_188_10 (dk_at dksX2_init_0 6 rfl rfl)
theorem dX2_init_8 : decode cX2_init 8 = .ok (.bipush 6, 2) := dk_16 6 (dk_at dksX2_init_0 8 rfl rfl)
theorem dX2_init_10 : decode cX2_init 10 = .ok (.newarray .int, 2) := dk_188_10 (dk_at dksX2_init_0 10 rfl rfl)
theorem dX2_init_12 : decode cX2_init 12 = .ok (.bipush 8, 2) := dk_16 8 (dk_at dksX2_init_0 12 rfl rfl)
theorem dX2_init_14 : decode cX2_init 14 = .ok (.newarray .int, 2) := dk_188_10 (dk_at dksX2_init_0 14 rfl rfl)
theorem dX2_init_16 : decode cX2_init 16 = .ok (.invokespecial 3, 3) := dk_183 0 3 (dk_at dksX2_init_0 16 rfl rfl)
theorem dX2_init_19 : decode cX2_init 19 = .ok (.return_, 1) := dk_177 (dk_at dksX2_init_0 19 rfl rfl)
abbrev cX2_init_2 : ByteArray := prog_14_method_2_code
def yX2_init_2 : MethodName := ⟨RX2, "<init>", "(III[I[I[I)V"⟩
def dkwX2_init_2_2 : List UInt8 := [181, 0, 40, 177]
abbrev dktX2_init_2_2 : List UInt8 := dkwX2_init_2_2 ++ []
def dkwX2_init_2_1 : List UInt8 := [181, 0, 27, 42, 29, 181, 0, 30, 42, 25, 4, 181, 0, 33, 42, 25, 5, 181, 0, 37, 42, 25, 6]
abbrev dktX2_init_2_1 : List UInt8 := dkwX2_init_2_1 ++ dktX2_init_2_2
def dkwX2_init_2_0 : List UInt8 := [42, 183, 0, 9, 42, 187, 0, 14, 89, 16, 24, 183, 0, 16, 181, 0, 19, 42, 27, 181, 0, 23, 42, 28]
abbrev dktX2_init_2_0 : List UInt8 := dkwX2_init_2_0 ++ dktX2_init_2_1
theorem dksX2_init_2_0 : cX2_init_2.data.toList.drop 0 = dktX2_init_2_0 := by decide +kernel
theorem dksX2_init_2_1 : cX2_init_2.data.toList.drop 24 = dktX2_init_2_1 := dk_seg dksX2_init_2_0 24 rfl rfl
theorem dksX2_init_2_2 : cX2_init_2.data.toList.drop 47 = dktX2_init_2_2 := dk_seg dksX2_init_2_1 23 rfl rfl
theorem dX2_init_2_0 : decode cX2_init_2 0 = .ok (.aload_n 0, 1) := dk_42 (dk_at dksX2_init_2_0 0 rfl rfl)
theorem dX2_init_2_1 : decode cX2_init_2 1 = .ok (.invokespecial 9, 3) := dk_183 0 9 (dk_at dksX2_init_2_0 1 rfl rfl)
theorem dX2_init_2_4 : decode cX2_init_2 4 = .ok (.aload_n 0, 1) := dk_42 (dk_at dksX2_init_2_0 4 rfl rfl)
theorem dX2_init_2_5 : decode cX2_init_2 5 = .ok (.new 14, 3) := dk_187 0 14 (dk_at dksX2_init_2_0 5 rfl rfl)
theorem dX2_init_2_8 : decode cX2_init_2 8 = .ok (.dup, 1) := dk_89 (dk_at dksX2_init_2_0 8 rfl rfl)
theorem dX2_init_2_9 : decode cX2_init_2 9 = .ok (.bipush 24, 2) := dk_16 24 (dk_at dksX2_init_2_0 9 rfl rfl)
theorem dX2_init_2_11 : decode cX2_init_2 11 = .ok (.invokespecial 16, 3) := dk_183 0 16 (dk_at dksX2_init_2_0 11 rfl rfl)
theorem dX2_init_2_14 : decode cX2_init_2 14 = .ok (.putfield 19, 3) := dk_181 0 19 (dk_at dksX2_init_2_0 14 rfl rfl)
theorem dX2_init_2_17 : decode cX2_init_2 17 = .ok (.aload_n 0, 1) := dk_42 (dk_at dksX2_init_2_0 17 rfl rfl)
theorem dX2_init_2_18 : decode cX2_init_2 18 = .ok (.iload_n 1, 1) := dk_27 (dk_at dksX2_init_2_0 18 rfl rfl)
theorem dX2_init_2_19 : decode cX2_init_2 19 = .ok (.putfield 23, 3) := dk_181 0 23 (dk_at dksX2_init_2_0 19 rfl rfl)
theorem dX2_init_2_22 : decode cX2_init_2 22 = .ok (.aload_n 0, 1) := dk_42 (dk_at dksX2_init_2_0 22 rfl rfl)
theorem dX2_init_2_23 : decode cX2_init_2 23 = .ok (.iload_n 2, 1) := dk_28 (dk_at dksX2_init_2_0 23 rfl rfl)
theorem dX2_init_2_24 : decode cX2_init_2 24 = .ok (.putfield 27, 3) := dk_181 0 27 (dk_at dksX2_init_2_1 0 rfl rfl)
theorem dX2_init_2_27 : decode cX2_init_2 27 = .ok (.aload_n 0, 1) := dk_42 (dk_at dksX2_init_2_1 3 rfl rfl)
theorem dX2_init_2_28 : decode cX2_init_2 28 = .ok (.iload_n 3, 1) := dk_29 (dk_at dksX2_init_2_1 4 rfl rfl)
theorem dX2_init_2_29 : decode cX2_init_2 29 = .ok (.putfield 30, 3) := dk_181 0 30 (dk_at dksX2_init_2_1 5 rfl rfl)
theorem dX2_init_2_32 : decode cX2_init_2 32 = .ok (.aload_n 0, 1) := dk_42 (dk_at dksX2_init_2_1 8 rfl rfl)
theorem dX2_init_2_33 : decode cX2_init_2 33 = .ok (.aload 4, 2) := dk_25 4 (dk_at dksX2_init_2_1 9 rfl rfl)
theorem dX2_init_2_35 : decode cX2_init_2 35 = .ok (.putfield 33, 3) := dk_181 0 33 (dk_at dksX2_init_2_1 11 rfl rfl)
theorem dX2_init_2_38 : decode cX2_init_2 38 = .ok (.aload_n 0, 1) := dk_42 (dk_at dksX2_init_2_1 14 rfl rfl)
theorem dX2_init_2_39 : decode cX2_init_2 39 = .ok (.aload 5, 2) := dk_25 5 (dk_at dksX2_init_2_1 15 rfl rfl)
theorem dX2_init_2_41 : decode cX2_init_2 41 = .ok (.putfield 37, 3) := dk_181 0 37 (dk_at dksX2_init_2_1 17 rfl rfl)
theorem dX2_init_2_44 : decode cX2_init_2 44 = .ok (.aload_n 0, 1) := dk_42 (dk_at dksX2_init_2_1 20 rfl rfl)
theorem dX2_init_2_45 : decode cX2_init_2 45 = .ok (.aload 6, 2) := dk_25 6 (dk_at dksX2_init_2_1 21 rfl rfl)
theorem dX2_init_2_47 : decode cX2_init_2 47 = .ok (.putfield 40, 3) := dk_181 0 40 (dk_at dksX2_init_2_2 0 rfl rfl)
theorem dX2_init_2_50 : decode cX2_init_2 50 = .ok (.return_, 1) := dk_177 (dk_at dksX2_init_2_2 3 rfl rfl)
abbrev cX2_good : ByteArray := prog_14_method_4_code
def yX2_good : MethodName := ⟨RX2, "good", "(I)LWreckShares$Good;"⟩
def dkwX2_good_0 : List UInt8 := [42, 180, 0, 19, 27, 185, 0, 74, 2, 0, 192, 0, 59, 176]
abbrev dktX2_good_0 : List UInt8 := dkwX2_good_0 ++ []
theorem dksX2_good_0 : cX2_good.data.toList.drop 0 = dktX2_good_0 := by decide +kernel
theorem dX2_good_0 : decode cX2_good 0 = .ok (.aload_n 0, 1) := dk_42 (dk_at dksX2_good_0 0 rfl rfl)
theorem dX2_good_1 : decode cX2_good 1 = .ok (.getfield 19, 3) := dk_180 0 19 (dk_at dksX2_good_0 1 rfl rfl)
theorem dX2_good_4 : decode cX2_good 4 = .ok (.iload_n 1, 1) := dk_27 (dk_at dksX2_good_0 4 rfl rfl)
theorem dX2_good_5 : decode cX2_good 5 = .ok (.invokeinterface 74 2, 5) := by decide +kernel
theorem dX2_good_10 : decode cX2_good 10 = .ok (.checkcast 59, 3) := dk_192 0 59 (dk_at dksX2_good_0 10 rfl rfl)
theorem dX2_good_13 : decode cX2_good 13 = .ok (.areturn, 1) := dk_176 (dk_at dksX2_good_0 13 rfl rfl)
abbrev cX2_lostIn : ByteArray := prog_14_method_9_code
def yX2_lostIn : MethodName := ⟨RX2, "lostIn", "(LWreckShares$Good;)I"⟩
def dkwX2_lostIn_2 : List UInt8 := [154, 0, 7, 4, 167, 0, 4, 3, 184, 0, 95, 96, 61, 167, 255, 220, 29, 172]
abbrev dktX2_lostIn_2 : List UInt8 := dkwX2_lostIn_2 ++ []
def dkwX2_lostIn_1 : List UInt8 := [28, 42, 180, 0, 27, 162, 0, 34, 132, 3, 1, 28, 42, 43, 42, 180, 0, 68, 29, 96, 182, 0, 91]
abbrev dktX2_lostIn_1 : List UInt8 := dkwX2_lostIn_1 ++ dktX2_lostIn_2
def dkwX2_lostIn_0 : List UInt8 := [43, 180, 0, 99, 154, 0, 11, 42, 43, 182, 0, 102, 154, 0, 5, 2, 172, 43, 180, 0, 106, 61, 3, 62]
abbrev dktX2_lostIn_0 : List UInt8 := dkwX2_lostIn_0 ++ dktX2_lostIn_1
theorem dksX2_lostIn_0 : cX2_lostIn.data.toList.drop 0 = dktX2_lostIn_0 := by decide +kernel
theorem dksX2_lostIn_1 : cX2_lostIn.data.toList.drop 24 = dktX2_lostIn_1 := dk_seg dksX2_lostIn_0 24 rfl rfl
theorem dksX2_lostIn_2 : cX2_lostIn.data.toList.drop 47 = dktX2_lostIn_2 := dk_seg dksX2_lostIn_1 23 rfl rfl
theorem dX2_lostIn_0 : decode cX2_lostIn 0 = .ok (.aload_n 1, 1) := dk_43 (dk_at dksX2_lostIn_0 0 rfl rfl)
theorem dX2_lostIn_1 : decode cX2_lostIn 1 = .ok (.getfield 99, 3) := dk_180 0 99 (dk_at dksX2_lostIn_0 1 rfl rfl)
theorem dX2_lostIn_4 : decode cX2_lostIn 4 = .ok (.ifCond .ne 11, 3) := dk_154 0 11 (dk_at dksX2_lostIn_0 4 rfl rfl)
theorem dX2_lostIn_7 : decode cX2_lostIn 7 = .ok (.aload_n 0, 1) := dk_42 (dk_at dksX2_lostIn_0 7 rfl rfl)
theorem dX2_lostIn_8 : decode cX2_lostIn 8 = .ok (.aload_n 1, 1) := dk_43 (dk_at dksX2_lostIn_0 8 rfl rfl)
theorem dX2_lostIn_9 : decode cX2_lostIn 9 = .ok (.invokevirtual 102, 3) := dk_182 0 102 (dk_at dksX2_lostIn_0 9 rfl rfl)
theorem dX2_lostIn_12 : decode cX2_lostIn 12 = .ok (.ifCond .ne 5, 3) := dk_154 0 5 (dk_at dksX2_lostIn_0 12 rfl rfl)
theorem dX2_lostIn_15 : decode cX2_lostIn 15 = .ok (.iconst (-1), 1) := dk_2 (dk_at dksX2_lostIn_0 15 rfl rfl)
theorem dX2_lostIn_16 : decode cX2_lostIn 16 = .ok (.ireturn, 1) := dk_172 (dk_at dksX2_lostIn_0 16 rfl rfl)
theorem dX2_lostIn_17 : decode cX2_lostIn 17 = .ok (.aload_n 1, 1) := dk_43 (dk_at dksX2_lostIn_0 17 rfl rfl)
theorem dX2_lostIn_18 : decode cX2_lostIn 18 = .ok (.getfield 106, 3) := dk_180 0 106 (dk_at dksX2_lostIn_0 18 rfl rfl)
theorem dX2_lostIn_21 : decode cX2_lostIn 21 = .ok (.istore_n 2, 1) := dk_61 (dk_at dksX2_lostIn_0 21 rfl rfl)
theorem dX2_lostIn_22 : decode cX2_lostIn 22 = .ok (.iconst 0, 1) := dk_3 (dk_at dksX2_lostIn_0 22 rfl rfl)
theorem dX2_lostIn_23 : decode cX2_lostIn 23 = .ok (.istore_n 3, 1) := dk_62 (dk_at dksX2_lostIn_0 23 rfl rfl)
theorem dX2_lostIn_24 : decode cX2_lostIn 24 = .ok (.iload_n 2, 1) := dk_28 (dk_at dksX2_lostIn_1 0 rfl rfl)
theorem dX2_lostIn_25 : decode cX2_lostIn 25 = .ok (.aload_n 0, 1) := dk_42 (dk_at dksX2_lostIn_1 1 rfl rfl)
theorem dX2_lostIn_26 : decode cX2_lostIn 26 = .ok (.getfield 27, 3) := dk_180 0 27 (dk_at dksX2_lostIn_1 2 rfl rfl)
theorem dX2_lostIn_29 : decode cX2_lostIn 29 = .ok (.if_icmp .ge 34, 3) := dk_162 0 34 (dk_at dksX2_lostIn_1 5 rfl rfl)
theorem dX2_lostIn_32 : decode cX2_lostIn 32 = .ok (.iinc 3 1, 3) := dk_132 3 1 (dk_at dksX2_lostIn_1 8 rfl rfl)
theorem dX2_lostIn_35 : decode cX2_lostIn 35 = .ok (.iload_n 2, 1) := dk_28 (dk_at dksX2_lostIn_1 11 rfl rfl)
theorem dX2_lostIn_36 : decode cX2_lostIn 36 = .ok (.aload_n 0, 1) := dk_42 (dk_at dksX2_lostIn_1 12 rfl rfl)
theorem dX2_lostIn_37 : decode cX2_lostIn 37 = .ok (.aload_n 1, 1) := dk_43 (dk_at dksX2_lostIn_1 13 rfl rfl)
theorem dX2_lostIn_38 : decode cX2_lostIn 38 = .ok (.aload_n 0, 1) := dk_42 (dk_at dksX2_lostIn_1 14 rfl rfl)
theorem dX2_lostIn_39 : decode cX2_lostIn 39 = .ok (.getfield 68, 3) := dk_180 0 68 (dk_at dksX2_lostIn_1 15 rfl rfl)
theorem dX2_lostIn_42 : decode cX2_lostIn 42 = .ok (.iload_n 3, 1) := dk_29 (dk_at dksX2_lostIn_1 18 rfl rfl)
theorem dX2_lostIn_43 : decode cX2_lostIn 43 = .ok (.iadd, 1) := dk_96 (dk_at dksX2_lostIn_1 19 rfl rfl)
theorem dX2_lostIn_44 : decode cX2_lostIn 44 = .ok (.invokevirtual 91, 3) := dk_182 0 91 (dk_at dksX2_lostIn_1 20 rfl rfl)
theorem dX2_lostIn_47 : decode cX2_lostIn 47 = .ok (.ifCond .ne 7, 3) := dk_154 0 7 (dk_at dksX2_lostIn_2 0 rfl rfl)
theorem dX2_lostIn_50 : decode cX2_lostIn 50 = .ok (.iconst 1, 1) := dk_4 (dk_at dksX2_lostIn_2 3 rfl rfl)
theorem dX2_lostIn_51 : decode cX2_lostIn 51 = .ok (.goto 4, 3) := dk_167 0 4 (dk_at dksX2_lostIn_2 4 rfl rfl)
theorem dX2_lostIn_54 : decode cX2_lostIn 54 = .ok (.iconst 0, 1) := dk_3 (dk_at dksX2_lostIn_2 7 rfl rfl)
theorem dX2_lostIn_55 : decode cX2_lostIn 55 = .ok (.invokestatic 95, 3) := dk_184 0 95 (dk_at dksX2_lostIn_2 8 rfl rfl)
theorem dX2_lostIn_58 : decode cX2_lostIn 58 = .ok (.iadd, 1) := dk_96 (dk_at dksX2_lostIn_2 11 rfl rfl)
theorem dX2_lostIn_59 : decode cX2_lostIn 59 = .ok (.istore_n 2, 1) := dk_61 (dk_at dksX2_lostIn_2 12 rfl rfl)
theorem dX2_lostIn_60 : decode cX2_lostIn 60 = .ok (.goto (-36), 3) := dk_167 255 220 (dk_at dksX2_lostIn_2 13 rfl rfl)
theorem dX2_lostIn_63 : decode cX2_lostIn 63 = .ok (.iload_n 3, 1) := dk_29 (dk_at dksX2_lostIn_2 16 rfl rfl)
theorem dX2_lostIn_64 : decode cX2_lostIn 64 = .ok (.ireturn, 1) := dk_172 (dk_at dksX2_lostIn_2 17 rfl rfl)
abbrev cX2_wetTicks : ByteArray := prog_14_method_8_code
def yX2_wetTicks : MethodName := ⟨RX2, "wetTicks", "(LWreckShares$Good;)I"⟩
def dkwX2_wetTicks_1 : List UInt8 := [154, 0, 7, 4, 167, 0, 4, 3, 184, 0, 95, 96, 61, 132, 3, 1, 167, 255, 220, 28, 172]
abbrev dktX2_wetTicks_1 : List UInt8 := dkwX2_wetTicks_1 ++ []
def dkwX2_wetTicks_0 : List UInt8 := [3, 61, 4, 62, 29, 42, 180, 0, 23, 163, 0, 34, 28, 42, 43, 42, 180, 0, 68, 29, 96, 182, 0, 91]
abbrev dktX2_wetTicks_0 : List UInt8 := dkwX2_wetTicks_0 ++ dktX2_wetTicks_1
theorem dksX2_wetTicks_0 : cX2_wetTicks.data.toList.drop 0 = dktX2_wetTicks_0 := by decide +kernel
theorem dksX2_wetTicks_1 : cX2_wetTicks.data.toList.drop 24 = dktX2_wetTicks_1 := dk_seg dksX2_wetTicks_0 24 rfl rfl
theorem dX2_wetTicks_0 : decode cX2_wetTicks 0 = .ok (.iconst 0, 1) := dk_3 (dk_at dksX2_wetTicks_0 0 rfl rfl)
theorem dX2_wetTicks_1 : decode cX2_wetTicks 1 = .ok (.istore_n 2, 1) := dk_61 (dk_at dksX2_wetTicks_0 1 rfl rfl)
theorem dX2_wetTicks_2 : decode cX2_wetTicks 2 = .ok (.iconst 1, 1) := dk_4 (dk_at dksX2_wetTicks_0 2 rfl rfl)
theorem dX2_wetTicks_3 : decode cX2_wetTicks 3 = .ok (.istore_n 3, 1) := dk_62 (dk_at dksX2_wetTicks_0 3 rfl rfl)
theorem dX2_wetTicks_4 : decode cX2_wetTicks 4 = .ok (.iload_n 3, 1) := dk_29 (dk_at dksX2_wetTicks_0 4 rfl rfl)
theorem dX2_wetTicks_5 : decode cX2_wetTicks 5 = .ok (.aload_n 0, 1) := dk_42 (dk_at dksX2_wetTicks_0 5 rfl rfl)
theorem dX2_wetTicks_6 : decode cX2_wetTicks 6 = .ok (.getfield 23, 3) := dk_180 0 23 (dk_at dksX2_wetTicks_0 6 rfl rfl)
theorem dX2_wetTicks_9 : decode cX2_wetTicks 9 = .ok (.if_icmp .gt 34, 3) := dk_163 0 34 (dk_at dksX2_wetTicks_0 9 rfl rfl)
theorem dX2_wetTicks_12 : decode cX2_wetTicks 12 = .ok (.iload_n 2, 1) := dk_28 (dk_at dksX2_wetTicks_0 12 rfl rfl)
theorem dX2_wetTicks_13 : decode cX2_wetTicks 13 = .ok (.aload_n 0, 1) := dk_42 (dk_at dksX2_wetTicks_0 13 rfl rfl)
theorem dX2_wetTicks_14 : decode cX2_wetTicks 14 = .ok (.aload_n 1, 1) := dk_43 (dk_at dksX2_wetTicks_0 14 rfl rfl)
theorem dX2_wetTicks_15 : decode cX2_wetTicks 15 = .ok (.aload_n 0, 1) := dk_42 (dk_at dksX2_wetTicks_0 15 rfl rfl)
theorem dX2_wetTicks_16 : decode cX2_wetTicks 16 = .ok (.getfield 68, 3) := dk_180 0 68 (dk_at dksX2_wetTicks_0 16 rfl rfl)
theorem dX2_wetTicks_19 : decode cX2_wetTicks 19 = .ok (.iload_n 3, 1) := dk_29 (dk_at dksX2_wetTicks_0 19 rfl rfl)
theorem dX2_wetTicks_20 : decode cX2_wetTicks 20 = .ok (.iadd, 1) := dk_96 (dk_at dksX2_wetTicks_0 20 rfl rfl)
theorem dX2_wetTicks_21 : decode cX2_wetTicks 21 = .ok (.invokevirtual 91, 3) := dk_182 0 91 (dk_at dksX2_wetTicks_0 21 rfl rfl)
theorem dX2_wetTicks_24 : decode cX2_wetTicks 24 = .ok (.ifCond .ne 7, 3) := dk_154 0 7 (dk_at dksX2_wetTicks_1 0 rfl rfl)
theorem dX2_wetTicks_27 : decode cX2_wetTicks 27 = .ok (.iconst 1, 1) := dk_4 (dk_at dksX2_wetTicks_1 3 rfl rfl)
theorem dX2_wetTicks_28 : decode cX2_wetTicks 28 = .ok (.goto 4, 3) := dk_167 0 4 (dk_at dksX2_wetTicks_1 4 rfl rfl)
theorem dX2_wetTicks_31 : decode cX2_wetTicks 31 = .ok (.iconst 0, 1) := dk_3 (dk_at dksX2_wetTicks_1 7 rfl rfl)
theorem dX2_wetTicks_32 : decode cX2_wetTicks 32 = .ok (.invokestatic 95, 3) := dk_184 0 95 (dk_at dksX2_wetTicks_1 8 rfl rfl)
theorem dX2_wetTicks_35 : decode cX2_wetTicks 35 = .ok (.iadd, 1) := dk_96 (dk_at dksX2_wetTicks_1 11 rfl rfl)
theorem dX2_wetTicks_36 : decode cX2_wetTicks 36 = .ok (.istore_n 2, 1) := dk_61 (dk_at dksX2_wetTicks_1 12 rfl rfl)
theorem dX2_wetTicks_37 : decode cX2_wetTicks 37 = .ok (.iinc 3 1, 3) := dk_132 3 1 (dk_at dksX2_wetTicks_1 13 rfl rfl)
theorem dX2_wetTicks_40 : decode cX2_wetTicks 40 = .ok (.goto (-36), 3) := dk_167 255 220 (dk_at dksX2_wetTicks_1 16 rfl rfl)
theorem dX2_wetTicks_43 : decode cX2_wetTicks 43 = .ok (.iload_n 2, 1) := dk_28 (dk_at dksX2_wetTicks_1 19 rfl rfl)
theorem dX2_wetTicks_44 : decode cX2_wetTicks 44 = .ok (.ireturn, 1) := dk_172 (dk_at dksX2_wetTicks_1 20 rfl rfl)
abbrev cX2_isDry : ByteArray := prog_14_method_6_code
def yX2_isDry : MethodName := ⟨RX2, "isDry", "(LWreckShares$Good;I)Z"⟩
def dkwX2_isDry_0 : List UInt8 := [42, 28, 182, 0, 84, 43, 180, 0, 88, 163, 0, 7, 4, 167, 0, 4, 3, 172]
abbrev dktX2_isDry_0 : List UInt8 := dkwX2_isDry_0 ++ []
theorem dksX2_isDry_0 : cX2_isDry.data.toList.drop 0 = dktX2_isDry_0 := by decide +kernel
theorem dX2_isDry_0 : decode cX2_isDry 0 = .ok (.aload_n 0, 1) := dk_42 (dk_at dksX2_isDry_0 0 rfl rfl)
theorem dX2_isDry_1 : decode cX2_isDry 1 = .ok (.iload_n 2, 1) := dk_28 (dk_at dksX2_isDry_0 1 rfl rfl)
theorem dX2_isDry_2 : decode cX2_isDry 2 = .ok (.invokevirtual 84, 3) := dk_182 0 84 (dk_at dksX2_isDry_0 2 rfl rfl)
theorem dX2_isDry_5 : decode cX2_isDry 5 = .ok (.aload_n 1, 1) := dk_43 (dk_at dksX2_isDry_0 5 rfl rfl)
theorem dX2_isDry_6 : decode cX2_isDry 6 = .ok (.getfield 88, 3) := dk_180 0 88 (dk_at dksX2_isDry_0 6 rfl rfl)
theorem dX2_isDry_9 : decode cX2_isDry 9 = .ok (.if_icmp .gt 7, 3) := dk_163 0 7 (dk_at dksX2_isDry_0 9 rfl rfl)
theorem dX2_isDry_12 : decode cX2_isDry 12 = .ok (.iconst 1, 1) := dk_4 (dk_at dksX2_isDry_0 12 rfl rfl)
theorem dX2_isDry_13 : decode cX2_isDry 13 = .ok (.goto 4, 3) := dk_167 0 4 (dk_at dksX2_isDry_0 13 rfl rfl)
theorem dX2_isDry_16 : decode cX2_isDry 16 = .ok (.iconst 0, 1) := dk_3 (dk_at dksX2_isDry_0 16 rfl rfl)
theorem dX2_isDry_17 : decode cX2_isDry 17 = .ok (.ireturn, 1) := dk_172 (dk_at dksX2_isDry_0 17 rfl rfl)
abbrev cX2_level : ByteArray := prog_14_method_5_code
def yX2_level : MethodName := ⟨RX2, "level", "(I)I"⟩
def dkwX2_level_1 : List UInt8 := [108, 172]
abbrev dktX2_level_1 : List UInt8 := dkwX2_level_1 ++ []
def dkwX2_level_0 : List UInt8 := [27, 42, 180, 0, 23, 112, 61, 16, 18, 28, 42, 180, 0, 23, 28, 100, 184, 0, 78, 104, 42, 180, 0, 23]
abbrev dktX2_level_0 : List UInt8 := dkwX2_level_0 ++ dktX2_level_1
theorem dksX2_level_0 : cX2_level.data.toList.drop 0 = dktX2_level_0 := by decide +kernel
theorem dksX2_level_1 : cX2_level.data.toList.drop 24 = dktX2_level_1 := dk_seg dksX2_level_0 24 rfl rfl
theorem dX2_level_0 : decode cX2_level 0 = .ok (.iload_n 1, 1) := dk_27 (dk_at dksX2_level_0 0 rfl rfl)
theorem dX2_level_1 : decode cX2_level 1 = .ok (.aload_n 0, 1) := dk_42 (dk_at dksX2_level_0 1 rfl rfl)
theorem dX2_level_2 : decode cX2_level 2 = .ok (.getfield 23, 3) := dk_180 0 23 (dk_at dksX2_level_0 2 rfl rfl)
theorem dX2_level_5 : decode cX2_level 5 = .ok (.irem, 1) := dk_112 (dk_at dksX2_level_0 5 rfl rfl)
theorem dX2_level_6 : decode cX2_level 6 = .ok (.istore_n 2, 1) := dk_61 (dk_at dksX2_level_0 6 rfl rfl)
theorem dX2_level_7 : decode cX2_level 7 = .ok (.bipush 18, 2) := dk_16 18 (dk_at dksX2_level_0 7 rfl rfl)
theorem dX2_level_9 : decode cX2_level 9 = .ok (.iload_n 2, 1) := dk_28 (dk_at dksX2_level_0 9 rfl rfl)
theorem dX2_level_10 : decode cX2_level 10 = .ok (.aload_n 0, 1) := dk_42 (dk_at dksX2_level_0 10 rfl rfl)
theorem dX2_level_11 : decode cX2_level 11 = .ok (.getfield 23, 3) := dk_180 0 23 (dk_at dksX2_level_0 11 rfl rfl)
theorem dX2_level_14 : decode cX2_level 14 = .ok (.iload_n 2, 1) := dk_28 (dk_at dksX2_level_0 14 rfl rfl)
theorem dX2_level_15 : decode cX2_level 15 = .ok (.isub, 1) := dk_100 (dk_at dksX2_level_0 15 rfl rfl)
theorem dX2_level_16 : decode cX2_level 16 = .ok (.invokestatic 78, 3) := dk_184 0 78 (dk_at dksX2_level_0 16 rfl rfl)
theorem dX2_level_19 : decode cX2_level 19 = .ok (.imul, 1) := dk_104 (dk_at dksX2_level_0 19 rfl rfl)
theorem dX2_level_20 : decode cX2_level 20 = .ok (.aload_n 0, 1) := dk_42 (dk_at dksX2_level_0 20 rfl rfl)
theorem dX2_level_21 : decode cX2_level 21 = .ok (.getfield 23, 3) := dk_180 0 23 (dk_at dksX2_level_0 21 rfl rfl)
theorem dX2_level_24 : decode cX2_level 24 = .ok (.idiv, 1) := dk_108 (dk_at dksX2_level_1 0 rfl rfl)
theorem dX2_level_25 : decode cX2_level 25 = .ok (.ireturn, 1) := dk_172 (dk_at dksX2_level_1 1 rfl rfl)
abbrev cX2_freeFinders : ByteArray := prog_14_method_11_code
def yX2_freeFinders : MethodName := ⟨RX2, "freeFinders", "()I"⟩
def dkwX2_freeFinders_1 : List UInt8 := [167, 0, 4, 3, 184, 0, 95, 96, 60, 132, 2, 1, 167, 255, 225, 27, 172]
abbrev dktX2_freeFinders_1 : List UInt8 := dkwX2_freeFinders_1 ++ []
def dkwX2_freeFinders_0 : List UInt8 := [3, 60, 3, 61, 28, 42, 180, 0, 33, 190, 162, 0, 28, 27, 42, 28, 182, 0, 124, 199, 0, 7, 4]
abbrev dktX2_freeFinders_0 : List UInt8 := dkwX2_freeFinders_0 ++ dktX2_freeFinders_1
theorem dksX2_freeFinders_0 : cX2_freeFinders.data.toList.drop 0 = dktX2_freeFinders_0 := by decide +kernel
theorem dksX2_freeFinders_1 : cX2_freeFinders.data.toList.drop 23 = dktX2_freeFinders_1 := dk_seg dksX2_freeFinders_0 23 rfl rfl
theorem dX2_freeFinders_0 : decode cX2_freeFinders 0 = .ok (.iconst 0, 1) := dk_3 (dk_at dksX2_freeFinders_0 0 rfl rfl)
theorem dX2_freeFinders_1 : decode cX2_freeFinders 1 = .ok (.istore_n 1, 1) := dk_60 (dk_at dksX2_freeFinders_0 1 rfl rfl)
theorem dX2_freeFinders_2 : decode cX2_freeFinders 2 = .ok (.iconst 0, 1) := dk_3 (dk_at dksX2_freeFinders_0 2 rfl rfl)
theorem dX2_freeFinders_3 : decode cX2_freeFinders 3 = .ok (.istore_n 2, 1) := dk_61 (dk_at dksX2_freeFinders_0 3 rfl rfl)
theorem dX2_freeFinders_4 : decode cX2_freeFinders 4 = .ok (.iload_n 2, 1) := dk_28 (dk_at dksX2_freeFinders_0 4 rfl rfl)
theorem dX2_freeFinders_5 : decode cX2_freeFinders 5 = .ok (.aload_n 0, 1) := dk_42 (dk_at dksX2_freeFinders_0 5 rfl rfl)
theorem dX2_freeFinders_6 : decode cX2_freeFinders 6 = .ok (.getfield 33, 3) := dk_180 0 33 (dk_at dksX2_freeFinders_0 6 rfl rfl)
theorem dX2_freeFinders_9 : decode cX2_freeFinders 9 = .ok (.arraylength, 1) := dk_190 (dk_at dksX2_freeFinders_0 9 rfl rfl)
theorem dX2_freeFinders_10 : decode cX2_freeFinders 10 = .ok (.if_icmp .ge 28, 3) := dk_162 0 28 (dk_at dksX2_freeFinders_0 10 rfl rfl)
theorem dX2_freeFinders_13 : decode cX2_freeFinders 13 = .ok (.iload_n 1, 1) := dk_27 (dk_at dksX2_freeFinders_0 13 rfl rfl)
theorem dX2_freeFinders_14 : decode cX2_freeFinders 14 = .ok (.aload_n 0, 1) := dk_42 (dk_at dksX2_freeFinders_0 14 rfl rfl)
theorem dX2_freeFinders_15 : decode cX2_freeFinders 15 = .ok (.iload_n 2, 1) := dk_28 (dk_at dksX2_freeFinders_0 15 rfl rfl)
theorem dX2_freeFinders_16 : decode cX2_freeFinders 16 = .ok (.invokevirtual 124, 3) := dk_182 0 124 (dk_at dksX2_freeFinders_0 16 rfl rfl)
theorem dX2_freeFinders_19 : decode cX2_freeFinders 19 = .ok (.ifnonnull 7, 3) := dk_199 0 7 (dk_at dksX2_freeFinders_0 19 rfl rfl)
theorem dX2_freeFinders_22 : decode cX2_freeFinders 22 = .ok (.iconst 1, 1) := dk_4 (dk_at dksX2_freeFinders_0 22 rfl rfl)
theorem dX2_freeFinders_23 : decode cX2_freeFinders 23 = .ok (.goto 4, 3) := dk_167 0 4 (dk_at dksX2_freeFinders_1 0 rfl rfl)
theorem dX2_freeFinders_26 : decode cX2_freeFinders 26 = .ok (.iconst 0, 1) := dk_3 (dk_at dksX2_freeFinders_1 3 rfl rfl)
theorem dX2_freeFinders_27 : decode cX2_freeFinders 27 = .ok (.invokestatic 95, 3) := dk_184 0 95 (dk_at dksX2_freeFinders_1 4 rfl rfl)
theorem dX2_freeFinders_30 : decode cX2_freeFinders 30 = .ok (.iadd, 1) := dk_96 (dk_at dksX2_freeFinders_1 7 rfl rfl)
theorem dX2_freeFinders_31 : decode cX2_freeFinders 31 = .ok (.istore_n 1, 1) := dk_60 (dk_at dksX2_freeFinders_1 8 rfl rfl)
theorem dX2_freeFinders_32 : decode cX2_freeFinders 32 = .ok (.iinc 2 1, 3) := dk_132 2 1 (dk_at dksX2_freeFinders_1 9 rfl rfl)
theorem dX2_freeFinders_35 : decode cX2_freeFinders 35 = .ok (.goto (-31), 3) := dk_167 255 225 (dk_at dksX2_freeFinders_1 12 rfl rfl)
theorem dX2_freeFinders_38 : decode cX2_freeFinders 38 = .ok (.iload_n 1, 1) := dk_27 (dk_at dksX2_freeFinders_1 15 rfl rfl)
theorem dX2_freeFinders_39 : decode cX2_freeFinders 39 = .ok (.ireturn, 1) := dk_172 (dk_at dksX2_freeFinders_1 16 rfl rfl)
abbrev cX2_ropeOf : ByteArray := prog_14_method_10_code
def yX2_ropeOf : MethodName := ⟨RX2, "ropeOf", "(I)LWreckShares$Good;"⟩
def dkwX2_ropeOf_1 : List UInt8 := [184, 0, 113, 182, 0, 119, 153, 0, 9, 42, 28, 182, 0, 54, 176, 132, 2, 1, 167, 255, 216, 1, 176]
abbrev dktX2_ropeOf_1 : List UInt8 := dkwX2_ropeOf_1 ++ []
def dkwX2_ropeOf_0 : List UInt8 := [3, 61, 28, 42, 180, 0, 19, 185, 0, 48, 1, 0, 162, 0, 33, 42, 28, 182, 0, 54, 180, 0, 109, 27]
abbrev dktX2_ropeOf_0 : List UInt8 := dkwX2_ropeOf_0 ++ dktX2_ropeOf_1
theorem dksX2_ropeOf_0 : cX2_ropeOf.data.toList.drop 0 = dktX2_ropeOf_0 := by decide +kernel
theorem dksX2_ropeOf_1 : cX2_ropeOf.data.toList.drop 24 = dktX2_ropeOf_1 := dk_seg dksX2_ropeOf_0 24 rfl rfl
theorem dX2_ropeOf_0 : decode cX2_ropeOf 0 = .ok (.iconst 0, 1) := dk_3 (dk_at dksX2_ropeOf_0 0 rfl rfl)
theorem dX2_ropeOf_1 : decode cX2_ropeOf 1 = .ok (.istore_n 2, 1) := dk_61 (dk_at dksX2_ropeOf_0 1 rfl rfl)
theorem dX2_ropeOf_2 : decode cX2_ropeOf 2 = .ok (.iload_n 2, 1) := dk_28 (dk_at dksX2_ropeOf_0 2 rfl rfl)
theorem dX2_ropeOf_3 : decode cX2_ropeOf 3 = .ok (.aload_n 0, 1) := dk_42 (dk_at dksX2_ropeOf_0 3 rfl rfl)
theorem dX2_ropeOf_4 : decode cX2_ropeOf 4 = .ok (.getfield 19, 3) := dk_180 0 19 (dk_at dksX2_ropeOf_0 4 rfl rfl)
theorem dX2_ropeOf_7 : decode cX2_ropeOf 7 = .ok (.invokeinterface 48 1, 5) := by decide +kernel
theorem dX2_ropeOf_12 : decode cX2_ropeOf 12 = .ok (.if_icmp .ge 33, 3) := dk_162 0 33 (dk_at dksX2_ropeOf_0 12 rfl rfl)
theorem dX2_ropeOf_15 : decode cX2_ropeOf 15 = .ok (.aload_n 0, 1) := dk_42 (dk_at dksX2_ropeOf_0 15 rfl rfl)
theorem dX2_ropeOf_16 : decode cX2_ropeOf 16 = .ok (.iload_n 2, 1) := dk_28 (dk_at dksX2_ropeOf_0 16 rfl rfl)
theorem dX2_ropeOf_17 : decode cX2_ropeOf 17 = .ok (.invokevirtual 54, 3) := dk_182 0 54 (dk_at dksX2_ropeOf_0 17 rfl rfl)
theorem dX2_ropeOf_20 : decode cX2_ropeOf 20 = .ok (.getfield 109, 3) := dk_180 0 109 (dk_at dksX2_ropeOf_0 20 rfl rfl)
theorem dX2_ropeOf_23 : decode cX2_ropeOf 23 = .ok (.iload_n 1, 1) := dk_27 (dk_at dksX2_ropeOf_0 23 rfl rfl)
theorem dX2_ropeOf_24 : decode cX2_ropeOf 24 = .ok (.invokestatic 113, 3) := dk_184 0 113 (dk_at dksX2_ropeOf_1 0 rfl rfl)
theorem dX2_ropeOf_27 : decode cX2_ropeOf 27 = .ok (.invokevirtual 119, 3) := dk_182 0 119 (dk_at dksX2_ropeOf_1 3 rfl rfl)
theorem dX2_ropeOf_30 : decode cX2_ropeOf 30 = .ok (.ifCond .eq 9, 3) := dk_153 0 9 (dk_at dksX2_ropeOf_1 6 rfl rfl)
theorem dX2_ropeOf_33 : decode cX2_ropeOf 33 = .ok (.aload_n 0, 1) := dk_42 (dk_at dksX2_ropeOf_1 9 rfl rfl)
theorem dX2_ropeOf_34 : decode cX2_ropeOf 34 = .ok (.iload_n 2, 1) := dk_28 (dk_at dksX2_ropeOf_1 10 rfl rfl)
theorem dX2_ropeOf_35 : decode cX2_ropeOf 35 = .ok (.invokevirtual 54, 3) := dk_182 0 54 (dk_at dksX2_ropeOf_1 11 rfl rfl)
theorem dX2_ropeOf_38 : decode cX2_ropeOf 38 = .ok (.areturn, 1) := dk_176 (dk_at dksX2_ropeOf_1 14 rfl rfl)
theorem dX2_ropeOf_39 : decode cX2_ropeOf 39 = .ok (.iinc 2 1, 3) := dk_132 2 1 (dk_at dksX2_ropeOf_1 15 rfl rfl)
theorem dX2_ropeOf_42 : decode cX2_ropeOf 42 = .ok (.goto (-40), 3) := dk_167 255 216 (dk_at dksX2_ropeOf_1 18 rfl rfl)
theorem dX2_ropeOf_45 : decode cX2_ropeOf 45 = .ok (.aconst_null, 1) := dk_1 (dk_at dksX2_ropeOf_1 21 rfl rfl)
theorem dX2_ropeOf_46 : decode cX2_ropeOf 46 = .ok (.areturn, 1) := dk_176 (dk_at dksX2_ropeOf_1 22 rfl rfl)
abbrev cX2_letsAll : ByteArray := prog_14_method_14_code
def yX2_letsAll : MethodName := ⟨RX2, "letsAll", "()I"⟩
def dkwX2_letsAll_2 : List UInt8 := [27, 172]
abbrev dktX2_letsAll_2 : List UInt8 := dkwX2_letsAll_2 ++ []
def dkwX2_letsAll_1 : List UInt8 := [167, 0, 4, 3, 184, 0, 95, 96, 60, 132, 2, 1, 167, 255, 225, 27, 154, 0, 8, 16, 254, 167, 0, 4]
abbrev dktX2_letsAll_1 : List UInt8 := dkwX2_letsAll_1 ++ dktX2_letsAll_2
def dkwX2_letsAll_0 : List UInt8 := [3, 60, 3, 61, 28, 42, 180, 0, 33, 190, 162, 0, 28, 27, 42, 28, 182, 0, 127, 155, 0, 7, 4]
abbrev dktX2_letsAll_0 : List UInt8 := dkwX2_letsAll_0 ++ dktX2_letsAll_1
theorem dksX2_letsAll_0 : cX2_letsAll.data.toList.drop 0 = dktX2_letsAll_0 := by decide +kernel
theorem dksX2_letsAll_1 : cX2_letsAll.data.toList.drop 23 = dktX2_letsAll_1 := dk_seg dksX2_letsAll_0 23 rfl rfl
theorem dksX2_letsAll_2 : cX2_letsAll.data.toList.drop 47 = dktX2_letsAll_2 := dk_seg dksX2_letsAll_1 24 rfl rfl
theorem dX2_letsAll_0 : decode cX2_letsAll 0 = .ok (.iconst 0, 1) := dk_3 (dk_at dksX2_letsAll_0 0 rfl rfl)
theorem dX2_letsAll_1 : decode cX2_letsAll 1 = .ok (.istore_n 1, 1) := dk_60 (dk_at dksX2_letsAll_0 1 rfl rfl)
theorem dX2_letsAll_2 : decode cX2_letsAll 2 = .ok (.iconst 0, 1) := dk_3 (dk_at dksX2_letsAll_0 2 rfl rfl)
theorem dX2_letsAll_3 : decode cX2_letsAll 3 = .ok (.istore_n 2, 1) := dk_61 (dk_at dksX2_letsAll_0 3 rfl rfl)
theorem dX2_letsAll_4 : decode cX2_letsAll 4 = .ok (.iload_n 2, 1) := dk_28 (dk_at dksX2_letsAll_0 4 rfl rfl)
theorem dX2_letsAll_5 : decode cX2_letsAll 5 = .ok (.aload_n 0, 1) := dk_42 (dk_at dksX2_letsAll_0 5 rfl rfl)
theorem dX2_letsAll_6 : decode cX2_letsAll 6 = .ok (.getfield 33, 3) := dk_180 0 33 (dk_at dksX2_letsAll_0 6 rfl rfl)
theorem dX2_letsAll_9 : decode cX2_letsAll 9 = .ok (.arraylength, 1) := dk_190 (dk_at dksX2_letsAll_0 9 rfl rfl)
theorem dX2_letsAll_10 : decode cX2_letsAll 10 = .ok (.if_icmp .ge 28, 3) := dk_162 0 28 (dk_at dksX2_letsAll_0 10 rfl rfl)
theorem dX2_letsAll_13 : decode cX2_letsAll 13 = .ok (.iload_n 1, 1) := dk_27 (dk_at dksX2_letsAll_0 13 rfl rfl)
theorem dX2_letsAll_14 : decode cX2_letsAll 14 = .ok (.aload_n 0, 1) := dk_42 (dk_at dksX2_letsAll_0 14 rfl rfl)
theorem dX2_letsAll_15 : decode cX2_letsAll 15 = .ok (.iload_n 2, 1) := dk_28 (dk_at dksX2_letsAll_0 15 rfl rfl)
theorem dX2_letsAll_16 : decode cX2_letsAll 16 = .ok (.invokevirtual 127, 3) := dk_182 0 127 (dk_at dksX2_letsAll_0 16 rfl rfl)
theorem dX2_letsAll_19 : decode cX2_letsAll 19 = .ok (.ifCond .lt 7, 3) := dk_155 0 7 (dk_at dksX2_letsAll_0 19 rfl rfl)
theorem dX2_letsAll_22 : decode cX2_letsAll 22 = .ok (.iconst 1, 1) := dk_4 (dk_at dksX2_letsAll_0 22 rfl rfl)
theorem dX2_letsAll_23 : decode cX2_letsAll 23 = .ok (.goto 4, 3) := dk_167 0 4 (dk_at dksX2_letsAll_1 0 rfl rfl)
theorem dX2_letsAll_26 : decode cX2_letsAll 26 = .ok (.iconst 0, 1) := dk_3 (dk_at dksX2_letsAll_1 3 rfl rfl)
theorem dX2_letsAll_27 : decode cX2_letsAll 27 = .ok (.invokestatic 95, 3) := dk_184 0 95 (dk_at dksX2_letsAll_1 4 rfl rfl)
theorem dX2_letsAll_30 : decode cX2_letsAll 30 = .ok (.iadd, 1) := dk_96 (dk_at dksX2_letsAll_1 7 rfl rfl)
theorem dX2_letsAll_31 : decode cX2_letsAll 31 = .ok (.istore_n 1, 1) := dk_60 (dk_at dksX2_letsAll_1 8 rfl rfl)
theorem dX2_letsAll_32 : decode cX2_letsAll 32 = .ok (.iinc 2 1, 3) := dk_132 2 1 (dk_at dksX2_letsAll_1 9 rfl rfl)
theorem dX2_letsAll_35 : decode cX2_letsAll 35 = .ok (.goto (-31), 3) := dk_167 255 225 (dk_at dksX2_letsAll_1 12 rfl rfl)
theorem dX2_letsAll_38 : decode cX2_letsAll 38 = .ok (.iload_n 1, 1) := dk_27 (dk_at dksX2_letsAll_1 15 rfl rfl)
theorem dX2_letsAll_39 : decode cX2_letsAll 39 = .ok (.ifCond .ne 8, 3) := dk_154 0 8 (dk_at dksX2_letsAll_1 16 rfl rfl)
theorem dX2_letsAll_42 : decode cX2_letsAll 42 = .ok (.bipush (-2), 2) := dk_16 254 (dk_at dksX2_letsAll_1 19 rfl rfl)
theorem dX2_letsAll_44 : decode cX2_letsAll 44 = .ok (.goto 4, 3) := dk_167 0 4 (dk_at dksX2_letsAll_1 21 rfl rfl)
theorem dX2_letsAll_47 : decode cX2_letsAll 47 = .ok (.iload_n 1, 1) := dk_27 (dk_at dksX2_letsAll_2 0 rfl rfl)
theorem dX2_letsAll_48 : decode cX2_letsAll 48 = .ok (.ireturn, 1) := dk_172 (dk_at dksX2_letsAll_2 1 rfl rfl)
abbrev cX2_lets : ByteArray := prog_14_method_13_code
def yX2_lets : MethodName := ⟨RX2, "lets", "(I)I"⟩
def dkwX2_lets_1 : List UInt8 := [62, 44, 180, 0, 138, 172]
abbrev dktX2_lets_1 : List UInt8 := dkwX2_lets_1 ++ []
def dkwX2_lets_0 : List UInt8 := [42, 27, 182, 0, 124, 77, 44, 199, 0, 6, 16, 254, 172, 44, 180, 0, 109, 27, 184, 0, 113, 182, 0, 135]
abbrev dktX2_lets_0 : List UInt8 := dkwX2_lets_0 ++ dktX2_lets_1
theorem dksX2_lets_0 : cX2_lets.data.toList.drop 0 = dktX2_lets_0 := by decide +kernel
theorem dksX2_lets_1 : cX2_lets.data.toList.drop 24 = dktX2_lets_1 := dk_seg dksX2_lets_0 24 rfl rfl
theorem dX2_lets_0 : decode cX2_lets 0 = .ok (.aload_n 0, 1) := dk_42 (dk_at dksX2_lets_0 0 rfl rfl)
theorem dX2_lets_1 : decode cX2_lets 1 = .ok (.iload_n 1, 1) := dk_27 (dk_at dksX2_lets_0 1 rfl rfl)
theorem dX2_lets_2 : decode cX2_lets 2 = .ok (.invokevirtual 124, 3) := dk_182 0 124 (dk_at dksX2_lets_0 2 rfl rfl)
theorem dX2_lets_5 : decode cX2_lets 5 = .ok (.astore_n 2, 1) := dk_77 (dk_at dksX2_lets_0 5 rfl rfl)
theorem dX2_lets_6 : decode cX2_lets 6 = .ok (.aload_n 2, 1) := dk_44 (dk_at dksX2_lets_0 6 rfl rfl)
theorem dX2_lets_7 : decode cX2_lets 7 = .ok (.ifnonnull 6, 3) := dk_199 0 6 (dk_at dksX2_lets_0 7 rfl rfl)
theorem dX2_lets_10 : decode cX2_lets 10 = .ok (.bipush (-2), 2) := dk_16 254 (dk_at dksX2_lets_0 10 rfl rfl)
theorem dX2_lets_12 : decode cX2_lets 12 = .ok (.ireturn, 1) := dk_172 (dk_at dksX2_lets_0 12 rfl rfl)
theorem dX2_lets_13 : decode cX2_lets 13 = .ok (.aload_n 2, 1) := dk_44 (dk_at dksX2_lets_0 13 rfl rfl)
theorem dX2_lets_14 : decode cX2_lets 14 = .ok (.getfield 109, 3) := dk_180 0 109 (dk_at dksX2_lets_0 14 rfl rfl)
theorem dX2_lets_17 : decode cX2_lets 17 = .ok (.iload_n 1, 1) := dk_27 (dk_at dksX2_lets_0 17 rfl rfl)
theorem dX2_lets_18 : decode cX2_lets 18 = .ok (.invokestatic 113, 3) := dk_184 0 113 (dk_at dksX2_lets_0 18 rfl rfl)
theorem dX2_lets_21 : decode cX2_lets 21 = .ok (.invokevirtual 135, 3) := dk_182 0 135 (dk_at dksX2_lets_0 21 rfl rfl)
theorem dX2_lets_24 : decode cX2_lets 24 = .ok (.istore_n 3, 1) := dk_62 (dk_at dksX2_lets_1 0 rfl rfl)
theorem dX2_lets_25 : decode cX2_lets 25 = .ok (.aload_n 2, 1) := dk_44 (dk_at dksX2_lets_1 1 rfl rfl)
theorem dX2_lets_26 : decode cX2_lets 26 = .ok (.getfield 138, 3) := dk_180 0 138 (dk_at dksX2_lets_1 2 rfl rfl)
theorem dX2_lets_29 : decode cX2_lets 29 = .ok (.ireturn, 1) := dk_172 (dk_at dksX2_lets_1 5 rfl rfl)
abbrev cX2_copy : ByteArray := prog_14_method_3_code
def yX2_copy : MethodName := ⟨RX2, "copy", "()LWreckShares$Shore;"⟩
def dkwX2_copy_4 : List UInt8 := [181, 0, 68, 43, 42, 180, 0, 71, 181, 0, 71, 43, 176]
abbrev dktX2_copy_4 : List UInt8 := dkwX2_copy_4 ++ []
def dkwX2_copy_3 : List UInt8 := [28, 182, 0, 54, 182, 0, 58, 185, 0, 64, 2, 0, 62, 132, 2, 1, 167, 255, 222, 43, 42, 180, 0, 68]
abbrev dktX2_copy_3 : List UInt8 := dkwX2_copy_3 ++ dktX2_copy_4
def dkwX2_copy_2 : List UInt8 := [183, 0, 3, 76, 3, 61, 28, 42, 180, 0, 19, 185, 0, 48, 1, 0, 162, 0, 27, 43, 180, 0, 19, 42]
abbrev dktX2_copy_2 : List UInt8 := dkwX2_copy_2 ++ dktX2_copy_3
def dkwX2_copy_1 : List UInt8 := [192, 0, 44, 42, 180, 0, 37, 182, 0, 43, 192, 0, 44, 42, 180, 0, 40, 182, 0, 43, 192, 0, 44]
abbrev dktX2_copy_1 : List UInt8 := dkwX2_copy_1 ++ dktX2_copy_2
def dkwX2_copy_0 : List UInt8 := [187, 0, 4, 89, 42, 180, 0, 23, 42, 180, 0, 27, 42, 180, 0, 30, 42, 180, 0, 33, 182, 0, 43]
abbrev dktX2_copy_0 : List UInt8 := dkwX2_copy_0 ++ dktX2_copy_1
theorem dksX2_copy_0 : cX2_copy.data.toList.drop 0 = dktX2_copy_0 := by decide +kernel
theorem dksX2_copy_1 : cX2_copy.data.toList.drop 23 = dktX2_copy_1 := dk_seg dksX2_copy_0 23 rfl rfl
theorem dksX2_copy_2 : cX2_copy.data.toList.drop 46 = dktX2_copy_2 := dk_seg dksX2_copy_1 23 rfl rfl
theorem dksX2_copy_3 : cX2_copy.data.toList.drop 70 = dktX2_copy_3 := dk_seg dksX2_copy_2 24 rfl rfl
theorem dksX2_copy_4 : cX2_copy.data.toList.drop 94 = dktX2_copy_4 := dk_seg dksX2_copy_3 24 rfl rfl
theorem dX2_copy_0 : decode cX2_copy 0 = .ok (.new 4, 3) := dk_187 0 4 (dk_at dksX2_copy_0 0 rfl rfl)
theorem dX2_copy_3 : decode cX2_copy 3 = .ok (.dup, 1) := dk_89 (dk_at dksX2_copy_0 3 rfl rfl)
theorem dX2_copy_4 : decode cX2_copy 4 = .ok (.aload_n 0, 1) := dk_42 (dk_at dksX2_copy_0 4 rfl rfl)
theorem dX2_copy_5 : decode cX2_copy 5 = .ok (.getfield 23, 3) := dk_180 0 23 (dk_at dksX2_copy_0 5 rfl rfl)
theorem dX2_copy_8 : decode cX2_copy 8 = .ok (.aload_n 0, 1) := dk_42 (dk_at dksX2_copy_0 8 rfl rfl)
theorem dX2_copy_9 : decode cX2_copy 9 = .ok (.getfield 27, 3) := dk_180 0 27 (dk_at dksX2_copy_0 9 rfl rfl)
theorem dX2_copy_12 : decode cX2_copy 12 = .ok (.aload_n 0, 1) := dk_42 (dk_at dksX2_copy_0 12 rfl rfl)
theorem dX2_copy_13 : decode cX2_copy 13 = .ok (.getfield 30, 3) := dk_180 0 30 (dk_at dksX2_copy_0 13 rfl rfl)
theorem dX2_copy_16 : decode cX2_copy 16 = .ok (.aload_n 0, 1) := dk_42 (dk_at dksX2_copy_0 16 rfl rfl)
theorem dX2_copy_17 : decode cX2_copy 17 = .ok (.getfield 33, 3) := dk_180 0 33 (dk_at dksX2_copy_0 17 rfl rfl)
theorem dX2_copy_20 : decode cX2_copy 20 = .ok (.invokevirtual 43, 3) := dk_182 0 43 (dk_at dksX2_copy_0 20 rfl rfl)
theorem dX2_copy_23 : decode cX2_copy 23 = .ok (.checkcast 44, 3) := dk_192 0 44 (dk_at dksX2_copy_1 0 rfl rfl)
theorem dX2_copy_26 : decode cX2_copy 26 = .ok (.aload_n 0, 1) := dk_42 (dk_at dksX2_copy_1 3 rfl rfl)
theorem dX2_copy_27 : decode cX2_copy 27 = .ok (.getfield 37, 3) := dk_180 0 37 (dk_at dksX2_copy_1 4 rfl rfl)
theorem dX2_copy_30 : decode cX2_copy 30 = .ok (.invokevirtual 43, 3) := dk_182 0 43 (dk_at dksX2_copy_1 7 rfl rfl)
theorem dX2_copy_33 : decode cX2_copy 33 = .ok (.checkcast 44, 3) := dk_192 0 44 (dk_at dksX2_copy_1 10 rfl rfl)
theorem dX2_copy_36 : decode cX2_copy 36 = .ok (.aload_n 0, 1) := dk_42 (dk_at dksX2_copy_1 13 rfl rfl)
theorem dX2_copy_37 : decode cX2_copy 37 = .ok (.getfield 40, 3) := dk_180 0 40 (dk_at dksX2_copy_1 14 rfl rfl)
theorem dX2_copy_40 : decode cX2_copy 40 = .ok (.invokevirtual 43, 3) := dk_182 0 43 (dk_at dksX2_copy_1 17 rfl rfl)
theorem dX2_copy_43 : decode cX2_copy 43 = .ok (.checkcast 44, 3) := dk_192 0 44 (dk_at dksX2_copy_1 20 rfl rfl)
theorem dX2_copy_46 : decode cX2_copy 46 = .ok (.invokespecial 3, 3) := dk_183 0 3 (dk_at dksX2_copy_2 0 rfl rfl)
theorem dX2_copy_49 : decode cX2_copy 49 = .ok (.astore_n 1, 1) := dk_76 (dk_at dksX2_copy_2 3 rfl rfl)
theorem dX2_copy_50 : decode cX2_copy 50 = .ok (.iconst 0, 1) := dk_3 (dk_at dksX2_copy_2 4 rfl rfl)
theorem dX2_copy_51 : decode cX2_copy 51 = .ok (.istore_n 2, 1) := dk_61 (dk_at dksX2_copy_2 5 rfl rfl)
theorem dX2_copy_52 : decode cX2_copy 52 = .ok (.iload_n 2, 1) := dk_28 (dk_at dksX2_copy_2 6 rfl rfl)
theorem dX2_copy_53 : decode cX2_copy 53 = .ok (.aload_n 0, 1) := dk_42 (dk_at dksX2_copy_2 7 rfl rfl)
theorem dX2_copy_54 : decode cX2_copy 54 = .ok (.getfield 19, 3) := dk_180 0 19 (dk_at dksX2_copy_2 8 rfl rfl)
theorem dX2_copy_57 : decode cX2_copy 57 = .ok (.invokeinterface 48 1, 5) := by decide +kernel
theorem dX2_copy_62 : decode cX2_copy 62 = .ok (.if_icmp .ge 27, 3) := dk_162 0 27 (dk_at dksX2_copy_2 16 rfl rfl)
theorem dX2_copy_65 : decode cX2_copy 65 = .ok (.aload_n 1, 1) := dk_43 (dk_at dksX2_copy_2 19 rfl rfl)
theorem dX2_copy_66 : decode cX2_copy 66 = .ok (.getfield 19, 3) := dk_180 0 19 (dk_at dksX2_copy_2 20 rfl rfl)
theorem dX2_copy_69 : decode cX2_copy 69 = .ok (.aload_n 0, 1) := dk_42 (dk_at dksX2_copy_2 23 rfl rfl)
theorem dX2_copy_70 : decode cX2_copy 70 = .ok (.iload_n 2, 1) := dk_28 (dk_at dksX2_copy_3 0 rfl rfl)
theorem dX2_copy_71 : decode cX2_copy 71 = .ok (.invokevirtual 54, 3) := dk_182 0 54 (dk_at dksX2_copy_3 1 rfl rfl)
theorem dX2_copy_74 : decode cX2_copy 74 = .ok (.invokevirtual 58, 3) := dk_182 0 58 (dk_at dksX2_copy_3 4 rfl rfl)
theorem dX2_copy_77 : decode cX2_copy 77 = .ok (.invokeinterface 64 2, 5) := by decide +kernel
theorem dX2_copy_82 : decode cX2_copy 82 = .ok (.istore_n 3, 1) := dk_62 (dk_at dksX2_copy_3 12 rfl rfl)
theorem dX2_copy_83 : decode cX2_copy 83 = .ok (.iinc 2 1, 3) := dk_132 2 1 (dk_at dksX2_copy_3 13 rfl rfl)
theorem dX2_copy_86 : decode cX2_copy 86 = .ok (.goto (-34), 3) := dk_167 255 222 (dk_at dksX2_copy_3 16 rfl rfl)
theorem dX2_copy_89 : decode cX2_copy 89 = .ok (.aload_n 1, 1) := dk_43 (dk_at dksX2_copy_3 19 rfl rfl)
theorem dX2_copy_90 : decode cX2_copy 90 = .ok (.aload_n 0, 1) := dk_42 (dk_at dksX2_copy_3 20 rfl rfl)
theorem dX2_copy_91 : decode cX2_copy 91 = .ok (.getfield 68, 3) := dk_180 0 68 (dk_at dksX2_copy_3 21 rfl rfl)
theorem dX2_copy_94 : decode cX2_copy 94 = .ok (.putfield 68, 3) := dk_181 0 68 (dk_at dksX2_copy_4 0 rfl rfl)
theorem dX2_copy_97 : decode cX2_copy 97 = .ok (.aload_n 1, 1) := dk_43 (dk_at dksX2_copy_4 3 rfl rfl)
theorem dX2_copy_98 : decode cX2_copy 98 = .ok (.aload_n 0, 1) := dk_42 (dk_at dksX2_copy_4 4 rfl rfl)
theorem dX2_copy_99 : decode cX2_copy 99 = .ok (.getfield 71, 3) := dk_180 0 71 (dk_at dksX2_copy_4 5 rfl rfl)
theorem dX2_copy_102 : decode cX2_copy 102 = .ok (.putfield 71, 3) := dk_181 0 71 (dk_at dksX2_copy_4 8 rfl rfl)
theorem dX2_copy_105 : decode cX2_copy 105 = .ok (.aload_n 1, 1) := dk_43 (dk_at dksX2_copy_4 11 rfl rfl)
theorem dX2_copy_106 : decode cX2_copy 106 = .ok (.areturn, 1) := dk_176 (dk_at dksX2_copy_4 12 rfl rfl)
abbrev cX2_dividesAll : ByteArray := prog_14_method_22_code
def yX2_dividesAll : MethodName := ⟨RX2, "dividesAll", "()I"⟩
def dkwX2_dividesAll_2 : List UInt8 := [154, 0, 8, 16, 254, 167, 0, 4, 27, 172]
abbrev dktX2_dividesAll_2 : List UInt8 := dkwX2_dividesAll_2 ++ []
def dkwX2_dividesAll_1 : List UInt8 := [182, 0, 218, 155, 0, 7, 4, 167, 0, 4, 3, 184, 0, 95, 96, 60, 132, 2, 1, 167, 255, 217, 27]
abbrev dktX2_dividesAll_1 : List UInt8 := dkwX2_dividesAll_1 ++ dktX2_dividesAll_2
def dkwX2_dividesAll_0 : List UInt8 := [3, 60, 3, 61, 28, 42, 180, 0, 19, 185, 0, 48, 1, 0, 162, 0, 32, 27, 42, 42, 28, 182, 0, 54]
abbrev dktX2_dividesAll_0 : List UInt8 := dkwX2_dividesAll_0 ++ dktX2_dividesAll_1
theorem dksX2_dividesAll_0 : cX2_dividesAll.data.toList.drop 0 = dktX2_dividesAll_0 := by decide +kernel
theorem dksX2_dividesAll_1 : cX2_dividesAll.data.toList.drop 24 = dktX2_dividesAll_1 := dk_seg dksX2_dividesAll_0 24 rfl rfl
theorem dksX2_dividesAll_2 : cX2_dividesAll.data.toList.drop 47 = dktX2_dividesAll_2 := dk_seg dksX2_dividesAll_1 23 rfl rfl
theorem dX2_dividesAll_0 : decode cX2_dividesAll 0 = .ok (.iconst 0, 1) := dk_3 (dk_at dksX2_dividesAll_0 0 rfl rfl)
theorem dX2_dividesAll_1 : decode cX2_dividesAll 1 = .ok (.istore_n 1, 1) := dk_60 (dk_at dksX2_dividesAll_0 1 rfl rfl)
theorem dX2_dividesAll_2 : decode cX2_dividesAll 2 = .ok (.iconst 0, 1) := dk_3 (dk_at dksX2_dividesAll_0 2 rfl rfl)
theorem dX2_dividesAll_3 : decode cX2_dividesAll 3 = .ok (.istore_n 2, 1) := dk_61 (dk_at dksX2_dividesAll_0 3 rfl rfl)
theorem dX2_dividesAll_4 : decode cX2_dividesAll 4 = .ok (.iload_n 2, 1) := dk_28 (dk_at dksX2_dividesAll_0 4 rfl rfl)
theorem dX2_dividesAll_5 : decode cX2_dividesAll 5 = .ok (.aload_n 0, 1) := dk_42 (dk_at dksX2_dividesAll_0 5 rfl rfl)
theorem dX2_dividesAll_6 : decode cX2_dividesAll 6 = .ok (.getfield 19, 3) := dk_180 0 19 (dk_at dksX2_dividesAll_0 6 rfl rfl)
theorem dX2_dividesAll_9 : decode cX2_dividesAll 9 = .ok (.invokeinterface 48 1, 5) := by decide +kernel
theorem dX2_dividesAll_14 : decode cX2_dividesAll 14 = .ok (.if_icmp .ge 32, 3) := dk_162 0 32 (dk_at dksX2_dividesAll_0 14 rfl rfl)
theorem dX2_dividesAll_17 : decode cX2_dividesAll 17 = .ok (.iload_n 1, 1) := dk_27 (dk_at dksX2_dividesAll_0 17 rfl rfl)
theorem dX2_dividesAll_18 : decode cX2_dividesAll 18 = .ok (.aload_n 0, 1) := dk_42 (dk_at dksX2_dividesAll_0 18 rfl rfl)
theorem dX2_dividesAll_19 : decode cX2_dividesAll 19 = .ok (.aload_n 0, 1) := dk_42 (dk_at dksX2_dividesAll_0 19 rfl rfl)
theorem dX2_dividesAll_20 : decode cX2_dividesAll 20 = .ok (.iload_n 2, 1) := dk_28 (dk_at dksX2_dividesAll_0 20 rfl rfl)
theorem dX2_dividesAll_21 : decode cX2_dividesAll 21 = .ok (.invokevirtual 54, 3) := dk_182 0 54 (dk_at dksX2_dividesAll_0 21 rfl rfl)
theorem dX2_dividesAll_24 : decode cX2_dividesAll 24 = .ok (.invokevirtual 218, 3) := dk_182 0 218 (dk_at dksX2_dividesAll_1 0 rfl rfl)
theorem dX2_dividesAll_27 : decode cX2_dividesAll 27 = .ok (.ifCond .lt 7, 3) := dk_155 0 7 (dk_at dksX2_dividesAll_1 3 rfl rfl)
theorem dX2_dividesAll_30 : decode cX2_dividesAll 30 = .ok (.iconst 1, 1) := dk_4 (dk_at dksX2_dividesAll_1 6 rfl rfl)
theorem dX2_dividesAll_31 : decode cX2_dividesAll 31 = .ok (.goto 4, 3) := dk_167 0 4 (dk_at dksX2_dividesAll_1 7 rfl rfl)
theorem dX2_dividesAll_34 : decode cX2_dividesAll 34 = .ok (.iconst 0, 1) := dk_3 (dk_at dksX2_dividesAll_1 10 rfl rfl)
theorem dX2_dividesAll_35 : decode cX2_dividesAll 35 = .ok (.invokestatic 95, 3) := dk_184 0 95 (dk_at dksX2_dividesAll_1 11 rfl rfl)
theorem dX2_dividesAll_38 : decode cX2_dividesAll 38 = .ok (.iadd, 1) := dk_96 (dk_at dksX2_dividesAll_1 14 rfl rfl)
theorem dX2_dividesAll_39 : decode cX2_dividesAll 39 = .ok (.istore_n 1, 1) := dk_60 (dk_at dksX2_dividesAll_1 15 rfl rfl)
theorem dX2_dividesAll_40 : decode cX2_dividesAll 40 = .ok (.iinc 2 1, 3) := dk_132 2 1 (dk_at dksX2_dividesAll_1 16 rfl rfl)
theorem dX2_dividesAll_43 : decode cX2_dividesAll 43 = .ok (.goto (-39), 3) := dk_167 255 217 (dk_at dksX2_dividesAll_1 19 rfl rfl)
theorem dX2_dividesAll_46 : decode cX2_dividesAll 46 = .ok (.iload_n 1, 1) := dk_27 (dk_at dksX2_dividesAll_1 22 rfl rfl)
theorem dX2_dividesAll_47 : decode cX2_dividesAll 47 = .ok (.ifCond .ne 8, 3) := dk_154 0 8 (dk_at dksX2_dividesAll_2 0 rfl rfl)
theorem dX2_dividesAll_50 : decode cX2_dividesAll 50 = .ok (.bipush (-2), 2) := dk_16 254 (dk_at dksX2_dividesAll_2 3 rfl rfl)
theorem dX2_dividesAll_52 : decode cX2_dividesAll 52 = .ok (.goto 4, 3) := dk_167 0 4 (dk_at dksX2_dividesAll_2 5 rfl rfl)
theorem dX2_dividesAll_55 : decode cX2_dividesAll 55 = .ok (.iload_n 1, 1) := dk_27 (dk_at dksX2_dividesAll_2 8 rfl rfl)
theorem dX2_dividesAll_56 : decode cX2_dividesAll 56 = .ok (.ireturn, 1) := dk_172 (dk_at dksX2_dividesAll_2 9 rfl rfl)
abbrev cX2_divides : ByteArray := prog_14_method_21_code
def yX2_divides : MethodName := ⟨RX2, "divides", "(LWreckShares$Good;)I"⟩
def dkwX2_divides_4 : List UInt8 := [180, 0, 151, 190, 182, 0, 213, 96, 79, 43, 43, 180, 0, 166, 182, 0, 216, 172]
abbrev dktX2_divides_4 : List UInt8 := dkwX2_divides_4 ++ []
def dkwX2_divides_3 : List UInt8 := [180, 0, 40, 6, 92, 46, 43, 180, 0, 160, 96, 79, 42, 180, 0, 40, 16, 7, 92, 46, 43, 43]
abbrev dktX2_divides_3 : List UInt8 := dkwX2_divides_3 ++ dktX2_divides_4
def dkwX2_divides_2 : List UInt8 := [182, 0, 209, 167, 255, 230, 43, 5, 181, 0, 99, 42, 180, 0, 40, 5, 92, 46, 4, 96, 79, 42]
abbrev dktX2_divides_2 : List UInt8 := dkwX2_divides_2 ++ dktX2_divides_3
def dkwX2_divides_1 : List UInt8 := [185, 0, 198, 1, 0, 153, 0, 23, 45, 185, 0, 204, 1, 0, 192, 0, 207, 58, 4, 42, 25, 4]
abbrev dktX2_divides_1 : List UInt8 := dkwX2_divides_1 ++ dktX2_divides_2
def dkwX2_divides_0 : List UInt8 := [42, 43, 182, 0, 187, 61, 28, 156, 0, 5, 28, 172, 43, 182, 0, 190, 185, 0, 194, 1, 0, 78, 45]
abbrev dktX2_divides_0 : List UInt8 := dkwX2_divides_0 ++ dktX2_divides_1
theorem dksX2_divides_0 : cX2_divides.data.toList.drop 0 = dktX2_divides_0 := by decide +kernel
theorem dksX2_divides_1 : cX2_divides.data.toList.drop 23 = dktX2_divides_1 := dk_seg dksX2_divides_0 23 rfl rfl
theorem dksX2_divides_2 : cX2_divides.data.toList.drop 45 = dktX2_divides_2 := dk_seg dksX2_divides_1 22 rfl rfl
theorem dksX2_divides_3 : cX2_divides.data.toList.drop 67 = dktX2_divides_3 := dk_seg dksX2_divides_2 22 rfl rfl
theorem dksX2_divides_4 : cX2_divides.data.toList.drop 89 = dktX2_divides_4 := dk_seg dksX2_divides_3 22 rfl rfl
theorem dX2_divides_0 : decode cX2_divides 0 = .ok (.aload_n 0, 1) := dk_42 (dk_at dksX2_divides_0 0 rfl rfl)
theorem dX2_divides_1 : decode cX2_divides 1 = .ok (.aload_n 1, 1) := dk_43 (dk_at dksX2_divides_0 1 rfl rfl)
theorem dX2_divides_2 : decode cX2_divides 2 = .ok (.invokevirtual 187, 3) := dk_182 0 187 (dk_at dksX2_divides_0 2 rfl rfl)
theorem dX2_divides_5 : decode cX2_divides 5 = .ok (.istore_n 2, 1) := dk_61 (dk_at dksX2_divides_0 5 rfl rfl)
theorem dX2_divides_6 : decode cX2_divides 6 = .ok (.iload_n 2, 1) := dk_28 (dk_at dksX2_divides_0 6 rfl rfl)
theorem dX2_divides_7 : decode cX2_divides 7 = .ok (.ifCond .ge 5, 3) := dk_156 0 5 (dk_at dksX2_divides_0 7 rfl rfl)
theorem dX2_divides_10 : decode cX2_divides 10 = .ok (.iload_n 2, 1) := dk_28 (dk_at dksX2_divides_0 10 rfl rfl)
theorem dX2_divides_11 : decode cX2_divides 11 = .ok (.ireturn, 1) := dk_172 (dk_at dksX2_divides_0 11 rfl rfl)
theorem dX2_divides_12 : decode cX2_divides 12 = .ok (.aload_n 1, 1) := dk_43 (dk_at dksX2_divides_0 12 rfl rfl)
theorem dX2_divides_13 : decode cX2_divides 13 = .ok (.invokevirtual 190, 3) := dk_182 0 190 (dk_at dksX2_divides_0 13 rfl rfl)
theorem dX2_divides_16 : decode cX2_divides 16 = .ok (.invokeinterface 194 1, 5) := by decide +kernel
theorem dX2_divides_21 : decode cX2_divides 21 = .ok (.astore_n 3, 1) := dk_78 (dk_at dksX2_divides_0 21 rfl rfl)
theorem dX2_divides_22 : decode cX2_divides 22 = .ok (.aload_n 3, 1) := dk_45 (dk_at dksX2_divides_0 22 rfl rfl)
theorem dX2_divides_23 : decode cX2_divides 23 = .ok (.invokeinterface 198 1, 5) := by decide +kernel
theorem dX2_divides_28 : decode cX2_divides 28 = .ok (.ifCond .eq 23, 3) := dk_153 0 23 (dk_at dksX2_divides_1 5 rfl rfl)
theorem dX2_divides_31 : decode cX2_divides 31 = .ok (.aload_n 3, 1) := dk_45 (dk_at dksX2_divides_1 8 rfl rfl)
theorem dX2_divides_32 : decode cX2_divides 32 = .ok (.invokeinterface 204 1, 5) := by decide +kernel
theorem dX2_divides_37 : decode cX2_divides 37 = .ok (.checkcast 207, 3) := dk_192 0 207 (dk_at dksX2_divides_1 14 rfl rfl)
theorem dX2_divides_40 : decode cX2_divides 40 = .ok (.astore 4, 2) := dk_58 4 (dk_at dksX2_divides_1 17 rfl rfl)
theorem dX2_divides_42 : decode cX2_divides 42 = .ok (.aload_n 0, 1) := dk_42 (dk_at dksX2_divides_1 19 rfl rfl)
theorem dX2_divides_43 : decode cX2_divides 43 = .ok (.aload 4, 2) := dk_25 4 (dk_at dksX2_divides_1 20 rfl rfl)
theorem dX2_divides_45 : decode cX2_divides 45 = .ok (.invokevirtual 209, 3) := dk_182 0 209 (dk_at dksX2_divides_2 0 rfl rfl)
theorem dX2_divides_48 : decode cX2_divides 48 = .ok (.goto (-26), 3) := dk_167 255 230 (dk_at dksX2_divides_2 3 rfl rfl)
theorem dX2_divides_51 : decode cX2_divides 51 = .ok (.aload_n 1, 1) := dk_43 (dk_at dksX2_divides_2 6 rfl rfl)
theorem dX2_divides_52 : decode cX2_divides 52 = .ok (.iconst 2, 1) := dk_5 (dk_at dksX2_divides_2 7 rfl rfl)
theorem dX2_divides_53 : decode cX2_divides 53 = .ok (.putfield 99, 3) := dk_181 0 99 (dk_at dksX2_divides_2 8 rfl rfl)
theorem dX2_divides_56 : decode cX2_divides 56 = .ok (.aload_n 0, 1) := dk_42 (dk_at dksX2_divides_2 11 rfl rfl)
theorem dX2_divides_57 : decode cX2_divides 57 = .ok (.getfield 40, 3) := dk_180 0 40 (dk_at dksX2_divides_2 12 rfl rfl)
theorem dX2_divides_60 : decode cX2_divides 60 = .ok (.iconst 2, 1) := dk_5 (dk_at dksX2_divides_2 15 rfl rfl)
theorem dX2_divides_61 : decode cX2_divides 61 = .ok (.dup2, 1) := dk_92 (dk_at dksX2_divides_2 16 rfl rfl)
theorem dX2_divides_62 : decode cX2_divides 62 = .ok (.iaload, 1) := dk_46 (dk_at dksX2_divides_2 17 rfl rfl)
theorem dX2_divides_63 : decode cX2_divides 63 = .ok (.iconst 1, 1) := dk_4 (dk_at dksX2_divides_2 18 rfl rfl)
theorem dX2_divides_64 : decode cX2_divides 64 = .ok (.iadd, 1) := dk_96 (dk_at dksX2_divides_2 19 rfl rfl)
theorem dX2_divides_65 : decode cX2_divides 65 = .ok (.iastore, 1) := dk_79 (dk_at dksX2_divides_2 20 rfl rfl)
theorem dX2_divides_66 : decode cX2_divides 66 = .ok (.aload_n 0, 1) := dk_42 (dk_at dksX2_divides_2 21 rfl rfl)
theorem dX2_divides_67 : decode cX2_divides 67 = .ok (.getfield 40, 3) := dk_180 0 40 (dk_at dksX2_divides_3 0 rfl rfl)
theorem dX2_divides_70 : decode cX2_divides 70 = .ok (.iconst 3, 1) := dk_6 (dk_at dksX2_divides_3 3 rfl rfl)
theorem dX2_divides_71 : decode cX2_divides 71 = .ok (.dup2, 1) := dk_92 (dk_at dksX2_divides_3 4 rfl rfl)
theorem dX2_divides_72 : decode cX2_divides 72 = .ok (.iaload, 1) := dk_46 (dk_at dksX2_divides_3 5 rfl rfl)
theorem dX2_divides_73 : decode cX2_divides 73 = .ok (.aload_n 1, 1) := dk_43 (dk_at dksX2_divides_3 6 rfl rfl)
theorem dX2_divides_74 : decode cX2_divides 74 = .ok (.getfield 160, 3) := dk_180 0 160 (dk_at dksX2_divides_3 7 rfl rfl)
theorem dX2_divides_77 : decode cX2_divides 77 = .ok (.iadd, 1) := dk_96 (dk_at dksX2_divides_3 10 rfl rfl)
theorem dX2_divides_78 : decode cX2_divides 78 = .ok (.iastore, 1) := dk_79 (dk_at dksX2_divides_3 11 rfl rfl)
theorem dX2_divides_79 : decode cX2_divides 79 = .ok (.aload_n 0, 1) := dk_42 (dk_at dksX2_divides_3 12 rfl rfl)
theorem dX2_divides_80 : decode cX2_divides 80 = .ok (.getfield 40, 3) := dk_180 0 40 (dk_at dksX2_divides_3 13 rfl rfl)
theorem dX2_divides_83 : decode cX2_divides 83 = .ok (.bipush 7, 2) := dk_16 7 (dk_at dksX2_divides_3 16 rfl rfl)
theorem dX2_divides_85 : decode cX2_divides 85 = .ok (.dup2, 1) := dk_92 (dk_at dksX2_divides_3 18 rfl rfl)
theorem dX2_divides_86 : decode cX2_divides 86 = .ok (.iaload, 1) := dk_46 (dk_at dksX2_divides_3 19 rfl rfl)
theorem dX2_divides_87 : decode cX2_divides 87 = .ok (.aload_n 1, 1) := dk_43 (dk_at dksX2_divides_3 20 rfl rfl)
theorem dX2_divides_88 : decode cX2_divides 88 = .ok (.aload_n 1, 1) := dk_43 (dk_at dksX2_divides_3 21 rfl rfl)
theorem dX2_divides_89 : decode cX2_divides 89 = .ok (.getfield 151, 3) := dk_180 0 151 (dk_at dksX2_divides_4 0 rfl rfl)
theorem dX2_divides_92 : decode cX2_divides 92 = .ok (.arraylength, 1) := dk_190 (dk_at dksX2_divides_4 3 rfl rfl)
theorem dX2_divides_93 : decode cX2_divides 93 = .ok (.invokevirtual 213, 3) := dk_182 0 213 (dk_at dksX2_divides_4 4 rfl rfl)
theorem dX2_divides_96 : decode cX2_divides 96 = .ok (.iadd, 1) := dk_96 (dk_at dksX2_divides_4 7 rfl rfl)
theorem dX2_divides_97 : decode cX2_divides 97 = .ok (.iastore, 1) := dk_79 (dk_at dksX2_divides_4 8 rfl rfl)
theorem dX2_divides_98 : decode cX2_divides 98 = .ok (.aload_n 1, 1) := dk_43 (dk_at dksX2_divides_4 9 rfl rfl)
theorem dX2_divides_99 : decode cX2_divides 99 = .ok (.aload_n 1, 1) := dk_43 (dk_at dksX2_divides_4 10 rfl rfl)
theorem dX2_divides_100 : decode cX2_divides 100 = .ok (.getfield 166, 3) := dk_180 0 166 (dk_at dksX2_divides_4 11 rfl rfl)
theorem dX2_divides_103 : decode cX2_divides 103 = .ok (.invokevirtual 216, 3) := dk_182 0 216 (dk_at dksX2_divides_4 14 rfl rfl)
theorem dX2_divides_106 : decode cX2_divides 106 = .ok (.ireturn, 1) := dk_172 (dk_at dksX2_divides_4 17 rfl rfl)
abbrev cX2_divisionRefusal : ByteArray := prog_14_method_19_code
def yX2_divisionRefusal : MethodName := ⟨RX2, "divisionRefusal", "(LWreckShares$Good;)I"⟩
def dkwX2_divisionRefusal_1 : List UInt8 := [180, 0, 157, 164, 0, 7, 3, 167, 0, 5, 16, 253, 172]
abbrev dktX2_divisionRefusal_1 : List UInt8 := dkwX2_divisionRefusal_1 ++ []
def dkwX2_divisionRefusal_0 : List UInt8 := [43, 180, 0, 99, 4, 159, 0, 6, 16, 254, 172, 43, 180, 0, 166, 154, 0, 14, 42, 180, 0, 68, 43]
abbrev dktX2_divisionRefusal_0 : List UInt8 := dkwX2_divisionRefusal_0 ++ dktX2_divisionRefusal_1
theorem dksX2_divisionRefusal_0 : cX2_divisionRefusal.data.toList.drop 0 = dktX2_divisionRefusal_0 := by decide +kernel
theorem dksX2_divisionRefusal_1 : cX2_divisionRefusal.data.toList.drop 23 = dktX2_divisionRefusal_1 := dk_seg dksX2_divisionRefusal_0 23 rfl rfl
theorem dX2_divisionRefusal_0 : decode cX2_divisionRefusal 0 = .ok (.aload_n 1, 1) := dk_43 (dk_at dksX2_divisionRefusal_0 0 rfl rfl)
theorem dX2_divisionRefusal_1 : decode cX2_divisionRefusal 1 = .ok (.getfield 99, 3) := dk_180 0 99 (dk_at dksX2_divisionRefusal_0 1 rfl rfl)
theorem dX2_divisionRefusal_4 : decode cX2_divisionRefusal 4 = .ok (.iconst 1, 1) := dk_4 (dk_at dksX2_divisionRefusal_0 4 rfl rfl)
theorem dX2_divisionRefusal_5 : decode cX2_divisionRefusal 5 = .ok (.if_icmp .eq 6, 3) := dk_159 0 6 (dk_at dksX2_divisionRefusal_0 5 rfl rfl)
theorem dX2_divisionRefusal_8 : decode cX2_divisionRefusal 8 = .ok (.bipush (-2), 2) := dk_16 254 (dk_at dksX2_divisionRefusal_0 8 rfl rfl)
theorem dX2_divisionRefusal_10 : decode cX2_divisionRefusal 10 = .ok (.ireturn, 1) := dk_172 (dk_at dksX2_divisionRefusal_0 10 rfl rfl)
theorem dX2_divisionRefusal_11 : decode cX2_divisionRefusal 11 = .ok (.aload_n 1, 1) := dk_43 (dk_at dksX2_divisionRefusal_0 11 rfl rfl)
theorem dX2_divisionRefusal_12 : decode cX2_divisionRefusal 12 = .ok (.getfield 166, 3) := dk_180 0 166 (dk_at dksX2_divisionRefusal_0 12 rfl rfl)
theorem dX2_divisionRefusal_15 : decode cX2_divisionRefusal 15 = .ok (.ifCond .ne 14, 3) := dk_154 0 14 (dk_at dksX2_divisionRefusal_0 15 rfl rfl)
theorem dX2_divisionRefusal_18 : decode cX2_divisionRefusal 18 = .ok (.aload_n 0, 1) := dk_42 (dk_at dksX2_divisionRefusal_0 18 rfl rfl)
theorem dX2_divisionRefusal_19 : decode cX2_divisionRefusal 19 = .ok (.getfield 68, 3) := dk_180 0 68 (dk_at dksX2_divisionRefusal_0 19 rfl rfl)
theorem dX2_divisionRefusal_22 : decode cX2_divisionRefusal 22 = .ok (.aload_n 1, 1) := dk_43 (dk_at dksX2_divisionRefusal_0 22 rfl rfl)
theorem dX2_divisionRefusal_23 : decode cX2_divisionRefusal 23 = .ok (.getfield 157, 3) := dk_180 0 157 (dk_at dksX2_divisionRefusal_1 0 rfl rfl)
theorem dX2_divisionRefusal_26 : decode cX2_divisionRefusal 26 = .ok (.if_icmp .le 7, 3) := dk_164 0 7 (dk_at dksX2_divisionRefusal_1 3 rfl rfl)
theorem dX2_divisionRefusal_29 : decode cX2_divisionRefusal 29 = .ok (.iconst 0, 1) := dk_3 (dk_at dksX2_divisionRefusal_1 6 rfl rfl)
theorem dX2_divisionRefusal_30 : decode cX2_divisionRefusal 30 = .ok (.goto 5, 3) := dk_167 0 5 (dk_at dksX2_divisionRefusal_1 7 rfl rfl)
theorem dX2_divisionRefusal_33 : decode cX2_divisionRefusal 33 = .ok (.bipush (-3), 2) := dk_16 253 (dk_at dksX2_divisionRefusal_1 10 rfl rfl)
theorem dX2_divisionRefusal_35 : decode cX2_divisionRefusal 35 = .ok (.ireturn, 1) := dk_172 (dk_at dksX2_divisionRefusal_1 12 rfl rfl)
abbrev cX2_gives : ByteArray := prog_14_method_20_code
def yX2_gives : MethodName := ⟨RX2, "gives", "(LWreckShares$Part;)V"⟩
def dkwX2_gives_3 : List UInt8 := [182, 0, 183, 92, 46, 44, 182, 0, 186, 96, 79, 177]
abbrev dktX2_gives_3 : List UInt8 := dkwX2_gives_3 ++ []
def dkwX2_gives_2 : List UInt8 := [182, 0, 180, 96, 181, 0, 71, 43, 193, 0, 181, 153, 0, 24, 43, 192, 0, 181, 77, 42, 180, 0, 33, 44]
abbrev dktX2_gives_2 : List UInt8 := dkwX2_gives_2 ++ dktX2_gives_3
def dkwX2_gives_1 : List UInt8 := [182, 0, 175, 96, 79, 43, 193, 0, 178, 153, 0, 21, 43, 192, 0, 178, 77, 42, 89, 180, 0, 71, 44]
abbrev dktX2_gives_1 : List UInt8 := dkwX2_gives_1 ++ dktX2_gives_2
def dkwX2_gives_0 : List UInt8 := [43, 193, 0, 170, 153, 0, 24, 43, 192, 0, 170, 77, 42, 180, 0, 37, 44, 182, 0, 172, 92, 46, 44]
abbrev dktX2_gives_0 : List UInt8 := dkwX2_gives_0 ++ dktX2_gives_1
theorem dksX2_gives_0 : cX2_gives.data.toList.drop 0 = dktX2_gives_0 := by decide +kernel
theorem dksX2_gives_1 : cX2_gives.data.toList.drop 23 = dktX2_gives_1 := dk_seg dksX2_gives_0 23 rfl rfl
theorem dksX2_gives_2 : cX2_gives.data.toList.drop 46 = dktX2_gives_2 := dk_seg dksX2_gives_1 23 rfl rfl
theorem dksX2_gives_3 : cX2_gives.data.toList.drop 70 = dktX2_gives_3 := dk_seg dksX2_gives_2 24 rfl rfl
theorem dX2_gives_0 : decode cX2_gives 0 = .ok (.aload_n 1, 1) := dk_43 (dk_at dksX2_gives_0 0 rfl rfl)
theorem dX2_gives_1 : decode cX2_gives 1 = .ok (.instanceof 170, 3) := dk_193 0 170 (dk_at dksX2_gives_0 1 rfl rfl)
theorem dX2_gives_4 : decode cX2_gives 4 = .ok (.ifCond .eq 24, 3) := dk_153 0 24 (dk_at dksX2_gives_0 4 rfl rfl)
theorem dX2_gives_7 : decode cX2_gives 7 = .ok (.aload_n 1, 1) := dk_43 (dk_at dksX2_gives_0 7 rfl rfl)
theorem dX2_gives_8 : decode cX2_gives 8 = .ok (.checkcast 170, 3) := dk_192 0 170 (dk_at dksX2_gives_0 8 rfl rfl)
theorem dX2_gives_11 : decode cX2_gives 11 = .ok (.astore_n 2, 1) := dk_77 (dk_at dksX2_gives_0 11 rfl rfl)
theorem dX2_gives_12 : decode cX2_gives 12 = .ok (.aload_n 0, 1) := dk_42 (dk_at dksX2_gives_0 12 rfl rfl)
theorem dX2_gives_13 : decode cX2_gives 13 = .ok (.getfield 37, 3) := dk_180 0 37 (dk_at dksX2_gives_0 13 rfl rfl)
theorem dX2_gives_16 : decode cX2_gives 16 = .ok (.aload_n 2, 1) := dk_44 (dk_at dksX2_gives_0 16 rfl rfl)
theorem dX2_gives_17 : decode cX2_gives 17 = .ok (.invokevirtual 172, 3) := dk_182 0 172 (dk_at dksX2_gives_0 17 rfl rfl)
theorem dX2_gives_20 : decode cX2_gives 20 = .ok (.dup2, 1) := dk_92 (dk_at dksX2_gives_0 20 rfl rfl)
theorem dX2_gives_21 : decode cX2_gives 21 = .ok (.iaload, 1) := dk_46 (dk_at dksX2_gives_0 21 rfl rfl)
theorem dX2_gives_22 : decode cX2_gives 22 = .ok (.aload_n 2, 1) := dk_44 (dk_at dksX2_gives_0 22 rfl rfl)
theorem dX2_gives_23 : decode cX2_gives 23 = .ok (.invokevirtual 175, 3) := dk_182 0 175 (dk_at dksX2_gives_1 0 rfl rfl)
theorem dX2_gives_26 : decode cX2_gives 26 = .ok (.iadd, 1) := dk_96 (dk_at dksX2_gives_1 3 rfl rfl)
theorem dX2_gives_27 : decode cX2_gives 27 = .ok (.iastore, 1) := dk_79 (dk_at dksX2_gives_1 4 rfl rfl)
theorem dX2_gives_28 : decode cX2_gives 28 = .ok (.aload_n 1, 1) := dk_43 (dk_at dksX2_gives_1 5 rfl rfl)
theorem dX2_gives_29 : decode cX2_gives 29 = .ok (.instanceof 178, 3) := dk_193 0 178 (dk_at dksX2_gives_1 6 rfl rfl)
theorem dX2_gives_32 : decode cX2_gives 32 = .ok (.ifCond .eq 21, 3) := dk_153 0 21 (dk_at dksX2_gives_1 9 rfl rfl)
theorem dX2_gives_35 : decode cX2_gives 35 = .ok (.aload_n 1, 1) := dk_43 (dk_at dksX2_gives_1 12 rfl rfl)
theorem dX2_gives_36 : decode cX2_gives 36 = .ok (.checkcast 178, 3) := dk_192 0 178 (dk_at dksX2_gives_1 13 rfl rfl)
theorem dX2_gives_39 : decode cX2_gives 39 = .ok (.astore_n 2, 1) := dk_77 (dk_at dksX2_gives_1 16 rfl rfl)
theorem dX2_gives_40 : decode cX2_gives 40 = .ok (.aload_n 0, 1) := dk_42 (dk_at dksX2_gives_1 17 rfl rfl)
theorem dX2_gives_41 : decode cX2_gives 41 = .ok (.dup, 1) := dk_89 (dk_at dksX2_gives_1 18 rfl rfl)
theorem dX2_gives_42 : decode cX2_gives 42 = .ok (.getfield 71, 3) := dk_180 0 71 (dk_at dksX2_gives_1 19 rfl rfl)
theorem dX2_gives_45 : decode cX2_gives 45 = .ok (.aload_n 2, 1) := dk_44 (dk_at dksX2_gives_1 22 rfl rfl)
theorem dX2_gives_46 : decode cX2_gives 46 = .ok (.invokevirtual 180, 3) := dk_182 0 180 (dk_at dksX2_gives_2 0 rfl rfl)
theorem dX2_gives_49 : decode cX2_gives 49 = .ok (.iadd, 1) := dk_96 (dk_at dksX2_gives_2 3 rfl rfl)
theorem dX2_gives_50 : decode cX2_gives 50 = .ok (.putfield 71, 3) := dk_181 0 71 (dk_at dksX2_gives_2 4 rfl rfl)
theorem dX2_gives_53 : decode cX2_gives 53 = .ok (.aload_n 1, 1) := dk_43 (dk_at dksX2_gives_2 7 rfl rfl)
theorem dX2_gives_54 : decode cX2_gives 54 = .ok (.instanceof 181, 3) := dk_193 0 181 (dk_at dksX2_gives_2 8 rfl rfl)
theorem dX2_gives_57 : decode cX2_gives 57 = .ok (.ifCond .eq 24, 3) := dk_153 0 24 (dk_at dksX2_gives_2 11 rfl rfl)
theorem dX2_gives_60 : decode cX2_gives 60 = .ok (.aload_n 1, 1) := dk_43 (dk_at dksX2_gives_2 14 rfl rfl)
theorem dX2_gives_61 : decode cX2_gives 61 = .ok (.checkcast 181, 3) := dk_192 0 181 (dk_at dksX2_gives_2 15 rfl rfl)
theorem dX2_gives_64 : decode cX2_gives 64 = .ok (.astore_n 2, 1) := dk_77 (dk_at dksX2_gives_2 18 rfl rfl)
theorem dX2_gives_65 : decode cX2_gives 65 = .ok (.aload_n 0, 1) := dk_42 (dk_at dksX2_gives_2 19 rfl rfl)
theorem dX2_gives_66 : decode cX2_gives 66 = .ok (.getfield 33, 3) := dk_180 0 33 (dk_at dksX2_gives_2 20 rfl rfl)
theorem dX2_gives_69 : decode cX2_gives 69 = .ok (.aload_n 2, 1) := dk_44 (dk_at dksX2_gives_2 23 rfl rfl)
theorem dX2_gives_70 : decode cX2_gives 70 = .ok (.invokevirtual 183, 3) := dk_182 0 183 (dk_at dksX2_gives_3 0 rfl rfl)
theorem dX2_gives_73 : decode cX2_gives 73 = .ok (.dup2, 1) := dk_92 (dk_at dksX2_gives_3 3 rfl rfl)
theorem dX2_gives_74 : decode cX2_gives 74 = .ok (.iaload, 1) := dk_46 (dk_at dksX2_gives_3 4 rfl rfl)
theorem dX2_gives_75 : decode cX2_gives 75 = .ok (.aload_n 2, 1) := dk_44 (dk_at dksX2_gives_3 5 rfl rfl)
theorem dX2_gives_76 : decode cX2_gives 76 = .ok (.invokevirtual 186, 3) := dk_182 0 186 (dk_at dksX2_gives_3 6 rfl rfl)
theorem dX2_gives_79 : decode cX2_gives 79 = .ok (.iadd, 1) := dk_96 (dk_at dksX2_gives_3 9 rfl rfl)
theorem dX2_gives_80 : decode cX2_gives 80 = .ok (.iastore, 1) := dk_79 (dk_at dksX2_gives_3 10 rfl rfl)
theorem dX2_gives_81 : decode cX2_gives 81 = .ok (.return_, 1) := dk_177 (dk_at dksX2_gives_3 11 rfl rfl)
abbrev cX2_dryIn : ByteArray := prog_14_method_7_code
def yX2_dryIn : MethodName := ⟨RX2, "dryIn", "(LWreckShares$Good;)I"⟩
def dkwX2_dryIn_0 : List UInt8 := [3, 61, 42, 43, 42, 180, 0, 68, 28, 96, 182, 0, 91, 154, 0, 9, 132, 2, 1, 167, 255, 239, 28, 172]
abbrev dktX2_dryIn_0 : List UInt8 := dkwX2_dryIn_0 ++ []
theorem dksX2_dryIn_0 : cX2_dryIn.data.toList.drop 0 = dktX2_dryIn_0 := by decide +kernel
theorem dX2_dryIn_0 : decode cX2_dryIn 0 = .ok (.iconst 0, 1) := dk_3 (dk_at dksX2_dryIn_0 0 rfl rfl)
theorem dX2_dryIn_1 : decode cX2_dryIn 1 = .ok (.istore_n 2, 1) := dk_61 (dk_at dksX2_dryIn_0 1 rfl rfl)
theorem dX2_dryIn_2 : decode cX2_dryIn 2 = .ok (.aload_n 0, 1) := dk_42 (dk_at dksX2_dryIn_0 2 rfl rfl)
theorem dX2_dryIn_3 : decode cX2_dryIn 3 = .ok (.aload_n 1, 1) := dk_43 (dk_at dksX2_dryIn_0 3 rfl rfl)
theorem dX2_dryIn_4 : decode cX2_dryIn 4 = .ok (.aload_n 0, 1) := dk_42 (dk_at dksX2_dryIn_0 4 rfl rfl)
theorem dX2_dryIn_5 : decode cX2_dryIn 5 = .ok (.getfield 68, 3) := dk_180 0 68 (dk_at dksX2_dryIn_0 5 rfl rfl)
theorem dX2_dryIn_8 : decode cX2_dryIn 8 = .ok (.iload_n 2, 1) := dk_28 (dk_at dksX2_dryIn_0 8 rfl rfl)
theorem dX2_dryIn_9 : decode cX2_dryIn 9 = .ok (.iadd, 1) := dk_96 (dk_at dksX2_dryIn_0 9 rfl rfl)
theorem dX2_dryIn_10 : decode cX2_dryIn 10 = .ok (.invokevirtual 91, 3) := dk_182 0 91 (dk_at dksX2_dryIn_0 10 rfl rfl)
theorem dX2_dryIn_13 : decode cX2_dryIn 13 = .ok (.ifCond .ne 9, 3) := dk_154 0 9 (dk_at dksX2_dryIn_0 13 rfl rfl)
theorem dX2_dryIn_16 : decode cX2_dryIn 16 = .ok (.iinc 2 1, 3) := dk_132 2 1 (dk_at dksX2_dryIn_0 16 rfl rfl)
theorem dX2_dryIn_19 : decode cX2_dryIn 19 = .ok (.goto (-17), 3) := dk_167 255 239 (dk_at dksX2_dryIn_0 19 rfl rfl)
theorem dX2_dryIn_22 : decode cX2_dryIn 22 = .ok (.iload_n 2, 1) := dk_28 (dk_at dksX2_dryIn_0 22 rfl rfl)
theorem dX2_dryIn_23 : decode cX2_dryIn 23 = .ok (.ireturn, 1) := dk_172 (dk_at dksX2_dryIn_0 23 rfl rfl)
abbrev cX2_refusal : ByteArray := prog_14_method_16_code
def yX2_refusal : MethodName := ⟨RX2, "refusal", "(LWreckShares$Good;)I"⟩
def dkwX2_refusal_1 : List UInt8 := [172, 43, 180, 0, 109, 182, 0, 134, 43, 180, 0, 141, 162, 0, 8, 16, 252, 167, 0, 4, 3, 172]
abbrev dktX2_refusal_1 : List UInt8 := dkwX2_refusal_1 ++ []
def dkwX2_refusal_0 : List UInt8 := [43, 180, 0, 99, 153, 0, 6, 16, 254, 172, 42, 43, 42, 180, 0, 68, 182, 0, 91, 154, 0, 6, 16, 253]
abbrev dktX2_refusal_0 : List UInt8 := dkwX2_refusal_0 ++ dktX2_refusal_1
theorem dksX2_refusal_0 : cX2_refusal.data.toList.drop 0 = dktX2_refusal_0 := by decide +kernel
theorem dksX2_refusal_1 : cX2_refusal.data.toList.drop 24 = dktX2_refusal_1 := dk_seg dksX2_refusal_0 24 rfl rfl
theorem dX2_refusal_0 : decode cX2_refusal 0 = .ok (.aload_n 1, 1) := dk_43 (dk_at dksX2_refusal_0 0 rfl rfl)
theorem dX2_refusal_1 : decode cX2_refusal 1 = .ok (.getfield 99, 3) := dk_180 0 99 (dk_at dksX2_refusal_0 1 rfl rfl)
theorem dX2_refusal_4 : decode cX2_refusal 4 = .ok (.ifCond .eq 6, 3) := dk_153 0 6 (dk_at dksX2_refusal_0 4 rfl rfl)
theorem dX2_refusal_7 : decode cX2_refusal 7 = .ok (.bipush (-2), 2) := dk_16 254 (dk_at dksX2_refusal_0 7 rfl rfl)
theorem dX2_refusal_9 : decode cX2_refusal 9 = .ok (.ireturn, 1) := dk_172 (dk_at dksX2_refusal_0 9 rfl rfl)
theorem dX2_refusal_10 : decode cX2_refusal 10 = .ok (.aload_n 0, 1) := dk_42 (dk_at dksX2_refusal_0 10 rfl rfl)
theorem dX2_refusal_11 : decode cX2_refusal 11 = .ok (.aload_n 1, 1) := dk_43 (dk_at dksX2_refusal_0 11 rfl rfl)
theorem dX2_refusal_12 : decode cX2_refusal 12 = .ok (.aload_n 0, 1) := dk_42 (dk_at dksX2_refusal_0 12 rfl rfl)
theorem dX2_refusal_13 : decode cX2_refusal 13 = .ok (.getfield 68, 3) := dk_180 0 68 (dk_at dksX2_refusal_0 13 rfl rfl)
theorem dX2_refusal_16 : decode cX2_refusal 16 = .ok (.invokevirtual 91, 3) := dk_182 0 91 (dk_at dksX2_refusal_0 16 rfl rfl)
theorem dX2_refusal_19 : decode cX2_refusal 19 = .ok (.ifCond .ne 6, 3) := dk_154 0 6 (dk_at dksX2_refusal_0 19 rfl rfl)
theorem dX2_refusal_22 : decode cX2_refusal 22 = .ok (.bipush (-3), 2) := dk_16 253 (dk_at dksX2_refusal_0 22 rfl rfl)
theorem dX2_refusal_24 : decode cX2_refusal 24 = .ok (.ireturn, 1) := dk_172 (dk_at dksX2_refusal_1 0 rfl rfl)
theorem dX2_refusal_25 : decode cX2_refusal 25 = .ok (.aload_n 1, 1) := dk_43 (dk_at dksX2_refusal_1 1 rfl rfl)
theorem dX2_refusal_26 : decode cX2_refusal 26 = .ok (.getfield 109, 3) := dk_180 0 109 (dk_at dksX2_refusal_1 2 rfl rfl)
theorem dX2_refusal_29 : decode cX2_refusal 29 = .ok (.invokevirtual 134, 3) := dk_182 0 134 (dk_at dksX2_refusal_1 5 rfl rfl)
theorem dX2_refusal_32 : decode cX2_refusal 32 = .ok (.aload_n 1, 1) := dk_43 (dk_at dksX2_refusal_1 8 rfl rfl)
theorem dX2_refusal_33 : decode cX2_refusal 33 = .ok (.getfield 141, 3) := dk_180 0 141 (dk_at dksX2_refusal_1 9 rfl rfl)
theorem dX2_refusal_36 : decode cX2_refusal 36 = .ok (.if_icmp .ge 8, 3) := dk_162 0 8 (dk_at dksX2_refusal_1 12 rfl rfl)
theorem dX2_refusal_39 : decode cX2_refusal 39 = .ok (.bipush (-4), 2) := dk_16 252 (dk_at dksX2_refusal_1 15 rfl rfl)
theorem dX2_refusal_41 : decode cX2_refusal 41 = .ok (.goto 4, 3) := dk_167 0 4 (dk_at dksX2_refusal_1 17 rfl rfl)
theorem dX2_refusal_44 : decode cX2_refusal 44 = .ok (.iconst 0, 1) := dk_3 (dk_at dksX2_refusal_1 20 rfl rfl)
theorem dX2_refusal_45 : decode cX2_refusal 45 = .ok (.ireturn, 1) := dk_172 (dk_at dksX2_refusal_1 21 rfl rfl)
abbrev cX2_ropes : ByteArray := prog_14_method_12_code
def yX2_ropes : MethodName := ⟨RX2, "ropes", "(ILWreckShares$Good;)I"⟩
def dkwX2_ropes_2 : List UInt8 := [182, 0, 134, 172]
abbrev dktX2_ropes_2 : List UInt8 := dkwX2_ropes_2 ++ []
def dkwX2_ropes_1 : List UInt8 := [16, 253, 172, 42, 27, 182, 0, 127, 62, 44, 180, 0, 109, 27, 184, 0, 113, 182, 0, 130, 44, 180, 0, 109]
abbrev dktX2_ropes_1 : List UInt8 := dkwX2_ropes_1 ++ dktX2_ropes_2
def dkwX2_ropes_0 : List UInt8 := [44, 180, 0, 99, 153, 0, 6, 16, 254, 172, 44, 180, 0, 109, 27, 184, 0, 113, 182, 0, 119, 153, 0, 6]
abbrev dktX2_ropes_0 : List UInt8 := dkwX2_ropes_0 ++ dktX2_ropes_1
theorem dksX2_ropes_0 : cX2_ropes.data.toList.drop 0 = dktX2_ropes_0 := by decide +kernel
theorem dksX2_ropes_1 : cX2_ropes.data.toList.drop 24 = dktX2_ropes_1 := dk_seg dksX2_ropes_0 24 rfl rfl
theorem dksX2_ropes_2 : cX2_ropes.data.toList.drop 48 = dktX2_ropes_2 := dk_seg dksX2_ropes_1 24 rfl rfl
theorem dX2_ropes_0 : decode cX2_ropes 0 = .ok (.aload_n 2, 1) := dk_44 (dk_at dksX2_ropes_0 0 rfl rfl)
theorem dX2_ropes_1 : decode cX2_ropes 1 = .ok (.getfield 99, 3) := dk_180 0 99 (dk_at dksX2_ropes_0 1 rfl rfl)
theorem dX2_ropes_4 : decode cX2_ropes 4 = .ok (.ifCond .eq 6, 3) := dk_153 0 6 (dk_at dksX2_ropes_0 4 rfl rfl)
theorem dX2_ropes_7 : decode cX2_ropes 7 = .ok (.bipush (-2), 2) := dk_16 254 (dk_at dksX2_ropes_0 7 rfl rfl)
theorem dX2_ropes_9 : decode cX2_ropes 9 = .ok (.ireturn, 1) := dk_172 (dk_at dksX2_ropes_0 9 rfl rfl)
theorem dX2_ropes_10 : decode cX2_ropes 10 = .ok (.aload_n 2, 1) := dk_44 (dk_at dksX2_ropes_0 10 rfl rfl)
theorem dX2_ropes_11 : decode cX2_ropes 11 = .ok (.getfield 109, 3) := dk_180 0 109 (dk_at dksX2_ropes_0 11 rfl rfl)
theorem dX2_ropes_14 : decode cX2_ropes 14 = .ok (.iload_n 1, 1) := dk_27 (dk_at dksX2_ropes_0 14 rfl rfl)
theorem dX2_ropes_15 : decode cX2_ropes 15 = .ok (.invokestatic 113, 3) := dk_184 0 113 (dk_at dksX2_ropes_0 15 rfl rfl)
theorem dX2_ropes_18 : decode cX2_ropes 18 = .ok (.invokevirtual 119, 3) := dk_182 0 119 (dk_at dksX2_ropes_0 18 rfl rfl)
theorem dX2_ropes_21 : decode cX2_ropes 21 = .ok (.ifCond .eq 6, 3) := dk_153 0 6 (dk_at dksX2_ropes_0 21 rfl rfl)
theorem dX2_ropes_24 : decode cX2_ropes 24 = .ok (.bipush (-3), 2) := dk_16 253 (dk_at dksX2_ropes_1 0 rfl rfl)
theorem dX2_ropes_26 : decode cX2_ropes 26 = .ok (.ireturn, 1) := dk_172 (dk_at dksX2_ropes_1 2 rfl rfl)
theorem dX2_ropes_27 : decode cX2_ropes 27 = .ok (.aload_n 0, 1) := dk_42 (dk_at dksX2_ropes_1 3 rfl rfl)
theorem dX2_ropes_28 : decode cX2_ropes 28 = .ok (.iload_n 1, 1) := dk_27 (dk_at dksX2_ropes_1 4 rfl rfl)
theorem dX2_ropes_29 : decode cX2_ropes 29 = .ok (.invokevirtual 127, 3) := dk_182 0 127 (dk_at dksX2_ropes_1 5 rfl rfl)
theorem dX2_ropes_32 : decode cX2_ropes 32 = .ok (.istore_n 3, 1) := dk_62 (dk_at dksX2_ropes_1 8 rfl rfl)
theorem dX2_ropes_33 : decode cX2_ropes 33 = .ok (.aload_n 2, 1) := dk_44 (dk_at dksX2_ropes_1 9 rfl rfl)
theorem dX2_ropes_34 : decode cX2_ropes 34 = .ok (.getfield 109, 3) := dk_180 0 109 (dk_at dksX2_ropes_1 10 rfl rfl)
theorem dX2_ropes_37 : decode cX2_ropes 37 = .ok (.iload_n 1, 1) := dk_27 (dk_at dksX2_ropes_1 13 rfl rfl)
theorem dX2_ropes_38 : decode cX2_ropes 38 = .ok (.invokestatic 113, 3) := dk_184 0 113 (dk_at dksX2_ropes_1 14 rfl rfl)
theorem dX2_ropes_41 : decode cX2_ropes 41 = .ok (.invokevirtual 130, 3) := dk_182 0 130 (dk_at dksX2_ropes_1 17 rfl rfl)
theorem dX2_ropes_44 : decode cX2_ropes 44 = .ok (.aload_n 2, 1) := dk_44 (dk_at dksX2_ropes_1 20 rfl rfl)
theorem dX2_ropes_45 : decode cX2_ropes 45 = .ok (.getfield 109, 3) := dk_180 0 109 (dk_at dksX2_ropes_1 21 rfl rfl)
theorem dX2_ropes_48 : decode cX2_ropes 48 = .ok (.invokevirtual 134, 3) := dk_182 0 134 (dk_at dksX2_ropes_2 0 rfl rfl)
theorem dX2_ropes_51 : decode cX2_ropes 51 = .ok (.ireturn, 1) := dk_172 (dk_at dksX2_ropes_2 3 rfl rfl)
abbrev cX2_pays : ByteArray := prog_14_method_15_code
def yX2_pays : MethodName := ⟨RX2, "pays", "(III)I"⟩
def dkwX2_pays_2 : List UInt8 := [46, 172]
abbrev dktX2_pays_2 : List UInt8 := dkwX2_pays_2 ++ []
def dkwX2_pays_1 : List UInt8 := [180, 0, 33, 27, 92, 46, 29, 100, 79, 42, 180, 0, 33, 28, 92, 46, 29, 96, 79, 42, 180, 0, 33, 28]
abbrev dktX2_pays_1 : List UInt8 := dkwX2_pays_1 ++ dktX2_pays_2
def dkwX2_pays_0 : List UInt8 := [27, 28, 160, 0, 6, 16, 254, 172, 42, 180, 0, 33, 27, 46, 29, 162, 0, 6, 16, 253, 172, 42]
abbrev dktX2_pays_0 : List UInt8 := dkwX2_pays_0 ++ dktX2_pays_1
theorem dksX2_pays_0 : cX2_pays.data.toList.drop 0 = dktX2_pays_0 := by decide +kernel
theorem dksX2_pays_1 : cX2_pays.data.toList.drop 22 = dktX2_pays_1 := dk_seg dksX2_pays_0 22 rfl rfl
theorem dksX2_pays_2 : cX2_pays.data.toList.drop 46 = dktX2_pays_2 := dk_seg dksX2_pays_1 24 rfl rfl
theorem dX2_pays_0 : decode cX2_pays 0 = .ok (.iload_n 1, 1) := dk_27 (dk_at dksX2_pays_0 0 rfl rfl)
theorem dX2_pays_1 : decode cX2_pays 1 = .ok (.iload_n 2, 1) := dk_28 (dk_at dksX2_pays_0 1 rfl rfl)
theorem dX2_pays_2 : decode cX2_pays 2 = .ok (.if_icmp .ne 6, 3) := dk_160 0 6 (dk_at dksX2_pays_0 2 rfl rfl)
theorem dX2_pays_5 : decode cX2_pays 5 = .ok (.bipush (-2), 2) := dk_16 254 (dk_at dksX2_pays_0 5 rfl rfl)
theorem dX2_pays_7 : decode cX2_pays 7 = .ok (.ireturn, 1) := dk_172 (dk_at dksX2_pays_0 7 rfl rfl)
theorem dX2_pays_8 : decode cX2_pays 8 = .ok (.aload_n 0, 1) := dk_42 (dk_at dksX2_pays_0 8 rfl rfl)
theorem dX2_pays_9 : decode cX2_pays 9 = .ok (.getfield 33, 3) := dk_180 0 33 (dk_at dksX2_pays_0 9 rfl rfl)
theorem dX2_pays_12 : decode cX2_pays 12 = .ok (.iload_n 1, 1) := dk_27 (dk_at dksX2_pays_0 12 rfl rfl)
theorem dX2_pays_13 : decode cX2_pays 13 = .ok (.iaload, 1) := dk_46 (dk_at dksX2_pays_0 13 rfl rfl)
theorem dX2_pays_14 : decode cX2_pays 14 = .ok (.iload_n 3, 1) := dk_29 (dk_at dksX2_pays_0 14 rfl rfl)
theorem dX2_pays_15 : decode cX2_pays 15 = .ok (.if_icmp .ge 6, 3) := dk_162 0 6 (dk_at dksX2_pays_0 15 rfl rfl)
theorem dX2_pays_18 : decode cX2_pays 18 = .ok (.bipush (-3), 2) := dk_16 253 (dk_at dksX2_pays_0 18 rfl rfl)
theorem dX2_pays_20 : decode cX2_pays 20 = .ok (.ireturn, 1) := dk_172 (dk_at dksX2_pays_0 20 rfl rfl)
theorem dX2_pays_21 : decode cX2_pays 21 = .ok (.aload_n 0, 1) := dk_42 (dk_at dksX2_pays_0 21 rfl rfl)
theorem dX2_pays_22 : decode cX2_pays 22 = .ok (.getfield 33, 3) := dk_180 0 33 (dk_at dksX2_pays_1 0 rfl rfl)
theorem dX2_pays_25 : decode cX2_pays 25 = .ok (.iload_n 1, 1) := dk_27 (dk_at dksX2_pays_1 3 rfl rfl)
theorem dX2_pays_26 : decode cX2_pays 26 = .ok (.dup2, 1) := dk_92 (dk_at dksX2_pays_1 4 rfl rfl)
theorem dX2_pays_27 : decode cX2_pays 27 = .ok (.iaload, 1) := dk_46 (dk_at dksX2_pays_1 5 rfl rfl)
theorem dX2_pays_28 : decode cX2_pays 28 = .ok (.iload_n 3, 1) := dk_29 (dk_at dksX2_pays_1 6 rfl rfl)
theorem dX2_pays_29 : decode cX2_pays 29 = .ok (.isub, 1) := dk_100 (dk_at dksX2_pays_1 7 rfl rfl)
theorem dX2_pays_30 : decode cX2_pays 30 = .ok (.iastore, 1) := dk_79 (dk_at dksX2_pays_1 8 rfl rfl)
theorem dX2_pays_31 : decode cX2_pays 31 = .ok (.aload_n 0, 1) := dk_42 (dk_at dksX2_pays_1 9 rfl rfl)
theorem dX2_pays_32 : decode cX2_pays 32 = .ok (.getfield 33, 3) := dk_180 0 33 (dk_at dksX2_pays_1 10 rfl rfl)
theorem dX2_pays_35 : decode cX2_pays 35 = .ok (.iload_n 2, 1) := dk_28 (dk_at dksX2_pays_1 13 rfl rfl)
theorem dX2_pays_36 : decode cX2_pays 36 = .ok (.dup2, 1) := dk_92 (dk_at dksX2_pays_1 14 rfl rfl)
theorem dX2_pays_37 : decode cX2_pays 37 = .ok (.iaload, 1) := dk_46 (dk_at dksX2_pays_1 15 rfl rfl)
theorem dX2_pays_38 : decode cX2_pays 38 = .ok (.iload_n 3, 1) := dk_29 (dk_at dksX2_pays_1 16 rfl rfl)
theorem dX2_pays_39 : decode cX2_pays 39 = .ok (.iadd, 1) := dk_96 (dk_at dksX2_pays_1 17 rfl rfl)
theorem dX2_pays_40 : decode cX2_pays 40 = .ok (.iastore, 1) := dk_79 (dk_at dksX2_pays_1 18 rfl rfl)
theorem dX2_pays_41 : decode cX2_pays 41 = .ok (.aload_n 0, 1) := dk_42 (dk_at dksX2_pays_1 19 rfl rfl)
theorem dX2_pays_42 : decode cX2_pays 42 = .ok (.getfield 33, 3) := dk_180 0 33 (dk_at dksX2_pays_1 20 rfl rfl)
theorem dX2_pays_45 : decode cX2_pays 45 = .ok (.iload_n 2, 1) := dk_28 (dk_at dksX2_pays_1 23 rfl rfl)
theorem dX2_pays_46 : decode cX2_pays 46 = .ok (.iaload, 1) := dk_46 (dk_at dksX2_pays_2 0 rfl rfl)
theorem dX2_pays_47 : decode cX2_pays 47 = .ok (.ireturn, 1) := dk_172 (dk_at dksX2_pays_2 1 rfl rfl)
abbrev cX2_hauls : ByteArray := prog_14_method_17_code
def yX2_hauls : MethodName := ⟨RX2, "hauls", "(LWreckShares$Good;)I"⟩
def dkwX2_hauls_3 : List UInt8 := [180, 0, 157, 172]
abbrev dktX2_hauls_3 : List UInt8 := dkwX2_hauls_3 ++ []
def dkwX2_hauls_2 : List UInt8 := [180, 0, 40, 3, 92, 46, 4, 96, 79, 42, 180, 0, 40, 4, 92, 46, 43, 180, 0, 160, 96, 79, 43]
abbrev dktX2_hauls_2 : List UInt8 := dkwX2_hauls_2 ++ dktX2_hauls_3
def dkwX2_hauls_1 : List UInt8 := [182, 0, 154, 43, 4, 181, 0, 99, 43, 42, 180, 0, 68, 42, 180, 0, 30, 96, 181, 0, 157, 42]
abbrev dktX2_hauls_1 : List UInt8 := dkwX2_hauls_1 ++ dktX2_hauls_2
def dkwX2_hauls_0 : List UInt8 := [42, 43, 182, 0, 144, 61, 28, 156, 0, 5, 28, 172, 43, 43, 182, 0, 147, 181, 0, 151, 43, 180, 0, 109]
abbrev dktX2_hauls_0 : List UInt8 := dkwX2_hauls_0 ++ dktX2_hauls_1
theorem dksX2_hauls_0 : cX2_hauls.data.toList.drop 0 = dktX2_hauls_0 := by decide +kernel
theorem dksX2_hauls_1 : cX2_hauls.data.toList.drop 24 = dktX2_hauls_1 := dk_seg dksX2_hauls_0 24 rfl rfl
theorem dksX2_hauls_2 : cX2_hauls.data.toList.drop 46 = dktX2_hauls_2 := dk_seg dksX2_hauls_1 22 rfl rfl
theorem dksX2_hauls_3 : cX2_hauls.data.toList.drop 69 = dktX2_hauls_3 := dk_seg dksX2_hauls_2 23 rfl rfl
theorem dX2_hauls_0 : decode cX2_hauls 0 = .ok (.aload_n 0, 1) := dk_42 (dk_at dksX2_hauls_0 0 rfl rfl)
theorem dX2_hauls_1 : decode cX2_hauls 1 = .ok (.aload_n 1, 1) := dk_43 (dk_at dksX2_hauls_0 1 rfl rfl)
theorem dX2_hauls_2 : decode cX2_hauls 2 = .ok (.invokevirtual 144, 3) := dk_182 0 144 (dk_at dksX2_hauls_0 2 rfl rfl)
theorem dX2_hauls_5 : decode cX2_hauls 5 = .ok (.istore_n 2, 1) := dk_61 (dk_at dksX2_hauls_0 5 rfl rfl)
theorem dX2_hauls_6 : decode cX2_hauls 6 = .ok (.iload_n 2, 1) := dk_28 (dk_at dksX2_hauls_0 6 rfl rfl)
theorem dX2_hauls_7 : decode cX2_hauls 7 = .ok (.ifCond .ge 5, 3) := dk_156 0 5 (dk_at dksX2_hauls_0 7 rfl rfl)
theorem dX2_hauls_10 : decode cX2_hauls 10 = .ok (.iload_n 2, 1) := dk_28 (dk_at dksX2_hauls_0 10 rfl rfl)
theorem dX2_hauls_11 : decode cX2_hauls 11 = .ok (.ireturn, 1) := dk_172 (dk_at dksX2_hauls_0 11 rfl rfl)
theorem dX2_hauls_12 : decode cX2_hauls 12 = .ok (.aload_n 1, 1) := dk_43 (dk_at dksX2_hauls_0 12 rfl rfl)
theorem dX2_hauls_13 : decode cX2_hauls 13 = .ok (.aload_n 1, 1) := dk_43 (dk_at dksX2_hauls_0 13 rfl rfl)
theorem dX2_hauls_14 : decode cX2_hauls 14 = .ok (.invokevirtual 147, 3) := dk_182 0 147 (dk_at dksX2_hauls_0 14 rfl rfl)
theorem dX2_hauls_17 : decode cX2_hauls 17 = .ok (.putfield 151, 3) := dk_181 0 151 (dk_at dksX2_hauls_0 17 rfl rfl)
theorem dX2_hauls_20 : decode cX2_hauls 20 = .ok (.aload_n 1, 1) := dk_43 (dk_at dksX2_hauls_0 20 rfl rfl)
theorem dX2_hauls_21 : decode cX2_hauls 21 = .ok (.getfield 109, 3) := dk_180 0 109 (dk_at dksX2_hauls_0 21 rfl rfl)
theorem dX2_hauls_24 : decode cX2_hauls 24 = .ok (.invokevirtual 154, 3) := dk_182 0 154 (dk_at dksX2_hauls_1 0 rfl rfl)
theorem dX2_hauls_27 : decode cX2_hauls 27 = .ok (.aload_n 1, 1) := dk_43 (dk_at dksX2_hauls_1 3 rfl rfl)
theorem dX2_hauls_28 : decode cX2_hauls 28 = .ok (.iconst 1, 1) := dk_4 (dk_at dksX2_hauls_1 4 rfl rfl)
theorem dX2_hauls_29 : decode cX2_hauls 29 = .ok (.putfield 99, 3) := dk_181 0 99 (dk_at dksX2_hauls_1 5 rfl rfl)
theorem dX2_hauls_32 : decode cX2_hauls 32 = .ok (.aload_n 1, 1) := dk_43 (dk_at dksX2_hauls_1 8 rfl rfl)
theorem dX2_hauls_33 : decode cX2_hauls 33 = .ok (.aload_n 0, 1) := dk_42 (dk_at dksX2_hauls_1 9 rfl rfl)
theorem dX2_hauls_34 : decode cX2_hauls 34 = .ok (.getfield 68, 3) := dk_180 0 68 (dk_at dksX2_hauls_1 10 rfl rfl)
theorem dX2_hauls_37 : decode cX2_hauls 37 = .ok (.aload_n 0, 1) := dk_42 (dk_at dksX2_hauls_1 13 rfl rfl)
theorem dX2_hauls_38 : decode cX2_hauls 38 = .ok (.getfield 30, 3) := dk_180 0 30 (dk_at dksX2_hauls_1 14 rfl rfl)
theorem dX2_hauls_41 : decode cX2_hauls 41 = .ok (.iadd, 1) := dk_96 (dk_at dksX2_hauls_1 17 rfl rfl)
theorem dX2_hauls_42 : decode cX2_hauls 42 = .ok (.putfield 157, 3) := dk_181 0 157 (dk_at dksX2_hauls_1 18 rfl rfl)
theorem dX2_hauls_45 : decode cX2_hauls 45 = .ok (.aload_n 0, 1) := dk_42 (dk_at dksX2_hauls_1 21 rfl rfl)
theorem dX2_hauls_46 : decode cX2_hauls 46 = .ok (.getfield 40, 3) := dk_180 0 40 (dk_at dksX2_hauls_2 0 rfl rfl)
theorem dX2_hauls_49 : decode cX2_hauls 49 = .ok (.iconst 0, 1) := dk_3 (dk_at dksX2_hauls_2 3 rfl rfl)
theorem dX2_hauls_50 : decode cX2_hauls 50 = .ok (.dup2, 1) := dk_92 (dk_at dksX2_hauls_2 4 rfl rfl)
theorem dX2_hauls_51 : decode cX2_hauls 51 = .ok (.iaload, 1) := dk_46 (dk_at dksX2_hauls_2 5 rfl rfl)
theorem dX2_hauls_52 : decode cX2_hauls 52 = .ok (.iconst 1, 1) := dk_4 (dk_at dksX2_hauls_2 6 rfl rfl)
theorem dX2_hauls_53 : decode cX2_hauls 53 = .ok (.iadd, 1) := dk_96 (dk_at dksX2_hauls_2 7 rfl rfl)
theorem dX2_hauls_54 : decode cX2_hauls 54 = .ok (.iastore, 1) := dk_79 (dk_at dksX2_hauls_2 8 rfl rfl)
theorem dX2_hauls_55 : decode cX2_hauls 55 = .ok (.aload_n 0, 1) := dk_42 (dk_at dksX2_hauls_2 9 rfl rfl)
theorem dX2_hauls_56 : decode cX2_hauls 56 = .ok (.getfield 40, 3) := dk_180 0 40 (dk_at dksX2_hauls_2 10 rfl rfl)
theorem dX2_hauls_59 : decode cX2_hauls 59 = .ok (.iconst 1, 1) := dk_4 (dk_at dksX2_hauls_2 13 rfl rfl)
theorem dX2_hauls_60 : decode cX2_hauls 60 = .ok (.dup2, 1) := dk_92 (dk_at dksX2_hauls_2 14 rfl rfl)
theorem dX2_hauls_61 : decode cX2_hauls 61 = .ok (.iaload, 1) := dk_46 (dk_at dksX2_hauls_2 15 rfl rfl)
theorem dX2_hauls_62 : decode cX2_hauls 62 = .ok (.aload_n 1, 1) := dk_43 (dk_at dksX2_hauls_2 16 rfl rfl)
theorem dX2_hauls_63 : decode cX2_hauls 63 = .ok (.getfield 160, 3) := dk_180 0 160 (dk_at dksX2_hauls_2 17 rfl rfl)
theorem dX2_hauls_66 : decode cX2_hauls 66 = .ok (.iadd, 1) := dk_96 (dk_at dksX2_hauls_2 20 rfl rfl)
theorem dX2_hauls_67 : decode cX2_hauls 67 = .ok (.iastore, 1) := dk_79 (dk_at dksX2_hauls_2 21 rfl rfl)
theorem dX2_hauls_68 : decode cX2_hauls 68 = .ok (.aload_n 1, 1) := dk_43 (dk_at dksX2_hauls_2 22 rfl rfl)
theorem dX2_hauls_69 : decode cX2_hauls 69 = .ok (.getfield 157, 3) := dk_180 0 157 (dk_at dksX2_hauls_3 0 rfl rfl)
theorem dX2_hauls_72 : decode cX2_hauls 72 = .ok (.ireturn, 1) := dk_172 (dk_at dksX2_hauls_3 3 rfl rfl)
abbrev cX2_claims : ByteArray := prog_14_method_18_code
def yX2_claims : MethodName := ⟨RX2, "claims", "(I)I"⟩
def dkwX2_claims_4 : List UInt8 := [16, 254, 167, 0, 4, 28, 172]
abbrev dktX2_claims_4 : List UInt8 := dkwX2_claims_4 ++ []
def dkwX2_claims_3 : List UInt8 := [132, 2, 1, 132, 3, 1, 167, 255, 183, 42, 180, 0, 40, 16, 6, 92, 46, 28, 96, 79, 28, 154, 0, 8]
abbrev dktX2_claims_3 : List UInt8 := dkwX2_claims_3 ++ dktX2_claims_4
def dkwX2_claims_2 : List UInt8 := [154, 0, 27, 42, 180, 0, 68, 25, 4, 180, 0, 157, 164, 0, 6, 167, 0, 12, 25, 4, 4, 181, 0, 166]
abbrev dktX2_claims_2 : List UInt8 := dkwX2_claims_2 ++ dktX2_claims_3
def dkwX2_claims_1 : List UInt8 := [25, 4, 180, 0, 163, 27, 160, 0, 44, 25, 4, 180, 0, 99, 4, 160, 0, 35, 25, 4, 180, 0, 166]
abbrev dktX2_claims_1 : List UInt8 := dkwX2_claims_1 ++ dktX2_claims_2
def dkwX2_claims_0 : List UInt8 := [3, 61, 3, 62, 29, 42, 180, 0, 19, 185, 0, 48, 1, 0, 162, 0, 66, 42, 29, 182, 0, 54, 58, 4]
abbrev dktX2_claims_0 : List UInt8 := dkwX2_claims_0 ++ dktX2_claims_1
theorem dksX2_claims_0 : cX2_claims.data.toList.drop 0 = dktX2_claims_0 := by decide +kernel
theorem dksX2_claims_1 : cX2_claims.data.toList.drop 24 = dktX2_claims_1 := dk_seg dksX2_claims_0 24 rfl rfl
theorem dksX2_claims_2 : cX2_claims.data.toList.drop 47 = dktX2_claims_2 := dk_seg dksX2_claims_1 23 rfl rfl
theorem dksX2_claims_3 : cX2_claims.data.toList.drop 71 = dktX2_claims_3 := dk_seg dksX2_claims_2 24 rfl rfl
theorem dksX2_claims_4 : cX2_claims.data.toList.drop 95 = dktX2_claims_4 := dk_seg dksX2_claims_3 24 rfl rfl
theorem dX2_claims_0 : decode cX2_claims 0 = .ok (.iconst 0, 1) := dk_3 (dk_at dksX2_claims_0 0 rfl rfl)
theorem dX2_claims_1 : decode cX2_claims 1 = .ok (.istore_n 2, 1) := dk_61 (dk_at dksX2_claims_0 1 rfl rfl)
theorem dX2_claims_2 : decode cX2_claims 2 = .ok (.iconst 0, 1) := dk_3 (dk_at dksX2_claims_0 2 rfl rfl)
theorem dX2_claims_3 : decode cX2_claims 3 = .ok (.istore_n 3, 1) := dk_62 (dk_at dksX2_claims_0 3 rfl rfl)
theorem dX2_claims_4 : decode cX2_claims 4 = .ok (.iload_n 3, 1) := dk_29 (dk_at dksX2_claims_0 4 rfl rfl)
theorem dX2_claims_5 : decode cX2_claims 5 = .ok (.aload_n 0, 1) := dk_42 (dk_at dksX2_claims_0 5 rfl rfl)
theorem dX2_claims_6 : decode cX2_claims 6 = .ok (.getfield 19, 3) := dk_180 0 19 (dk_at dksX2_claims_0 6 rfl rfl)
theorem dX2_claims_9 : decode cX2_claims 9 = .ok (.invokeinterface 48 1, 5) := by decide +kernel
theorem dX2_claims_14 : decode cX2_claims 14 = .ok (.if_icmp .ge 66, 3) := dk_162 0 66 (dk_at dksX2_claims_0 14 rfl rfl)
theorem dX2_claims_17 : decode cX2_claims 17 = .ok (.aload_n 0, 1) := dk_42 (dk_at dksX2_claims_0 17 rfl rfl)
theorem dX2_claims_18 : decode cX2_claims 18 = .ok (.iload_n 3, 1) := dk_29 (dk_at dksX2_claims_0 18 rfl rfl)
theorem dX2_claims_19 : decode cX2_claims 19 = .ok (.invokevirtual 54, 3) := dk_182 0 54 (dk_at dksX2_claims_0 19 rfl rfl)
theorem dX2_claims_22 : decode cX2_claims 22 = .ok (.astore 4, 2) := dk_58 4 (dk_at dksX2_claims_0 22 rfl rfl)
theorem dX2_claims_24 : decode cX2_claims 24 = .ok (.aload 4, 2) := dk_25 4 (dk_at dksX2_claims_1 0 rfl rfl)
theorem dX2_claims_26 : decode cX2_claims 26 = .ok (.getfield 163, 3) := dk_180 0 163 (dk_at dksX2_claims_1 2 rfl rfl)
theorem dX2_claims_29 : decode cX2_claims 29 = .ok (.iload_n 1, 1) := dk_27 (dk_at dksX2_claims_1 5 rfl rfl)
theorem dX2_claims_30 : decode cX2_claims 30 = .ok (.if_icmp .ne 44, 3) := dk_160 0 44 (dk_at dksX2_claims_1 6 rfl rfl)
theorem dX2_claims_33 : decode cX2_claims 33 = .ok (.aload 4, 2) := dk_25 4 (dk_at dksX2_claims_1 9 rfl rfl)
theorem dX2_claims_35 : decode cX2_claims 35 = .ok (.getfield 99, 3) := dk_180 0 99 (dk_at dksX2_claims_1 11 rfl rfl)
theorem dX2_claims_38 : decode cX2_claims 38 = .ok (.iconst 1, 1) := dk_4 (dk_at dksX2_claims_1 14 rfl rfl)
theorem dX2_claims_39 : decode cX2_claims 39 = .ok (.if_icmp .ne 35, 3) := dk_160 0 35 (dk_at dksX2_claims_1 15 rfl rfl)
theorem dX2_claims_42 : decode cX2_claims 42 = .ok (.aload 4, 2) := dk_25 4 (dk_at dksX2_claims_1 18 rfl rfl)
theorem dX2_claims_44 : decode cX2_claims 44 = .ok (.getfield 166, 3) := dk_180 0 166 (dk_at dksX2_claims_1 20 rfl rfl)
theorem dX2_claims_47 : decode cX2_claims 47 = .ok (.ifCond .ne 27, 3) := dk_154 0 27 (dk_at dksX2_claims_2 0 rfl rfl)
theorem dX2_claims_50 : decode cX2_claims 50 = .ok (.aload_n 0, 1) := dk_42 (dk_at dksX2_claims_2 3 rfl rfl)
theorem dX2_claims_51 : decode cX2_claims 51 = .ok (.getfield 68, 3) := dk_180 0 68 (dk_at dksX2_claims_2 4 rfl rfl)
theorem dX2_claims_54 : decode cX2_claims 54 = .ok (.aload 4, 2) := dk_25 4 (dk_at dksX2_claims_2 7 rfl rfl)
theorem dX2_claims_56 : decode cX2_claims 56 = .ok (.getfield 157, 3) := dk_180 0 157 (dk_at dksX2_claims_2 9 rfl rfl)
theorem dX2_claims_59 : decode cX2_claims 59 = .ok (.if_icmp .le 6, 3) := dk_164 0 6 (dk_at dksX2_claims_2 12 rfl rfl)
theorem dX2_claims_62 : decode cX2_claims 62 = .ok (.goto 12, 3) := dk_167 0 12 (dk_at dksX2_claims_2 15 rfl rfl)
theorem dX2_claims_65 : decode cX2_claims 65 = .ok (.aload 4, 2) := dk_25 4 (dk_at dksX2_claims_2 18 rfl rfl)
theorem dX2_claims_67 : decode cX2_claims 67 = .ok (.iconst 1, 1) := dk_4 (dk_at dksX2_claims_2 20 rfl rfl)
theorem dX2_claims_68 : decode cX2_claims 68 = .ok (.putfield 166, 3) := dk_181 0 166 (dk_at dksX2_claims_2 21 rfl rfl)
theorem dX2_claims_71 : decode cX2_claims 71 = .ok (.iinc 2 1, 3) := dk_132 2 1 (dk_at dksX2_claims_3 0 rfl rfl)
theorem dX2_claims_74 : decode cX2_claims 74 = .ok (.iinc 3 1, 3) := dk_132 3 1 (dk_at dksX2_claims_3 3 rfl rfl)
theorem dX2_claims_77 : decode cX2_claims 77 = .ok (.goto (-73), 3) := dk_167 255 183 (dk_at dksX2_claims_3 6 rfl rfl)
theorem dX2_claims_80 : decode cX2_claims 80 = .ok (.aload_n 0, 1) := dk_42 (dk_at dksX2_claims_3 9 rfl rfl)
theorem dX2_claims_81 : decode cX2_claims 81 = .ok (.getfield 40, 3) := dk_180 0 40 (dk_at dksX2_claims_3 10 rfl rfl)
theorem dX2_claims_84 : decode cX2_claims 84 = .ok (.bipush 6, 2) := dk_16 6 (dk_at dksX2_claims_3 13 rfl rfl)
theorem dX2_claims_86 : decode cX2_claims 86 = .ok (.dup2, 1) := dk_92 (dk_at dksX2_claims_3 15 rfl rfl)
theorem dX2_claims_87 : decode cX2_claims 87 = .ok (.iaload, 1) := dk_46 (dk_at dksX2_claims_3 16 rfl rfl)
theorem dX2_claims_88 : decode cX2_claims 88 = .ok (.iload_n 2, 1) := dk_28 (dk_at dksX2_claims_3 17 rfl rfl)
theorem dX2_claims_89 : decode cX2_claims 89 = .ok (.iadd, 1) := dk_96 (dk_at dksX2_claims_3 18 rfl rfl)
theorem dX2_claims_90 : decode cX2_claims 90 = .ok (.iastore, 1) := dk_79 (dk_at dksX2_claims_3 19 rfl rfl)
theorem dX2_claims_91 : decode cX2_claims 91 = .ok (.iload_n 2, 1) := dk_28 (dk_at dksX2_claims_3 20 rfl rfl)
theorem dX2_claims_92 : decode cX2_claims 92 = .ok (.ifCond .ne 8, 3) := dk_154 0 8 (dk_at dksX2_claims_3 21 rfl rfl)
theorem dX2_claims_95 : decode cX2_claims 95 = .ok (.bipush (-2), 2) := dk_16 254 (dk_at dksX2_claims_4 0 rfl rfl)
theorem dX2_claims_97 : decode cX2_claims 97 = .ok (.goto 4, 3) := dk_167 0 4 (dk_at dksX2_claims_4 2 rfl rfl)
theorem dX2_claims_100 : decode cX2_claims 100 = .ok (.iload_n 2, 1) := dk_28 (dk_at dksX2_claims_4 5 rfl rfl)
theorem dX2_claims_101 : decode cX2_claims 101 = .ok (.ireturn, 1) := dk_172 (dk_at dksX2_claims_4 6 rfl rfl)
abbrev cX2_passes : ByteArray := prog_14_method_24_code
def yX2_passes : MethodName := ⟨RX2, "passes", "(I)I"⟩
def dkwX2_passes_3 : List UInt8 := [167, 255, 223, 132, 3, 1, 167, 255, 199, 28, 172]
abbrev dktX2_passes_3 : List UInt8 := dkwX2_passes_3 ++ []
def dkwX2_passes_2 : List UInt8 := [162, 0, 25, 28, 42, 42, 21, 4, 182, 0, 54, 182, 0, 221, 184, 0, 95, 96, 61, 132, 4, 1]
abbrev dktX2_passes_2 : List UInt8 := dkwX2_passes_2 ++ dktX2_passes_3
def dkwX2_passes_1 : List UInt8 := [42, 89, 180, 0, 68, 4, 96, 181, 0, 68, 3, 54, 4, 21, 4, 42, 180, 0, 19, 185, 0, 48, 1, 0]
abbrev dktX2_passes_1 : List UInt8 := dkwX2_passes_1 ++ dktX2_passes_2
def dkwX2_passes_0 : List UInt8 := [42, 180, 0, 68, 27, 96, 17, 39, 15, 164, 0, 6, 16, 254, 172, 3, 61, 3, 62, 29, 27, 162, 0, 58]
abbrev dktX2_passes_0 : List UInt8 := dkwX2_passes_0 ++ dktX2_passes_1
theorem dksX2_passes_0 : cX2_passes.data.toList.drop 0 = dktX2_passes_0 := by decide +kernel
theorem dksX2_passes_1 : cX2_passes.data.toList.drop 24 = dktX2_passes_1 := dk_seg dksX2_passes_0 24 rfl rfl
theorem dksX2_passes_2 : cX2_passes.data.toList.drop 48 = dktX2_passes_2 := dk_seg dksX2_passes_1 24 rfl rfl
theorem dksX2_passes_3 : cX2_passes.data.toList.drop 70 = dktX2_passes_3 := dk_seg dksX2_passes_2 22 rfl rfl
theorem dX2_passes_0 : decode cX2_passes 0 = .ok (.aload_n 0, 1) := dk_42 (dk_at dksX2_passes_0 0 rfl rfl)
theorem dX2_passes_1 : decode cX2_passes 1 = .ok (.getfield 68, 3) := dk_180 0 68 (dk_at dksX2_passes_0 1 rfl rfl)
theorem dX2_passes_4 : decode cX2_passes 4 = .ok (.iload_n 1, 1) := dk_27 (dk_at dksX2_passes_0 4 rfl rfl)
theorem dX2_passes_5 : decode cX2_passes 5 = .ok (.iadd, 1) := dk_96 (dk_at dksX2_passes_0 5 rfl rfl)
theorem dX2_passes_6 : decode cX2_passes 6 = .ok (.sipush 9999, 3) := dk_17 39 15 (dk_at dksX2_passes_0 6 rfl rfl)
theorem dX2_passes_9 : decode cX2_passes 9 = .ok (.if_icmp .le 6, 3) := dk_164 0 6 (dk_at dksX2_passes_0 9 rfl rfl)
theorem dX2_passes_12 : decode cX2_passes 12 = .ok (.bipush (-2), 2) := dk_16 254 (dk_at dksX2_passes_0 12 rfl rfl)
theorem dX2_passes_14 : decode cX2_passes 14 = .ok (.ireturn, 1) := dk_172 (dk_at dksX2_passes_0 14 rfl rfl)
theorem dX2_passes_15 : decode cX2_passes 15 = .ok (.iconst 0, 1) := dk_3 (dk_at dksX2_passes_0 15 rfl rfl)
theorem dX2_passes_16 : decode cX2_passes 16 = .ok (.istore_n 2, 1) := dk_61 (dk_at dksX2_passes_0 16 rfl rfl)
theorem dX2_passes_17 : decode cX2_passes 17 = .ok (.iconst 0, 1) := dk_3 (dk_at dksX2_passes_0 17 rfl rfl)
theorem dX2_passes_18 : decode cX2_passes 18 = .ok (.istore_n 3, 1) := dk_62 (dk_at dksX2_passes_0 18 rfl rfl)
theorem dX2_passes_19 : decode cX2_passes 19 = .ok (.iload_n 3, 1) := dk_29 (dk_at dksX2_passes_0 19 rfl rfl)
theorem dX2_passes_20 : decode cX2_passes 20 = .ok (.iload_n 1, 1) := dk_27 (dk_at dksX2_passes_0 20 rfl rfl)
theorem dX2_passes_21 : decode cX2_passes 21 = .ok (.if_icmp .ge 58, 3) := dk_162 0 58 (dk_at dksX2_passes_0 21 rfl rfl)
theorem dX2_passes_24 : decode cX2_passes 24 = .ok (.aload_n 0, 1) := dk_42 (dk_at dksX2_passes_1 0 rfl rfl)
theorem dX2_passes_25 : decode cX2_passes 25 = .ok (.dup, 1) := dk_89 (dk_at dksX2_passes_1 1 rfl rfl)
theorem dX2_passes_26 : decode cX2_passes 26 = .ok (.getfield 68, 3) := dk_180 0 68 (dk_at dksX2_passes_1 2 rfl rfl)
theorem dX2_passes_29 : decode cX2_passes 29 = .ok (.iconst 1, 1) := dk_4 (dk_at dksX2_passes_1 5 rfl rfl)
theorem dX2_passes_30 : decode cX2_passes 30 = .ok (.iadd, 1) := dk_96 (dk_at dksX2_passes_1 6 rfl rfl)
theorem dX2_passes_31 : decode cX2_passes 31 = .ok (.putfield 68, 3) := dk_181 0 68 (dk_at dksX2_passes_1 7 rfl rfl)
theorem dX2_passes_34 : decode cX2_passes 34 = .ok (.iconst 0, 1) := dk_3 (dk_at dksX2_passes_1 10 rfl rfl)
theorem dX2_passes_35 : decode cX2_passes 35 = .ok (.istore 4, 2) := dk_54 4 (dk_at dksX2_passes_1 11 rfl rfl)
theorem dX2_passes_37 : decode cX2_passes 37 = .ok (.iload 4, 2) := dk_21 4 (dk_at dksX2_passes_1 13 rfl rfl)
theorem dX2_passes_39 : decode cX2_passes 39 = .ok (.aload_n 0, 1) := dk_42 (dk_at dksX2_passes_1 15 rfl rfl)
theorem dX2_passes_40 : decode cX2_passes 40 = .ok (.getfield 19, 3) := dk_180 0 19 (dk_at dksX2_passes_1 16 rfl rfl)
theorem dX2_passes_43 : decode cX2_passes 43 = .ok (.invokeinterface 48 1, 5) := by decide +kernel
theorem dX2_passes_48 : decode cX2_passes 48 = .ok (.if_icmp .ge 25, 3) := dk_162 0 25 (dk_at dksX2_passes_2 0 rfl rfl)
theorem dX2_passes_51 : decode cX2_passes 51 = .ok (.iload_n 2, 1) := dk_28 (dk_at dksX2_passes_2 3 rfl rfl)
theorem dX2_passes_52 : decode cX2_passes 52 = .ok (.aload_n 0, 1) := dk_42 (dk_at dksX2_passes_2 4 rfl rfl)
theorem dX2_passes_53 : decode cX2_passes 53 = .ok (.aload_n 0, 1) := dk_42 (dk_at dksX2_passes_2 5 rfl rfl)
theorem dX2_passes_54 : decode cX2_passes 54 = .ok (.iload 4, 2) := dk_21 4 (dk_at dksX2_passes_2 6 rfl rfl)
theorem dX2_passes_56 : decode cX2_passes 56 = .ok (.invokevirtual 54, 3) := dk_182 0 54 (dk_at dksX2_passes_2 8 rfl rfl)
theorem dX2_passes_59 : decode cX2_passes 59 = .ok (.invokevirtual 221, 3) := dk_182 0 221 (dk_at dksX2_passes_2 11 rfl rfl)
theorem dX2_passes_62 : decode cX2_passes 62 = .ok (.invokestatic 95, 3) := dk_184 0 95 (dk_at dksX2_passes_2 14 rfl rfl)
theorem dX2_passes_65 : decode cX2_passes 65 = .ok (.iadd, 1) := dk_96 (dk_at dksX2_passes_2 17 rfl rfl)
theorem dX2_passes_66 : decode cX2_passes 66 = .ok (.istore_n 2, 1) := dk_61 (dk_at dksX2_passes_2 18 rfl rfl)
theorem dX2_passes_67 : decode cX2_passes 67 = .ok (.iinc 4 1, 3) := dk_132 4 1 (dk_at dksX2_passes_2 19 rfl rfl)
theorem dX2_passes_70 : decode cX2_passes 70 = .ok (.goto (-33), 3) := dk_167 255 223 (dk_at dksX2_passes_3 0 rfl rfl)
theorem dX2_passes_73 : decode cX2_passes 73 = .ok (.iinc 3 1, 3) := dk_132 3 1 (dk_at dksX2_passes_3 3 rfl rfl)
theorem dX2_passes_76 : decode cX2_passes 76 = .ok (.goto (-57), 3) := dk_167 255 199 (dk_at dksX2_passes_3 6 rfl rfl)
theorem dX2_passes_79 : decode cX2_passes 79 = .ok (.iload_n 2, 1) := dk_28 (dk_at dksX2_passes_3 9 rfl rfl)
theorem dX2_passes_80 : decode cX2_passes 80 = .ok (.ireturn, 1) := dk_172 (dk_at dksX2_passes_3 10 rfl rfl)
abbrev cX2_washes : ByteArray := prog_14_method_23_code
def yX2_washes : MethodName := ⟨RX2, "washes", "(LWreckShares$Good;)Z"⟩
def dkwX2_washes_3 : List UInt8 := [8, 92, 46, 43, 180, 0, 160, 96, 79, 4, 172]
abbrev dktX2_washes_3 : List UInt8 := dkwX2_washes_3 ++ []
def dkwX2_washes_2 : List UInt8 := [181, 0, 99, 43, 180, 0, 109, 182, 0, 154, 42, 180, 0, 40, 7, 92, 46, 4, 96, 79, 42, 180, 0, 40]
abbrev dktX2_washes_2 : List UInt8 := dkwX2_washes_2 ++ dktX2_washes_3
def dkwX2_washes_1 : List UInt8 := [180, 0, 106, 4, 96, 181, 0, 106, 43, 180, 0, 106, 42, 180, 0, 27, 162, 0, 5, 3, 172, 43, 6]
abbrev dktX2_washes_1 : List UInt8 := dkwX2_washes_1 ++ dktX2_washes_2
def dkwX2_washes_0 : List UInt8 := [43, 180, 0, 99, 154, 0, 15, 42, 43, 42, 180, 0, 68, 182, 0, 91, 153, 0, 5, 3, 172, 43, 89]
abbrev dktX2_washes_0 : List UInt8 := dkwX2_washes_0 ++ dktX2_washes_1
theorem dksX2_washes_0 : cX2_washes.data.toList.drop 0 = dktX2_washes_0 := by decide +kernel
theorem dksX2_washes_1 : cX2_washes.data.toList.drop 23 = dktX2_washes_1 := dk_seg dksX2_washes_0 23 rfl rfl
theorem dksX2_washes_2 : cX2_washes.data.toList.drop 46 = dktX2_washes_2 := dk_seg dksX2_washes_1 23 rfl rfl
theorem dksX2_washes_3 : cX2_washes.data.toList.drop 70 = dktX2_washes_3 := dk_seg dksX2_washes_2 24 rfl rfl
theorem dX2_washes_0 : decode cX2_washes 0 = .ok (.aload_n 1, 1) := dk_43 (dk_at dksX2_washes_0 0 rfl rfl)
theorem dX2_washes_1 : decode cX2_washes 1 = .ok (.getfield 99, 3) := dk_180 0 99 (dk_at dksX2_washes_0 1 rfl rfl)
theorem dX2_washes_4 : decode cX2_washes 4 = .ok (.ifCond .ne 15, 3) := dk_154 0 15 (dk_at dksX2_washes_0 4 rfl rfl)
theorem dX2_washes_7 : decode cX2_washes 7 = .ok (.aload_n 0, 1) := dk_42 (dk_at dksX2_washes_0 7 rfl rfl)
theorem dX2_washes_8 : decode cX2_washes 8 = .ok (.aload_n 1, 1) := dk_43 (dk_at dksX2_washes_0 8 rfl rfl)
theorem dX2_washes_9 : decode cX2_washes 9 = .ok (.aload_n 0, 1) := dk_42 (dk_at dksX2_washes_0 9 rfl rfl)
theorem dX2_washes_10 : decode cX2_washes 10 = .ok (.getfield 68, 3) := dk_180 0 68 (dk_at dksX2_washes_0 10 rfl rfl)
theorem dX2_washes_13 : decode cX2_washes 13 = .ok (.invokevirtual 91, 3) := dk_182 0 91 (dk_at dksX2_washes_0 13 rfl rfl)
theorem dX2_washes_16 : decode cX2_washes 16 = .ok (.ifCond .eq 5, 3) := dk_153 0 5 (dk_at dksX2_washes_0 16 rfl rfl)
theorem dX2_washes_19 : decode cX2_washes 19 = .ok (.iconst 0, 1) := dk_3 (dk_at dksX2_washes_0 19 rfl rfl)
theorem dX2_washes_20 : decode cX2_washes 20 = .ok (.ireturn, 1) := dk_172 (dk_at dksX2_washes_0 20 rfl rfl)
theorem dX2_washes_21 : decode cX2_washes 21 = .ok (.aload_n 1, 1) := dk_43 (dk_at dksX2_washes_0 21 rfl rfl)
theorem dX2_washes_22 : decode cX2_washes 22 = .ok (.dup, 1) := dk_89 (dk_at dksX2_washes_0 22 rfl rfl)
theorem dX2_washes_23 : decode cX2_washes 23 = .ok (.getfield 106, 3) := dk_180 0 106 (dk_at dksX2_washes_1 0 rfl rfl)
theorem dX2_washes_26 : decode cX2_washes 26 = .ok (.iconst 1, 1) := dk_4 (dk_at dksX2_washes_1 3 rfl rfl)
theorem dX2_washes_27 : decode cX2_washes 27 = .ok (.iadd, 1) := dk_96 (dk_at dksX2_washes_1 4 rfl rfl)
theorem dX2_washes_28 : decode cX2_washes 28 = .ok (.putfield 106, 3) := dk_181 0 106 (dk_at dksX2_washes_1 5 rfl rfl)
theorem dX2_washes_31 : decode cX2_washes 31 = .ok (.aload_n 1, 1) := dk_43 (dk_at dksX2_washes_1 8 rfl rfl)
theorem dX2_washes_32 : decode cX2_washes 32 = .ok (.getfield 106, 3) := dk_180 0 106 (dk_at dksX2_washes_1 9 rfl rfl)
theorem dX2_washes_35 : decode cX2_washes 35 = .ok (.aload_n 0, 1) := dk_42 (dk_at dksX2_washes_1 12 rfl rfl)
theorem dX2_washes_36 : decode cX2_washes 36 = .ok (.getfield 27, 3) := dk_180 0 27 (dk_at dksX2_washes_1 13 rfl rfl)
theorem dX2_washes_39 : decode cX2_washes 39 = .ok (.if_icmp .ge 5, 3) := dk_162 0 5 (dk_at dksX2_washes_1 16 rfl rfl)
theorem dX2_washes_42 : decode cX2_washes 42 = .ok (.iconst 0, 1) := dk_3 (dk_at dksX2_washes_1 19 rfl rfl)
theorem dX2_washes_43 : decode cX2_washes 43 = .ok (.ireturn, 1) := dk_172 (dk_at dksX2_washes_1 20 rfl rfl)
theorem dX2_washes_44 : decode cX2_washes 44 = .ok (.aload_n 1, 1) := dk_43 (dk_at dksX2_washes_1 21 rfl rfl)
theorem dX2_washes_45 : decode cX2_washes 45 = .ok (.iconst 3, 1) := dk_6 (dk_at dksX2_washes_1 22 rfl rfl)
theorem dX2_washes_46 : decode cX2_washes 46 = .ok (.putfield 99, 3) := dk_181 0 99 (dk_at dksX2_washes_2 0 rfl rfl)
theorem dX2_washes_49 : decode cX2_washes 49 = .ok (.aload_n 1, 1) := dk_43 (dk_at dksX2_washes_2 3 rfl rfl)
theorem dX2_washes_50 : decode cX2_washes 50 = .ok (.getfield 109, 3) := dk_180 0 109 (dk_at dksX2_washes_2 4 rfl rfl)
theorem dX2_washes_53 : decode cX2_washes 53 = .ok (.invokevirtual 154, 3) := dk_182 0 154 (dk_at dksX2_washes_2 7 rfl rfl)
theorem dX2_washes_56 : decode cX2_washes 56 = .ok (.aload_n 0, 1) := dk_42 (dk_at dksX2_washes_2 10 rfl rfl)
theorem dX2_washes_57 : decode cX2_washes 57 = .ok (.getfield 40, 3) := dk_180 0 40 (dk_at dksX2_washes_2 11 rfl rfl)
theorem dX2_washes_60 : decode cX2_washes 60 = .ok (.iconst 4, 1) := dk_7 (dk_at dksX2_washes_2 14 rfl rfl)
theorem dX2_washes_61 : decode cX2_washes 61 = .ok (.dup2, 1) := dk_92 (dk_at dksX2_washes_2 15 rfl rfl)
theorem dX2_washes_62 : decode cX2_washes 62 = .ok (.iaload, 1) := dk_46 (dk_at dksX2_washes_2 16 rfl rfl)
theorem dX2_washes_63 : decode cX2_washes 63 = .ok (.iconst 1, 1) := dk_4 (dk_at dksX2_washes_2 17 rfl rfl)
theorem dX2_washes_64 : decode cX2_washes 64 = .ok (.iadd, 1) := dk_96 (dk_at dksX2_washes_2 18 rfl rfl)
theorem dX2_washes_65 : decode cX2_washes 65 = .ok (.iastore, 1) := dk_79 (dk_at dksX2_washes_2 19 rfl rfl)
theorem dX2_washes_66 : decode cX2_washes 66 = .ok (.aload_n 0, 1) := dk_42 (dk_at dksX2_washes_2 20 rfl rfl)
theorem dX2_washes_67 : decode cX2_washes 67 = .ok (.getfield 40, 3) := dk_180 0 40 (dk_at dksX2_washes_2 21 rfl rfl)
theorem dX2_washes_70 : decode cX2_washes 70 = .ok (.iconst 5, 1) := dk_8 (dk_at dksX2_washes_3 0 rfl rfl)
theorem dX2_washes_71 : decode cX2_washes 71 = .ok (.dup2, 1) := dk_92 (dk_at dksX2_washes_3 1 rfl rfl)
theorem dX2_washes_72 : decode cX2_washes 72 = .ok (.iaload, 1) := dk_46 (dk_at dksX2_washes_3 2 rfl rfl)
theorem dX2_washes_73 : decode cX2_washes 73 = .ok (.aload_n 1, 1) := dk_43 (dk_at dksX2_washes_3 3 rfl rfl)
theorem dX2_washes_74 : decode cX2_washes 74 = .ok (.getfield 160, 3) := dk_180 0 160 (dk_at dksX2_washes_3 4 rfl rfl)
theorem dX2_washes_77 : decode cX2_washes 77 = .ok (.iadd, 1) := dk_96 (dk_at dksX2_washes_3 7 rfl rfl)
theorem dX2_washes_78 : decode cX2_washes 78 = .ok (.iastore, 1) := dk_79 (dk_at dksX2_washes_3 8 rfl rfl)
theorem dX2_washes_79 : decode cX2_washes 79 = .ok (.iconst 1, 1) := dk_4 (dk_at dksX2_washes_3 9 rfl rfl)
theorem dX2_washes_80 : decode cX2_washes 80 = .ok (.ireturn, 1) := dk_172 (dk_at dksX2_washes_3 10 rfl rfl)
theorem q126 : (Jvm.Cond.initialized "WreckShares$Shore") ∈ lw_all := lw_g (lw_at lw_m1 2 rfl) rfl
theorem q185 : (Jvm.Cond.instantiable "WreckShares$Shore" (9 : Nat)) ∈ lw_all := lw_g (lw_at lw_m1 61 rfl) rfl
theorem q187 : (Jvm.Cond.instanceMethod ({ cls := "WreckShares$Shore", name := "<init>", desc := "(IIII)V" } : Jvm.MethodName)) ∈ lw_all := lw_g (lw_at lw_m1 63 rfl) rfl
theorem q188 : (Jvm.Cond.code ({ cls := "WreckShares$Shore", name := "<init>", desc := "(IIII)V" } : Jvm.MethodName) prog_14_method_1_code (5 : Nat) (Option.none : Option Jvm.ClassFile.FieldType)) ∈ lw_all := lw_g (lw_at lw_m1 64 rfl) rfl
theorem q189 : (Jvm.Cond.methodLink "WreckShares$Shore" (3 : Nat) ({ cls := "WreckShares$Shore", name := "<init>", desc := "(III[I[I[I)V" } : Jvm.MethodName)) ∈ lw_all := lw_g (lw_at lw_m1 65 rfl) rfl
theorem q190 : (Jvm.Cond.instanceMethod ({ cls := "WreckShares$Shore", name := "<init>", desc := "(III[I[I[I)V" } : Jvm.MethodName)) ∈ lw_all := lw_g (lw_at lw_m1 66 rfl) rfl
theorem q191 : (Jvm.Cond.code ({ cls := "WreckShares$Shore", name := "<init>", desc := "(III[I[I[I)V" } : Jvm.MethodName) prog_14_method_2_code (7 : Nat) (Option.none : Option Jvm.ClassFile.FieldType)) ∈ lw_all := lw_g (lw_at lw_m1 67 rfl) rfl
theorem q192 : (Jvm.Cond.methodLink "WreckShares$Shore" (9 : Nat) ({ cls := "java/lang/Object", name := "<init>", desc := "()V" } : Jvm.MethodName)) ∈ lw_all := lw_g (lw_at lw_m1 68 rfl) rfl
theorem q193 : (Jvm.Cond.classLink "WreckShares$Shore" (14 : Nat) "java/util/ArrayList") ∈ lw_all := lw_g (lw_at lw_m1 69 rfl) rfl
theorem q195 : (Jvm.Cond.methodLink "WreckShares$Shore" (16 : Nat) ({ cls := "java/util/ArrayList", name := "<init>", desc := "(I)V" } : Jvm.MethodName)) ∈ lw_all := lw_g (lw_at lw_m1 71 rfl) rfl
theorem q544 : (Jvm.Cond.fieldLink "WreckShares$Shore" (23 : Nat) "WreckShares$Shore" "period" "I") ∈ lw_all := lw_g (lw_at lw_m2 180 rfl) rfl
theorem q546 : (Jvm.Cond.fieldLink "WreckShares$Shore" (27 : Nat) "WreckShares$Shore" "stay" "I") ∈ lw_all := lw_g (lw_at lw_m2 182 rfl) rfl
theorem q548 : (Jvm.Cond.fieldLink "WreckShares$Shore" (30 : Nat) "WreckShares$Shore" "wait" "I") ∈ lw_all := lw_g (lw_at lw_m2 184 rfl) rfl
theorem q551 : (Jvm.Cond.fieldLink "WreckShares$Shore" (19 : Nat) "WreckShares$Shore" "goods" "Ljava/util/List;") ∈ lw_all := lw_g (lw_at lw_m2 187 rfl) rfl
theorem q554 : (Jvm.Cond.fieldLink "WreckShares$Shore" (33 : Nat) "WreckShares$Shore" "purses" "[I") ∈ lw_all := lw_g (lw_at lw_m2 190 rfl) rfl
theorem q556 : (Jvm.Cond.fieldLink "WreckShares$Shore" (37 : Nat) "WreckShares$Shore" "owners" "[I") ∈ lw_all := lw_g (lw_at lw_m2 192 rfl) rfl
theorem q558 : (Jvm.Cond.fieldLink "WreckShares$Shore" (40 : Nat) "WreckShares$Shore" "sums" "[I") ∈ lw_all := lw_g (lw_at lw_m2 194 rfl) rfl
theorem q560 : (Jvm.Cond.fieldLink "WreckShares$Shore" (68 : Nat) "WreckShares$Shore" "time" "I") ∈ lw_all := lw_g (lw_at lw_m2 196 rfl) rfl
theorem q562 : (Jvm.Cond.fieldLink "WreckShares$Shore" (71 : Nat) "WreckShares$Shore" "crown" "I") ∈ lw_all := lw_g (lw_at lw_m2 198 rfl) rfl
theorem q564 : (Jvm.Cond.laysFinal "WreckShares$Shore" "WreckShares$Shore" "period" "I") ∈ lw_all := lw_g (lw_at lw_m2 200 rfl) rfl
theorem q565 : (Jvm.Cond.soleField "WreckShares$Shore" "period") ∈ lw_all := lw_g (lw_at lw_m2 201 rfl) rfl
theorem q566 : (Jvm.Cond.laysFinal "WreckShares$Shore" "WreckShares$Shore" "stay" "I") ∈ lw_all := lw_g (lw_at lw_m2 202 rfl) rfl
theorem q567 : (Jvm.Cond.soleField "WreckShares$Shore" "stay") ∈ lw_all := lw_g (lw_at lw_m2 203 rfl) rfl
theorem q568 : (Jvm.Cond.laysFinal "WreckShares$Shore" "WreckShares$Shore" "wait" "I") ∈ lw_all := lw_g (lw_at lw_m2 204 rfl) rfl
theorem q569 : (Jvm.Cond.soleField "WreckShares$Shore" "wait") ∈ lw_all := lw_g (lw_at lw_m2 205 rfl) rfl
theorem q570 : (Jvm.Cond.laysFinal "WreckShares$Shore" "WreckShares$Shore" "goods" "Ljava/util/List;") ∈ lw_all := lw_g (lw_at lw_m2 206 rfl) rfl
theorem q571 : (Jvm.Cond.soleField "WreckShares$Shore" "goods") ∈ lw_all := lw_g (lw_at lw_m2 207 rfl) rfl
theorem q572 : (Jvm.Cond.laysFinal "WreckShares$Shore" "WreckShares$Shore" "purses" "[I") ∈ lw_all := lw_g (lw_at lw_m2 208 rfl) rfl
theorem q573 : (Jvm.Cond.soleField "WreckShares$Shore" "purses") ∈ lw_all := lw_g (lw_at lw_m2 209 rfl) rfl
theorem q574 : (Jvm.Cond.laysFinal "WreckShares$Shore" "WreckShares$Shore" "owners" "[I") ∈ lw_all := lw_g (lw_at lw_m2 210 rfl) rfl
theorem q575 : (Jvm.Cond.soleField "WreckShares$Shore" "owners") ∈ lw_all := lw_g (lw_at lw_m2 211 rfl) rfl
theorem q576 : (Jvm.Cond.laysFinal "WreckShares$Shore" "WreckShares$Shore" "sums" "[I") ∈ lw_all := lw_g (lw_at lw_m2 212 rfl) rfl
theorem q577 : (Jvm.Cond.soleField "WreckShares$Shore" "sums") ∈ lw_all := lw_g (lw_at lw_m2 213 rfl) rfl
theorem q578 : (Jvm.Cond.lays "WreckShares$Shore" "WreckShares$Shore" "time" "I") ∈ lw_all := lw_g (lw_at lw_m2 214 rfl) rfl
theorem q579 : (Jvm.Cond.soleField "WreckShares$Shore" "time") ∈ lw_all := lw_g (lw_at lw_m2 215 rfl) rfl
theorem q580 : (Jvm.Cond.lays "WreckShares$Shore" "WreckShares$Shore" "crown" "I") ∈ lw_all := lw_g (lw_at lw_m2 216 rfl) rfl
theorem q581 : (Jvm.Cond.soleField "WreckShares$Shore" "crown") ∈ lw_all := lw_g (lw_at lw_m2 217 rfl) rfl
theorem q582 : (Jvm.Cond.superclass "WreckShares$Shore" "java/lang/Object") ∈ lw_all := lw_g (lw_at lw_m2 218 rfl) rfl
theorem q623 : (Jvm.Cond.fieldLinkNest "WreckShares$Shore" (138 : Nat) "WreckShares$Good" "number" "I" "WreckShares") ∈ lw_tbl := lw_at lw_m3 19 rfl
theorem q626 : (Jvm.Cond.fieldLinkNest "WreckShares$Shore" (160 : Nat) "WreckShares$Good" "value" "I" "WreckShares") ∈ lw_tbl := lw_at lw_m3 22 rfl
theorem q629 : (Jvm.Cond.fieldLinkNest "WreckShares$Shore" (163 : Nat) "WreckShares$Good" "mark" "I" "WreckShares") ∈ lw_tbl := lw_at lw_m3 25 rfl
theorem q632 : (Jvm.Cond.fieldLinkNest "WreckShares$Shore" (88 : Nat) "WreckShares$Good" "height" "I" "WreckShares") ∈ lw_tbl := lw_at lw_m3 28 rfl
theorem q635 : (Jvm.Cond.fieldLinkNest "WreckShares$Shore" (141 : Nat) "WreckShares$Good" "need" "I" "WreckShares") ∈ lw_tbl := lw_at lw_m3 31 rfl
theorem q640 : (Jvm.Cond.fieldLinkNest "WreckShares$Shore" (109 : Nat) "WreckShares$Good" "rope" "Ljava/util/LinkedList;" "WreckShares") ∈ lw_tbl := lw_at lw_m3 36 rfl
theorem q643 : (Jvm.Cond.fieldLinkNest "WreckShares$Shore" (151 : Nat) "WreckShares$Good" "crew" "[I" "WreckShares") ∈ lw_tbl := lw_at lw_m3 39 rfl
theorem q647 : (Jvm.Cond.fieldLinkNest "WreckShares$Shore" (99 : Nat) "WreckShares$Good" "state" "I" "WreckShares") ∈ lw_tbl := lw_at lw_m3 43 rfl
theorem q650 : (Jvm.Cond.fieldLinkNest "WreckShares$Shore" (106 : Nat) "WreckShares$Good" "washed" "I" "WreckShares") ∈ lw_tbl := lw_at lw_m3 46 rfl
theorem q653 : (Jvm.Cond.fieldLinkNest "WreckShares$Shore" (157 : Nat) "WreckShares$Good" "due" "I" "WreckShares") ∈ lw_tbl := lw_at lw_m3 49 rfl
theorem q656 : (Jvm.Cond.fieldLinkNest "WreckShares$Shore" (166 : Nat) "WreckShares$Good" "isClaimed" "Z" "WreckShares") ∈ lw_tbl := lw_at lw_m3 52 rfl
theorem q723 : (Jvm.Cond.selects "WreckShares$Shore" ({ cls := "java/lang/Object", name := "getClass", desc := "()Ljava/lang/Class;" } : Jvm.MethodName) ({ cls := "java/lang/Object", name := "getClass", desc := "()Ljava/lang/Class;" } : Jvm.MethodName)) ∈ lw_all := lw_g (lw_at lw_m3 119 rfl) rfl
theorem q1038 : (Jvm.Cond.instanceMethod ({ cls := "WreckShares$Shore", name := "good", desc := "(I)LWreckShares$Good;" } : Jvm.MethodName)) ∈ lw_all := lw_g (lw_at lw_m4 194 rfl) rfl
theorem q1039 : (Jvm.Cond.selects "WreckShares$Shore" ({ cls := "WreckShares$Shore", name := "good", desc := "(I)LWreckShares$Good;" } : Jvm.MethodName) ({ cls := "WreckShares$Shore", name := "good", desc := "(I)LWreckShares$Good;" } : Jvm.MethodName)) ∈ lw_all := lw_g (lw_at lw_m4 195 rfl) rfl
theorem q1040 : (Jvm.Cond.code ({ cls := "WreckShares$Shore", name := "good", desc := "(I)LWreckShares$Good;" } : Jvm.MethodName) prog_14_method_4_code (2 : Nat) (Option.some (Jvm.ClassFile.FieldType.object "WreckShares$Good"))) ∈ lw_all := lw_g (lw_at lw_m4 196 rfl) rfl
theorem q1041 : (Jvm.Cond.interfaceEntry "WreckShares$Shore" (74 : Nat)) ∈ lw_tbl := lw_at lw_m4 197 rfl
theorem q1042 : (Jvm.Cond.methodLink "WreckShares$Shore" (74 : Nat) ({ cls := "java/util/List", name := "get", desc := "(I)Ljava/lang/Object;" } : Jvm.MethodName)) ∈ lw_all := lw_g (lw_at lw_m4 198 rfl) rfl
theorem q1074 : (Jvm.Cond.classLink "WreckShares$Shore" (59 : Nat) "WreckShares$Good") ∈ lw_all := lw_g (lw_at lw_m4 230 rfl) rfl
theorem q1282 : (Jvm.Cond.instanceMethod ({ cls := "WreckShares$Shore", name := "lostIn", desc := "(LWreckShares$Good;)I" } : Jvm.MethodName)) ∈ lw_all := lw_g (lw_at lw_m5 198 rfl) rfl
theorem q1283 : (Jvm.Cond.selects "WreckShares$Shore" ({ cls := "WreckShares$Shore", name := "lostIn", desc := "(LWreckShares$Good;)I" } : Jvm.MethodName) ({ cls := "WreckShares$Shore", name := "lostIn", desc := "(LWreckShares$Good;)I" } : Jvm.MethodName)) ∈ lw_all := lw_g (lw_at lw_m5 199 rfl) rfl
theorem q1284 : (Jvm.Cond.code ({ cls := "WreckShares$Shore", name := "lostIn", desc := "(LWreckShares$Good;)I" } : Jvm.MethodName) prog_14_method_9_code (4 : Nat) (Option.some Jvm.ClassFile.FieldType.int)) ∈ lw_all := lw_g (lw_at lw_m5 200 rfl) rfl
theorem q1285 : (Jvm.Cond.methodLink "WreckShares$Shore" (102 : Nat) ({ cls := "WreckShares$Shore", name := "wetTicks", desc := "(LWreckShares$Good;)I" } : Jvm.MethodName)) ∈ lw_all := lw_g (lw_at lw_m5 201 rfl) rfl
theorem q1286 : (Jvm.Cond.instanceMethod ({ cls := "WreckShares$Shore", name := "wetTicks", desc := "(LWreckShares$Good;)I" } : Jvm.MethodName)) ∈ lw_all := lw_g (lw_at lw_m5 202 rfl) rfl
theorem q1287 : (Jvm.Cond.selects "WreckShares$Shore" ({ cls := "WreckShares$Shore", name := "wetTicks", desc := "(LWreckShares$Good;)I" } : Jvm.MethodName) ({ cls := "WreckShares$Shore", name := "wetTicks", desc := "(LWreckShares$Good;)I" } : Jvm.MethodName)) ∈ lw_all := lw_g (lw_at lw_m5 203 rfl) rfl
theorem q1288 : (Jvm.Cond.code ({ cls := "WreckShares$Shore", name := "wetTicks", desc := "(LWreckShares$Good;)I" } : Jvm.MethodName) prog_14_method_8_code (4 : Nat) (Option.some Jvm.ClassFile.FieldType.int)) ∈ lw_all := lw_g (lw_at lw_m5 204 rfl) rfl
theorem q1289 : (Jvm.Cond.methodLink "WreckShares$Shore" (91 : Nat) ({ cls := "WreckShares$Shore", name := "isDry", desc := "(LWreckShares$Good;I)Z" } : Jvm.MethodName)) ∈ lw_all := lw_g (lw_at lw_m5 205 rfl) rfl
theorem q1290 : (Jvm.Cond.instanceMethod ({ cls := "WreckShares$Shore", name := "isDry", desc := "(LWreckShares$Good;I)Z" } : Jvm.MethodName)) ∈ lw_all := lw_g (lw_at lw_m5 206 rfl) rfl
theorem q1291 : (Jvm.Cond.selects "WreckShares$Shore" ({ cls := "WreckShares$Shore", name := "isDry", desc := "(LWreckShares$Good;I)Z" } : Jvm.MethodName) ({ cls := "WreckShares$Shore", name := "isDry", desc := "(LWreckShares$Good;I)Z" } : Jvm.MethodName)) ∈ lw_all := lw_g (lw_at lw_m5 207 rfl) rfl
theorem q1292 : (Jvm.Cond.code ({ cls := "WreckShares$Shore", name := "isDry", desc := "(LWreckShares$Good;I)Z" } : Jvm.MethodName) prog_14_method_6_code (3 : Nat) (Option.some Jvm.ClassFile.FieldType.boolean)) ∈ lw_all := lw_g (lw_at lw_m5 208 rfl) rfl
theorem q1293 : (Jvm.Cond.methodLink "WreckShares$Shore" (84 : Nat) ({ cls := "WreckShares$Shore", name := "level", desc := "(I)I" } : Jvm.MethodName)) ∈ lw_all := lw_g (lw_at lw_m5 209 rfl) rfl
theorem q1294 : (Jvm.Cond.instanceMethod ({ cls := "WreckShares$Shore", name := "level", desc := "(I)I" } : Jvm.MethodName)) ∈ lw_all := lw_g (lw_at lw_m5 210 rfl) rfl
theorem q1295 : (Jvm.Cond.selects "WreckShares$Shore" ({ cls := "WreckShares$Shore", name := "level", desc := "(I)I" } : Jvm.MethodName) ({ cls := "WreckShares$Shore", name := "level", desc := "(I)I" } : Jvm.MethodName)) ∈ lw_all := lw_g (lw_at lw_m5 211 rfl) rfl
theorem q1296 : (Jvm.Cond.code ({ cls := "WreckShares$Shore", name := "level", desc := "(I)I" } : Jvm.MethodName) prog_14_method_5_code (3 : Nat) (Option.some Jvm.ClassFile.FieldType.int)) ∈ lw_all := lw_g (lw_at lw_m5 212 rfl) rfl
theorem q1297 : (Jvm.Cond.methodLink "WreckShares$Shore" (78 : Nat) ({ cls := "java/lang/Math", name := "min", desc := "(II)I" } : Jvm.MethodName)) ∈ lw_all := lw_g (lw_at lw_m5 213 rfl) rfl
theorem q1298 : (Jvm.Cond.methodLinkNest "WreckShares$Shore" (95 : Nat) ({ cls := "WreckShares", name := "asInt", desc := "(Z)I" } : Jvm.MethodName) "WreckShares") ∈ lw_tbl := lw_at lw_m5 214 rfl
theorem q1317 : (Jvm.Cond.instanceMethod ({ cls := "WreckShares$Shore", name := "freeFinders", desc := "()I" } : Jvm.MethodName)) ∈ lw_all := lw_g (lw_at lw_m5 233 rfl) rfl
theorem q1318 : (Jvm.Cond.selects "WreckShares$Shore" ({ cls := "WreckShares$Shore", name := "freeFinders", desc := "()I" } : Jvm.MethodName) ({ cls := "WreckShares$Shore", name := "freeFinders", desc := "()I" } : Jvm.MethodName)) ∈ lw_all := lw_g (lw_at lw_m5 234 rfl) rfl
theorem q1319 : (Jvm.Cond.code ({ cls := "WreckShares$Shore", name := "freeFinders", desc := "()I" } : Jvm.MethodName) prog_14_method_11_code (3 : Nat) (Option.some Jvm.ClassFile.FieldType.int)) ∈ lw_all := lw_g (lw_at lw_m5 235 rfl) rfl
theorem q1320 : (Jvm.Cond.methodLink "WreckShares$Shore" (124 : Nat) ({ cls := "WreckShares$Shore", name := "ropeOf", desc := "(I)LWreckShares$Good;" } : Jvm.MethodName)) ∈ lw_all := lw_g (lw_at lw_m5 236 rfl) rfl
theorem q1321 : (Jvm.Cond.instanceMethod ({ cls := "WreckShares$Shore", name := "ropeOf", desc := "(I)LWreckShares$Good;" } : Jvm.MethodName)) ∈ lw_all := lw_g (lw_at lw_m5 237 rfl) rfl
theorem q1322 : (Jvm.Cond.selects "WreckShares$Shore" ({ cls := "WreckShares$Shore", name := "ropeOf", desc := "(I)LWreckShares$Good;" } : Jvm.MethodName) ({ cls := "WreckShares$Shore", name := "ropeOf", desc := "(I)LWreckShares$Good;" } : Jvm.MethodName)) ∈ lw_all := lw_g (lw_at lw_m5 238 rfl) rfl
theorem q1323 : (Jvm.Cond.code ({ cls := "WreckShares$Shore", name := "ropeOf", desc := "(I)LWreckShares$Good;" } : Jvm.MethodName) prog_14_method_10_code (3 : Nat) (Option.some (Jvm.ClassFile.FieldType.object "WreckShares$Good"))) ∈ lw_all := lw_g (lw_at lw_m5 239 rfl) rfl
theorem q1324 : (Jvm.Cond.interfaceEntry "WreckShares$Shore" (48 : Nat)) ∈ lw_tbl := lw_at lw_m6 0 rfl
theorem q1325 : (Jvm.Cond.methodLink "WreckShares$Shore" (48 : Nat) ({ cls := "java/util/List", name := "size", desc := "()I" } : Jvm.MethodName)) ∈ lw_all := lw_g (lw_at lw_m6 1 rfl) rfl
theorem q1334 : (Jvm.Cond.methodLink "WreckShares$Shore" (54 : Nat) ({ cls := "WreckShares$Shore", name := "good", desc := "(I)LWreckShares$Good;" } : Jvm.MethodName)) ∈ lw_all := lw_g (lw_at lw_m6 10 rfl) rfl
theorem q1335 : (Jvm.Cond.methodLink "WreckShares$Shore" (113 : Nat) ({ cls := "java/lang/Integer", name := "valueOf", desc := "(I)Ljava/lang/Integer;" } : Jvm.MethodName)) ∈ lw_all := lw_g (lw_at lw_m6 11 rfl) rfl
theorem q1355 : (Jvm.Cond.methodLink "WreckShares$Shore" (119 : Nat) ({ cls := "java/util/LinkedList", name := "contains", desc := "(Ljava/lang/Object;)Z" } : Jvm.MethodName)) ∈ lw_all := lw_g (lw_at lw_m6 31 rfl) rfl
theorem q1378 : (Jvm.Cond.selects "WreckShares$Shore" ({ cls := "java/lang/Object", name := "equals", desc := "(Ljava/lang/Object;)Z" } : Jvm.MethodName) ({ cls := "java/lang/Object", name := "equals", desc := "(Ljava/lang/Object;)Z" } : Jvm.MethodName)) ∈ lw_all := lw_g (lw_at lw_m6 54 rfl) rfl
theorem q1428 : (Jvm.Cond.instanceMethod ({ cls := "WreckShares$Shore", name := "letsAll", desc := "()I" } : Jvm.MethodName)) ∈ lw_all := lw_g (lw_at lw_m6 104 rfl) rfl
theorem q1429 : (Jvm.Cond.selects "WreckShares$Shore" ({ cls := "WreckShares$Shore", name := "letsAll", desc := "()I" } : Jvm.MethodName) ({ cls := "WreckShares$Shore", name := "letsAll", desc := "()I" } : Jvm.MethodName)) ∈ lw_all := lw_g (lw_at lw_m6 105 rfl) rfl
theorem q1430 : (Jvm.Cond.code ({ cls := "WreckShares$Shore", name := "letsAll", desc := "()I" } : Jvm.MethodName) prog_14_method_14_code (3 : Nat) (Option.some Jvm.ClassFile.FieldType.int)) ∈ lw_all := lw_g (lw_at lw_m6 106 rfl) rfl
theorem q1431 : (Jvm.Cond.methodLink "WreckShares$Shore" (127 : Nat) ({ cls := "WreckShares$Shore", name := "lets", desc := "(I)I" } : Jvm.MethodName)) ∈ lw_all := lw_g (lw_at lw_m6 107 rfl) rfl
theorem q1432 : (Jvm.Cond.instanceMethod ({ cls := "WreckShares$Shore", name := "lets", desc := "(I)I" } : Jvm.MethodName)) ∈ lw_all := lw_g (lw_at lw_m6 108 rfl) rfl
theorem q1433 : (Jvm.Cond.selects "WreckShares$Shore" ({ cls := "WreckShares$Shore", name := "lets", desc := "(I)I" } : Jvm.MethodName) ({ cls := "WreckShares$Shore", name := "lets", desc := "(I)I" } : Jvm.MethodName)) ∈ lw_all := lw_g (lw_at lw_m6 109 rfl) rfl
theorem q1434 : (Jvm.Cond.code ({ cls := "WreckShares$Shore", name := "lets", desc := "(I)I" } : Jvm.MethodName) prog_14_method_13_code (4 : Nat) (Option.some Jvm.ClassFile.FieldType.int)) ∈ lw_all := lw_g (lw_at lw_m6 110 rfl) rfl
theorem q1435 : (Jvm.Cond.methodLink "WreckShares$Shore" (135 : Nat) ({ cls := "java/util/LinkedList", name := "removeFirstOccurrence", desc := "(Ljava/lang/Object;)Z" } : Jvm.MethodName)) ∈ lw_all := lw_g (lw_at lw_m6 111 rfl) rfl
theorem q1452 : (Jvm.Cond.instanceMethod ({ cls := "WreckShares$Shore", name := "copy", desc := "()LWreckShares$Shore;" } : Jvm.MethodName)) ∈ lw_all := lw_g (lw_at lw_m6 128 rfl) rfl
theorem q1453 : (Jvm.Cond.selects "WreckShares$Shore" ({ cls := "WreckShares$Shore", name := "copy", desc := "()LWreckShares$Shore;" } : Jvm.MethodName) ({ cls := "WreckShares$Shore", name := "copy", desc := "()LWreckShares$Shore;" } : Jvm.MethodName)) ∈ lw_all := lw_g (lw_at lw_m6 129 rfl) rfl
theorem q1454 : (Jvm.Cond.code ({ cls := "WreckShares$Shore", name := "copy", desc := "()LWreckShares$Shore;" } : Jvm.MethodName) prog_14_method_3_code (4 : Nat) (Option.some (Jvm.ClassFile.FieldType.object "WreckShares$Shore"))) ∈ lw_all := lw_g (lw_at lw_m6 130 rfl) rfl
theorem q1455 : (Jvm.Cond.classLink "WreckShares$Shore" (4 : Nat) "WreckShares$Shore") ∈ lw_all := lw_g (lw_at lw_m6 131 rfl) rfl
theorem q1456 : (Jvm.Cond.methodLink "WreckShares$Shore" (43 : Nat) ({ cls := "[I", name := "clone", desc := "()Ljava/lang/Object;" } : Jvm.MethodName)) ∈ lw_all := lw_g (lw_at lw_m6 132 rfl) rfl
theorem q1460 : (Jvm.Cond.classLink "WreckShares$Shore" (44 : Nat) "[I") ∈ lw_all := lw_g (lw_at lw_m6 136 rfl) rfl
theorem q1461 : (Jvm.Cond.methodLink "WreckShares$Shore" (58 : Nat) ({ cls := "WreckShares$Good", name := "copy", desc := "()LWreckShares$Good;" } : Jvm.MethodName)) ∈ lw_all := lw_g (lw_at lw_m6 137 rfl) rfl
theorem q1482 : (Jvm.Cond.interfaceEntry "WreckShares$Shore" (64 : Nat)) ∈ lw_tbl := lw_at lw_m6 158 rfl
theorem q1483 : (Jvm.Cond.methodLink "WreckShares$Shore" (64 : Nat) ({ cls := "java/util/List", name := "add", desc := "(Ljava/lang/Object;)Z" } : Jvm.MethodName)) ∈ lw_all := lw_g (lw_at lw_m6 159 rfl) rfl
theorem q1541 : (Jvm.Cond.instanceMethod ({ cls := "WreckShares$Shore", name := "dividesAll", desc := "()I" } : Jvm.MethodName)) ∈ lw_all := lw_g (lw_at lw_m6 217 rfl) rfl
theorem q1542 : (Jvm.Cond.selects "WreckShares$Shore" ({ cls := "WreckShares$Shore", name := "dividesAll", desc := "()I" } : Jvm.MethodName) ({ cls := "WreckShares$Shore", name := "dividesAll", desc := "()I" } : Jvm.MethodName)) ∈ lw_all := lw_g (lw_at lw_m6 218 rfl) rfl
theorem q1543 : (Jvm.Cond.code ({ cls := "WreckShares$Shore", name := "dividesAll", desc := "()I" } : Jvm.MethodName) prog_14_method_22_code (3 : Nat) (Option.some Jvm.ClassFile.FieldType.int)) ∈ lw_all := lw_g (lw_at lw_m6 219 rfl) rfl
theorem q1544 : (Jvm.Cond.methodLink "WreckShares$Shore" (218 : Nat) ({ cls := "WreckShares$Shore", name := "divides", desc := "(LWreckShares$Good;)I" } : Jvm.MethodName)) ∈ lw_all := lw_g (lw_at lw_m6 220 rfl) rfl
theorem q1545 : (Jvm.Cond.instanceMethod ({ cls := "WreckShares$Shore", name := "divides", desc := "(LWreckShares$Good;)I" } : Jvm.MethodName)) ∈ lw_all := lw_g (lw_at lw_m6 221 rfl) rfl
theorem q1546 : (Jvm.Cond.selects "WreckShares$Shore" ({ cls := "WreckShares$Shore", name := "divides", desc := "(LWreckShares$Good;)I" } : Jvm.MethodName) ({ cls := "WreckShares$Shore", name := "divides", desc := "(LWreckShares$Good;)I" } : Jvm.MethodName)) ∈ lw_all := lw_g (lw_at lw_m6 222 rfl) rfl
theorem q1547 : (Jvm.Cond.code ({ cls := "WreckShares$Shore", name := "divides", desc := "(LWreckShares$Good;)I" } : Jvm.MethodName) prog_14_method_21_code (5 : Nat) (Option.some Jvm.ClassFile.FieldType.int)) ∈ lw_all := lw_g (lw_at lw_m6 223 rfl) rfl
theorem q1548 : (Jvm.Cond.methodLink "WreckShares$Shore" (187 : Nat) ({ cls := "WreckShares$Shore", name := "divisionRefusal", desc := "(LWreckShares$Good;)I" } : Jvm.MethodName)) ∈ lw_all := lw_g (lw_at lw_m6 224 rfl) rfl
theorem q1549 : (Jvm.Cond.instanceMethod ({ cls := "WreckShares$Shore", name := "divisionRefusal", desc := "(LWreckShares$Good;)I" } : Jvm.MethodName)) ∈ lw_all := lw_g (lw_at lw_m6 225 rfl) rfl
theorem q1550 : (Jvm.Cond.selects "WreckShares$Shore" ({ cls := "WreckShares$Shore", name := "divisionRefusal", desc := "(LWreckShares$Good;)I" } : Jvm.MethodName) ({ cls := "WreckShares$Shore", name := "divisionRefusal", desc := "(LWreckShares$Good;)I" } : Jvm.MethodName)) ∈ lw_all := lw_g (lw_at lw_m6 226 rfl) rfl
theorem q1551 : (Jvm.Cond.code ({ cls := "WreckShares$Shore", name := "divisionRefusal", desc := "(LWreckShares$Good;)I" } : Jvm.MethodName) prog_14_method_19_code (2 : Nat) (Option.some Jvm.ClassFile.FieldType.int)) ∈ lw_all := lw_g (lw_at lw_m6 227 rfl) rfl
theorem q1552 : (Jvm.Cond.methodLink "WreckShares$Shore" (190 : Nat) ({ cls := "WreckShares$Good", name := "parts", desc := "()Ljava/util/List;" } : Jvm.MethodName)) ∈ lw_all := lw_g (lw_at lw_m6 228 rfl) rfl
theorem q1643 : (Jvm.Cond.interfaceEntry "WreckShares$Shore" (194 : Nat)) ∈ lw_tbl := lw_at lw_m7 79 rfl
theorem q1644 : (Jvm.Cond.methodLink "WreckShares$Shore" (194 : Nat) ({ cls := "java/util/List", name := "iterator", desc := "()Ljava/util/Iterator;" } : Jvm.MethodName)) ∈ lw_all := lw_g (lw_at lw_m7 80 rfl) rfl
theorem q1645 : (Jvm.Cond.interfaceEntry "WreckShares$Shore" (198 : Nat)) ∈ lw_tbl := lw_at lw_m7 81 rfl
theorem q1646 : (Jvm.Cond.methodLink "WreckShares$Shore" (198 : Nat) ({ cls := "java/util/Iterator", name := "hasNext", desc := "()Z" } : Jvm.MethodName)) ∈ lw_all := lw_g (lw_at lw_m7 82 rfl) rfl
theorem q1647 : (Jvm.Cond.interfaceEntry "WreckShares$Shore" (204 : Nat)) ∈ lw_tbl := lw_at lw_m7 83 rfl
theorem q1648 : (Jvm.Cond.methodLink "WreckShares$Shore" (204 : Nat) ({ cls := "java/util/Iterator", name := "next", desc := "()Ljava/lang/Object;" } : Jvm.MethodName)) ∈ lw_all := lw_g (lw_at lw_m7 84 rfl) rfl
theorem q1649 : (Jvm.Cond.classLink "WreckShares$Shore" (207 : Nat) "WreckShares$Part") ∈ lw_all := lw_g (lw_at lw_m7 85 rfl) rfl
theorem q1650 : (Jvm.Cond.methodLink "WreckShares$Shore" (209 : Nat) ({ cls := "WreckShares$Shore", name := "gives", desc := "(LWreckShares$Part;)V" } : Jvm.MethodName)) ∈ lw_all := lw_g (lw_at lw_m7 86 rfl) rfl
theorem q1651 : (Jvm.Cond.privateMethod ({ cls := "WreckShares$Shore", name := "gives", desc := "(LWreckShares$Part;)V" } : Jvm.MethodName)) ∈ lw_tbl := lw_at lw_m7 87 rfl
theorem q1652 : (Jvm.Cond.instanceMethod ({ cls := "WreckShares$Shore", name := "gives", desc := "(LWreckShares$Part;)V" } : Jvm.MethodName)) ∈ lw_all := lw_g (lw_at lw_m7 88 rfl) rfl
theorem q1653 : (Jvm.Cond.code ({ cls := "WreckShares$Shore", name := "gives", desc := "(LWreckShares$Part;)V" } : Jvm.MethodName) prog_14_method_20_code (3 : Nat) (Option.none : Option Jvm.ClassFile.FieldType)) ∈ lw_all := lw_g (lw_at lw_m7 89 rfl) rfl
theorem q1654 : (Jvm.Cond.classLink "WreckShares$Shore" (170 : Nat) "WreckShares$ToOwner") ∈ lw_all := lw_g (lw_at lw_m7 90 rfl) rfl
theorem q1655 : (Jvm.Cond.methodLink "WreckShares$Shore" (172 : Nat) ({ cls := "WreckShares$ToOwner", name := "owner", desc := "()I" } : Jvm.MethodName)) ∈ lw_all := lw_g (lw_at lw_m7 91 rfl) rfl
theorem q1659 : (Jvm.Cond.methodLink "WreckShares$Shore" (175 : Nat) ({ cls := "WreckShares$ToOwner", name := "amount", desc := "()I" } : Jvm.MethodName)) ∈ lw_all := lw_g (lw_at lw_m7 95 rfl) rfl
theorem q1663 : (Jvm.Cond.classLink "WreckShares$Shore" (178 : Nat) "WreckShares$ToCrown") ∈ lw_all := lw_g (lw_at lw_m7 99 rfl) rfl
theorem q1664 : (Jvm.Cond.methodLink "WreckShares$Shore" (180 : Nat) ({ cls := "WreckShares$ToCrown", name := "amount", desc := "()I" } : Jvm.MethodName)) ∈ lw_all := lw_g (lw_at lw_m7 100 rfl) rfl
theorem q1668 : (Jvm.Cond.classLink "WreckShares$Shore" (181 : Nat) "WreckShares$ToFinder") ∈ lw_all := lw_g (lw_at lw_m7 104 rfl) rfl
theorem q1669 : (Jvm.Cond.methodLink "WreckShares$Shore" (183 : Nat) ({ cls := "WreckShares$ToFinder", name := "finder", desc := "()I" } : Jvm.MethodName)) ∈ lw_all := lw_g (lw_at lw_m7 105 rfl) rfl
theorem q1673 : (Jvm.Cond.methodLink "WreckShares$Shore" (186 : Nat) ({ cls := "WreckShares$ToFinder", name := "amount", desc := "()I" } : Jvm.MethodName)) ∈ lw_all := lw_g (lw_at lw_m7 109 rfl) rfl
theorem q1677 : (Jvm.Cond.methodLink "WreckShares$Shore" (213 : Nat) ({ cls := "WreckShares$Good", name := "leftOver", desc := "(I)I" } : Jvm.MethodName)) ∈ lw_all := lw_g (lw_at lw_m7 113 rfl) rfl
theorem q1678 : (Jvm.Cond.methodLink "WreckShares$Shore" (216 : Nat) ({ cls := "WreckShares$Good", name := "crown", desc := "(Z)I" } : Jvm.MethodName)) ∈ lw_all := lw_g (lw_at lw_m7 114 rfl) rfl
theorem q2181 : (Jvm.Cond.instanceMethod ({ cls := "WreckShares$Shore", name := "dryIn", desc := "(LWreckShares$Good;)I" } : Jvm.MethodName)) ∈ lw_all := lw_g (lw_at lw_m9 137 rfl) rfl
theorem q2182 : (Jvm.Cond.selects "WreckShares$Shore" ({ cls := "WreckShares$Shore", name := "dryIn", desc := "(LWreckShares$Good;)I" } : Jvm.MethodName) ({ cls := "WreckShares$Shore", name := "dryIn", desc := "(LWreckShares$Good;)I" } : Jvm.MethodName)) ∈ lw_all := lw_g (lw_at lw_m9 138 rfl) rfl
theorem q2183 : (Jvm.Cond.code ({ cls := "WreckShares$Shore", name := "dryIn", desc := "(LWreckShares$Good;)I" } : Jvm.MethodName) prog_14_method_7_code (3 : Nat) (Option.some Jvm.ClassFile.FieldType.int)) ∈ lw_all := lw_g (lw_at lw_m9 139 rfl) rfl
theorem q2276 : (Jvm.Cond.instanceMethod ({ cls := "WreckShares$Shore", name := "refusal", desc := "(LWreckShares$Good;)I" } : Jvm.MethodName)) ∈ lw_all := lw_g (lw_at lw_m9 232 rfl) rfl
theorem q2277 : (Jvm.Cond.selects "WreckShares$Shore" ({ cls := "WreckShares$Shore", name := "refusal", desc := "(LWreckShares$Good;)I" } : Jvm.MethodName) ({ cls := "WreckShares$Shore", name := "refusal", desc := "(LWreckShares$Good;)I" } : Jvm.MethodName)) ∈ lw_all := lw_g (lw_at lw_m9 233 rfl) rfl
theorem q2278 : (Jvm.Cond.code ({ cls := "WreckShares$Shore", name := "refusal", desc := "(LWreckShares$Good;)I" } : Jvm.MethodName) prog_14_method_16_code (2 : Nat) (Option.some Jvm.ClassFile.FieldType.int)) ∈ lw_all := lw_g (lw_at lw_m9 234 rfl) rfl
theorem q2279 : (Jvm.Cond.methodLink "WreckShares$Shore" (134 : Nat) ({ cls := "java/util/LinkedList", name := "size", desc := "()I" } : Jvm.MethodName)) ∈ lw_all := lw_g (lw_at lw_m9 235 rfl) rfl
theorem q2311 : (Jvm.Cond.instanceMethod ({ cls := "WreckShares$Shore", name := "ropes", desc := "(ILWreckShares$Good;)I" } : Jvm.MethodName)) ∈ lw_all := lw_g (lw_at lw_m10 27 rfl) rfl
theorem q2312 : (Jvm.Cond.selects "WreckShares$Shore" ({ cls := "WreckShares$Shore", name := "ropes", desc := "(ILWreckShares$Good;)I" } : Jvm.MethodName) ({ cls := "WreckShares$Shore", name := "ropes", desc := "(ILWreckShares$Good;)I" } : Jvm.MethodName)) ∈ lw_all := lw_g (lw_at lw_m10 28 rfl) rfl
theorem q2313 : (Jvm.Cond.code ({ cls := "WreckShares$Shore", name := "ropes", desc := "(ILWreckShares$Good;)I" } : Jvm.MethodName) prog_14_method_12_code (4 : Nat) (Option.some Jvm.ClassFile.FieldType.int)) ∈ lw_all := lw_g (lw_at lw_m10 29 rfl) rfl
theorem q2314 : (Jvm.Cond.methodLink "WreckShares$Shore" (130 : Nat) ({ cls := "java/util/LinkedList", name := "addLast", desc := "(Ljava/lang/Object;)V" } : Jvm.MethodName)) ∈ lw_all := lw_g (lw_at lw_m10 30 rfl) rfl
theorem q2341 : (Jvm.Cond.instanceMethod ({ cls := "WreckShares$Shore", name := "pays", desc := "(III)I" } : Jvm.MethodName)) ∈ lw_all := lw_g (lw_at lw_m10 57 rfl) rfl
theorem q2342 : (Jvm.Cond.selects "WreckShares$Shore" ({ cls := "WreckShares$Shore", name := "pays", desc := "(III)I" } : Jvm.MethodName) ({ cls := "WreckShares$Shore", name := "pays", desc := "(III)I" } : Jvm.MethodName)) ∈ lw_all := lw_g (lw_at lw_m10 58 rfl) rfl
theorem q2343 : (Jvm.Cond.code ({ cls := "WreckShares$Shore", name := "pays", desc := "(III)I" } : Jvm.MethodName) prog_14_method_15_code (4 : Nat) (Option.some Jvm.ClassFile.FieldType.int)) ∈ lw_all := lw_g (lw_at lw_m10 59 rfl) rfl
theorem q2357 : (Jvm.Cond.instanceMethod ({ cls := "WreckShares$Shore", name := "hauls", desc := "(LWreckShares$Good;)I" } : Jvm.MethodName)) ∈ lw_all := lw_g (lw_at lw_m10 73 rfl) rfl
theorem q2358 : (Jvm.Cond.selects "WreckShares$Shore" ({ cls := "WreckShares$Shore", name := "hauls", desc := "(LWreckShares$Good;)I" } : Jvm.MethodName) ({ cls := "WreckShares$Shore", name := "hauls", desc := "(LWreckShares$Good;)I" } : Jvm.MethodName)) ∈ lw_all := lw_g (lw_at lw_m10 74 rfl) rfl
theorem q2359 : (Jvm.Cond.code ({ cls := "WreckShares$Shore", name := "hauls", desc := "(LWreckShares$Good;)I" } : Jvm.MethodName) prog_14_method_17_code (3 : Nat) (Option.some Jvm.ClassFile.FieldType.int)) ∈ lw_all := lw_g (lw_at lw_m10 75 rfl) rfl
theorem q2360 : (Jvm.Cond.methodLink "WreckShares$Shore" (144 : Nat) ({ cls := "WreckShares$Shore", name := "refusal", desc := "(LWreckShares$Good;)I" } : Jvm.MethodName)) ∈ lw_all := lw_g (lw_at lw_m10 76 rfl) rfl
theorem q2361 : (Jvm.Cond.methodLink "WreckShares$Shore" (147 : Nat) ({ cls := "WreckShares$Good", name := "hands", desc := "()[I" } : Jvm.MethodName)) ∈ lw_all := lw_g (lw_at lw_m10 77 rfl) rfl
theorem q2362 : (Jvm.Cond.methodLink "WreckShares$Shore" (154 : Nat) ({ cls := "java/util/LinkedList", name := "clear", desc := "()V" } : Jvm.MethodName)) ∈ lw_all := lw_g (lw_at lw_m10 78 rfl) rfl
theorem q2379 : (Jvm.Cond.instanceMethod ({ cls := "WreckShares$Shore", name := "claims", desc := "(I)I" } : Jvm.MethodName)) ∈ lw_all := lw_g (lw_at lw_m10 95 rfl) rfl
theorem q2380 : (Jvm.Cond.selects "WreckShares$Shore" ({ cls := "WreckShares$Shore", name := "claims", desc := "(I)I" } : Jvm.MethodName) ({ cls := "WreckShares$Shore", name := "claims", desc := "(I)I" } : Jvm.MethodName)) ∈ lw_all := lw_g (lw_at lw_m10 96 rfl) rfl
theorem q2381 : (Jvm.Cond.code ({ cls := "WreckShares$Shore", name := "claims", desc := "(I)I" } : Jvm.MethodName) prog_14_method_18_code (5 : Nat) (Option.some Jvm.ClassFile.FieldType.int)) ∈ lw_all := lw_g (lw_at lw_m10 97 rfl) rfl
theorem q2408 : (Jvm.Cond.instanceMethod ({ cls := "WreckShares$Shore", name := "passes", desc := "(I)I" } : Jvm.MethodName)) ∈ lw_all := lw_g (lw_at lw_m10 124 rfl) rfl
theorem q2409 : (Jvm.Cond.selects "WreckShares$Shore" ({ cls := "WreckShares$Shore", name := "passes", desc := "(I)I" } : Jvm.MethodName) ({ cls := "WreckShares$Shore", name := "passes", desc := "(I)I" } : Jvm.MethodName)) ∈ lw_all := lw_g (lw_at lw_m10 125 rfl) rfl
theorem q2410 : (Jvm.Cond.code ({ cls := "WreckShares$Shore", name := "passes", desc := "(I)I" } : Jvm.MethodName) prog_14_method_24_code (5 : Nat) (Option.some Jvm.ClassFile.FieldType.int)) ∈ lw_all := lw_g (lw_at lw_m10 126 rfl) rfl
theorem q2411 : (Jvm.Cond.methodLink "WreckShares$Shore" (221 : Nat) ({ cls := "WreckShares$Shore", name := "washes", desc := "(LWreckShares$Good;)Z" } : Jvm.MethodName)) ∈ lw_all := lw_g (lw_at lw_m10 127 rfl) rfl
theorem q2412 : (Jvm.Cond.privateMethod ({ cls := "WreckShares$Shore", name := "washes", desc := "(LWreckShares$Good;)Z" } : Jvm.MethodName)) ∈ lw_tbl := lw_at lw_m10 128 rfl
theorem q2413 : (Jvm.Cond.instanceMethod ({ cls := "WreckShares$Shore", name := "washes", desc := "(LWreckShares$Good;)Z" } : Jvm.MethodName)) ∈ lw_all := lw_g (lw_at lw_m10 129 rfl) rfl
theorem q2414 : (Jvm.Cond.code ({ cls := "WreckShares$Shore", name := "washes", desc := "(LWreckShares$Good;)Z" } : Jvm.MethodName) prog_14_method_23_code (2 : Nat) (Option.some Jvm.ClassFile.FieldType.boolean)) ∈ lw_all := lw_g (lw_at lw_m10 130 rfl) rfl
theorem q3159 : (Jvm.Cond.castable "WreckShares$Shore" "java/lang/Object") ∈ lw_tbl := lw_at lw_m13 155 rfl
theorem in_X2 : ∀ w ∈ wsX20, w ∈ lw_all := lw_in wsX20 [564, 566, 568, 570, 572, 574, 576, 578, 580] (by decide +kernel) (by decide +kernel)

/-! WreckShares$Good -/
def RX3 : String := "WreckShares$Good"
def TX3 : u_T := fun k => match k with
  | 0 => ("WreckShares$Good", "number", "I", true)
  | 1 => ("WreckShares$Good", "value", "I", true)
  | 2 => ("WreckShares$Good", "mark", "I", true)
  | 3 => ("WreckShares$Good", "height", "I", true)
  | 4 => ("WreckShares$Good", "need", "I", true)
  | 5 => ("WreckShares$Good", "kind", "LWreckShares$Kind;", true)
  | 6 => ("WreckShares$Good", "rope", "Ljava/util/LinkedList;", true)
  | 7 => ("WreckShares$Good", "crew", "[I", false)
  | 8 => ("WreckShares$Good", "state", "I", false)
  | 9 => ("WreckShares$Good", "washed", "I", false)
  | 10 => ("WreckShares$Good", "due", "I", false)
  | _ => ("WreckShares$Good", "isClaimed", "Z", false)
def tyX3 : Nat → FieldType := fun k => match k with
  | 0 => .int
  | 1 => .int
  | 2 => .int
  | 3 => .int
  | 4 => .int
  | 5 => .object "WreckShares$Kind"
  | 6 => .object "java/util/LinkedList"
  | 7 => .array .int
  | 8 => .int
  | 9 => .int
  | 10 => .int
  | _ => .boolean
abbrev wsX30 : List Cond := u_ws RX3 TX3 12
theorem nmX3 : ∀ a, a < 12 → ∀ b, b < 12 → a ≠ b → (TX3 a).2.1 ≠ (TX3 b).2.1 := by decide +kernel
theorem tyX3_ok : ∀ k, k < 12 → parseFieldDescriptor (TX3 k).2.2.1 = some (tyX3 k) := by decide +kernel
abbrev cX3_init : ByteArray := prog_3_method_1_code
def yX3_init : MethodName := ⟨RX3, "<init>", "(ILWreckShares$Kind;IIII)V"⟩
def dkwX3_init_2 : List UInt8 := [42, 21, 5, 181, 0, 39, 42, 21, 6, 181, 0, 42, 177]
abbrev dktX3_init_2 : List UInt8 := dkwX3_init_2 ++ []
def dkwX3_init_1 : List UInt8 := [181, 0, 22, 42, 27, 181, 0, 26, 42, 44, 181, 0, 29, 42, 29, 181, 0, 33, 42, 21, 4, 181, 0, 36]
abbrev dktX3_init_1 : List UInt8 := dkwX3_init_1 ++ dktX3_init_2
def dkwX3_init_0 : List UInt8 := [42, 183, 0, 3, 42, 187, 0, 9, 89, 183, 0, 11, 181, 0, 12, 42, 3, 188, 10, 181, 0, 18, 42, 2]
abbrev dktX3_init_0 : List UInt8 := dkwX3_init_0 ++ dktX3_init_1
theorem dksX3_init_0 : cX3_init.data.toList.drop 0 = dktX3_init_0 := by decide +kernel
theorem dksX3_init_1 : cX3_init.data.toList.drop 24 = dktX3_init_1 := dk_seg dksX3_init_0 24 rfl rfl
theorem dksX3_init_2 : cX3_init.data.toList.drop 48 = dktX3_init_2 := dk_seg dksX3_init_1 24 rfl rfl
theorem dX3_init_0 : decode cX3_init 0 = .ok (.aload_n 0, 1) := dk_42 (dk_at dksX3_init_0 0 rfl rfl)
theorem dX3_init_1 : decode cX3_init 1 = .ok (.invokespecial 3, 3) := dk_183 0 3 (dk_at dksX3_init_0 1 rfl rfl)
theorem dX3_init_4 : decode cX3_init 4 = .ok (.aload_n 0, 1) := dk_42 (dk_at dksX3_init_0 4 rfl rfl)
theorem dX3_init_5 : decode cX3_init 5 = .ok (.new 9, 3) := dk_187 0 9 (dk_at dksX3_init_0 5 rfl rfl)
theorem dX3_init_8 : decode cX3_init 8 = .ok (.dup, 1) := dk_89 (dk_at dksX3_init_0 8 rfl rfl)
theorem dX3_init_9 : decode cX3_init 9 = .ok (.invokespecial 11, 3) := dk_183 0 11 (dk_at dksX3_init_0 9 rfl rfl)
theorem dX3_init_12 : decode cX3_init 12 = .ok (.putfield 12, 3) := dk_181 0 12 (dk_at dksX3_init_0 12 rfl rfl)
theorem dX3_init_15 : decode cX3_init 15 = .ok (.aload_n 0, 1) := dk_42 (dk_at dksX3_init_0 15 rfl rfl)
theorem dX3_init_16 : decode cX3_init 16 = .ok (.iconst 0, 1) := dk_3 (dk_at dksX3_init_0 16 rfl rfl)
theorem dX3_init_17 : decode cX3_init 17 = .ok (.newarray .int, 2) := dk_188_10 (dk_at dksX3_init_0 17 rfl rfl)
theorem dX3_init_19 : decode cX3_init 19 = .ok (.putfield 18, 3) := dk_181 0 18 (dk_at dksX3_init_0 19 rfl rfl)
theorem dX3_init_22 : decode cX3_init 22 = .ok (.aload_n 0, 1) := dk_42 (dk_at dksX3_init_0 22 rfl rfl)
theorem dX3_init_23 : decode cX3_init 23 = .ok (.iconst (-1), 1) := dk_2 (dk_at dksX3_init_0 23 rfl rfl)
theorem dX3_init_24 : decode cX3_init 24 = .ok (.putfield 22, 3) := dk_181 0 22 (dk_at dksX3_init_1 0 rfl rfl)
theorem dX3_init_27 : decode cX3_init 27 = .ok (.aload_n 0, 1) := dk_42 (dk_at dksX3_init_1 3 rfl rfl)
theorem dX3_init_28 : decode cX3_init 28 = .ok (.iload_n 1, 1) := dk_27 (dk_at dksX3_init_1 4 rfl rfl)
theorem dX3_init_29 : decode cX3_init 29 = .ok (.putfield 26, 3) := dk_181 0 26 (dk_at dksX3_init_1 5 rfl rfl)
theorem dX3_init_32 : decode cX3_init 32 = .ok (.aload_n 0, 1) := dk_42 (dk_at dksX3_init_1 8 rfl rfl)
theorem dX3_init_33 : decode cX3_init 33 = .ok (.aload_n 2, 1) := dk_44 (dk_at dksX3_init_1 9 rfl rfl)
theorem dX3_init_34 : decode cX3_init 34 = .ok (.putfield 29, 3) := dk_181 0 29 (dk_at dksX3_init_1 10 rfl rfl)
theorem dX3_init_37 : decode cX3_init 37 = .ok (.aload_n 0, 1) := dk_42 (dk_at dksX3_init_1 13 rfl rfl)
theorem dX3_init_38 : decode cX3_init 38 = .ok (.iload_n 3, 1) := dk_29 (dk_at dksX3_init_1 14 rfl rfl)
theorem dX3_init_39 : decode cX3_init 39 = .ok (.putfield 33, 3) := dk_181 0 33 (dk_at dksX3_init_1 15 rfl rfl)
theorem dX3_init_42 : decode cX3_init 42 = .ok (.aload_n 0, 1) := dk_42 (dk_at dksX3_init_1 18 rfl rfl)
theorem dX3_init_43 : decode cX3_init 43 = .ok (.iload 4, 2) := dk_21 4 (dk_at dksX3_init_1 19 rfl rfl)
theorem dX3_init_45 : decode cX3_init 45 = .ok (.putfield 36, 3) := dk_181 0 36 (dk_at dksX3_init_1 21 rfl rfl)
theorem dX3_init_48 : decode cX3_init 48 = .ok (.aload_n 0, 1) := dk_42 (dk_at dksX3_init_2 0 rfl rfl)
theorem dX3_init_49 : decode cX3_init 49 = .ok (.iload 5, 2) := dk_21 5 (dk_at dksX3_init_2 1 rfl rfl)
theorem dX3_init_51 : decode cX3_init 51 = .ok (.putfield 39, 3) := dk_181 0 39 (dk_at dksX3_init_2 3 rfl rfl)
theorem dX3_init_54 : decode cX3_init 54 = .ok (.aload_n 0, 1) := dk_42 (dk_at dksX3_init_2 6 rfl rfl)
theorem dX3_init_55 : decode cX3_init 55 = .ok (.iload 6, 2) := dk_21 6 (dk_at dksX3_init_2 7 rfl rfl)
theorem dX3_init_57 : decode cX3_init 57 = .ok (.putfield 42, 3) := dk_181 0 42 (dk_at dksX3_init_2 9 rfl rfl)
theorem dX3_init_60 : decode cX3_init 60 = .ok (.return_, 1) := dk_177 (dk_at dksX3_init_2 12 rfl rfl)
abbrev cX3_copy : ByteArray := prog_3_method_2_code
def yX3_copy : MethodName := ⟨RX3, "copy", "()LWreckShares$Good;"⟩
def dkwX3_copy_4 : List UInt8 := [180, 0, 79, 181, 0, 79, 43, 42, 180, 0, 22, 181, 0, 22, 43, 42, 180, 0, 82, 181, 0, 82, 43, 176]
abbrev dktX3_copy_4 : List UInt8 := dkwX3_copy_4 ++ []
def dkwX3_copy_3 : List UInt8 := [182, 0, 72, 167, 255, 223, 43, 42, 180, 0, 18, 181, 0, 18, 43, 42, 180, 0, 76, 181, 0, 76, 43, 42]
abbrev dktX3_copy_3 : List UInt8 := dkwX3_copy_3 ++ dktX3_copy_4
def dkwX3_copy_2 : List UInt8 := [153, 0, 30, 44, 185, 0, 58, 1, 0, 192, 0, 62, 182, 0, 64, 62, 43, 180, 0, 12, 29, 184, 0, 68]
abbrev dktX3_copy_2 : List UInt8 := dkwX3_copy_2 ++ dktX3_copy_3
def dkwX3_copy_1 : List UInt8 := [42, 180, 0, 42, 183, 0, 45, 76, 42, 180, 0, 12, 182, 0, 48, 77, 44, 185, 0, 52, 1, 0]
abbrev dktX3_copy_1 : List UInt8 := dkwX3_copy_1 ++ dktX3_copy_2
def dkwX3_copy_0 : List UInt8 := [187, 0, 13, 89, 42, 180, 0, 26, 42, 180, 0, 29, 42, 180, 0, 33, 42, 180, 0, 36, 42, 180, 0, 39]
abbrev dktX3_copy_0 : List UInt8 := dkwX3_copy_0 ++ dktX3_copy_1
theorem dksX3_copy_0 : cX3_copy.data.toList.drop 0 = dktX3_copy_0 := by decide +kernel
theorem dksX3_copy_1 : cX3_copy.data.toList.drop 24 = dktX3_copy_1 := dk_seg dksX3_copy_0 24 rfl rfl
theorem dksX3_copy_2 : cX3_copy.data.toList.drop 46 = dktX3_copy_2 := dk_seg dksX3_copy_1 22 rfl rfl
theorem dksX3_copy_3 : cX3_copy.data.toList.drop 70 = dktX3_copy_3 := dk_seg dksX3_copy_2 24 rfl rfl
theorem dksX3_copy_4 : cX3_copy.data.toList.drop 94 = dktX3_copy_4 := dk_seg dksX3_copy_3 24 rfl rfl
theorem dX3_copy_0 : decode cX3_copy 0 = .ok (.new 13, 3) := dk_187 0 13 (dk_at dksX3_copy_0 0 rfl rfl)
theorem dX3_copy_3 : decode cX3_copy 3 = .ok (.dup, 1) := dk_89 (dk_at dksX3_copy_0 3 rfl rfl)
theorem dX3_copy_4 : decode cX3_copy 4 = .ok (.aload_n 0, 1) := dk_42 (dk_at dksX3_copy_0 4 rfl rfl)
theorem dX3_copy_5 : decode cX3_copy 5 = .ok (.getfield 26, 3) := dk_180 0 26 (dk_at dksX3_copy_0 5 rfl rfl)
theorem dX3_copy_8 : decode cX3_copy 8 = .ok (.aload_n 0, 1) := dk_42 (dk_at dksX3_copy_0 8 rfl rfl)
theorem dX3_copy_9 : decode cX3_copy 9 = .ok (.getfield 29, 3) := dk_180 0 29 (dk_at dksX3_copy_0 9 rfl rfl)
theorem dX3_copy_12 : decode cX3_copy 12 = .ok (.aload_n 0, 1) := dk_42 (dk_at dksX3_copy_0 12 rfl rfl)
theorem dX3_copy_13 : decode cX3_copy 13 = .ok (.getfield 33, 3) := dk_180 0 33 (dk_at dksX3_copy_0 13 rfl rfl)
theorem dX3_copy_16 : decode cX3_copy 16 = .ok (.aload_n 0, 1) := dk_42 (dk_at dksX3_copy_0 16 rfl rfl)
theorem dX3_copy_17 : decode cX3_copy 17 = .ok (.getfield 36, 3) := dk_180 0 36 (dk_at dksX3_copy_0 17 rfl rfl)
theorem dX3_copy_20 : decode cX3_copy 20 = .ok (.aload_n 0, 1) := dk_42 (dk_at dksX3_copy_0 20 rfl rfl)
theorem dX3_copy_21 : decode cX3_copy 21 = .ok (.getfield 39, 3) := dk_180 0 39 (dk_at dksX3_copy_0 21 rfl rfl)
theorem dX3_copy_24 : decode cX3_copy 24 = .ok (.aload_n 0, 1) := dk_42 (dk_at dksX3_copy_1 0 rfl rfl)
theorem dX3_copy_25 : decode cX3_copy 25 = .ok (.getfield 42, 3) := dk_180 0 42 (dk_at dksX3_copy_1 1 rfl rfl)
theorem dX3_copy_28 : decode cX3_copy 28 = .ok (.invokespecial 45, 3) := dk_183 0 45 (dk_at dksX3_copy_1 4 rfl rfl)
theorem dX3_copy_31 : decode cX3_copy 31 = .ok (.astore_n 1, 1) := dk_76 (dk_at dksX3_copy_1 7 rfl rfl)
theorem dX3_copy_32 : decode cX3_copy 32 = .ok (.aload_n 0, 1) := dk_42 (dk_at dksX3_copy_1 8 rfl rfl)
theorem dX3_copy_33 : decode cX3_copy 33 = .ok (.getfield 12, 3) := dk_180 0 12 (dk_at dksX3_copy_1 9 rfl rfl)
theorem dX3_copy_36 : decode cX3_copy 36 = .ok (.invokevirtual 48, 3) := dk_182 0 48 (dk_at dksX3_copy_1 12 rfl rfl)
theorem dX3_copy_39 : decode cX3_copy 39 = .ok (.astore_n 2, 1) := dk_77 (dk_at dksX3_copy_1 15 rfl rfl)
theorem dX3_copy_40 : decode cX3_copy 40 = .ok (.aload_n 2, 1) := dk_44 (dk_at dksX3_copy_1 16 rfl rfl)
theorem dX3_copy_41 : decode cX3_copy 41 = .ok (.invokeinterface 52 1, 5) := by decide +kernel
theorem dX3_copy_46 : decode cX3_copy 46 = .ok (.ifCond .eq 30, 3) := dk_153 0 30 (dk_at dksX3_copy_2 0 rfl rfl)
theorem dX3_copy_49 : decode cX3_copy 49 = .ok (.aload_n 2, 1) := dk_44 (dk_at dksX3_copy_2 3 rfl rfl)
theorem dX3_copy_50 : decode cX3_copy 50 = .ok (.invokeinterface 58 1, 5) := by decide +kernel
theorem dX3_copy_55 : decode cX3_copy 55 = .ok (.checkcast 62, 3) := dk_192 0 62 (dk_at dksX3_copy_2 9 rfl rfl)
theorem dX3_copy_58 : decode cX3_copy 58 = .ok (.invokevirtual 64, 3) := dk_182 0 64 (dk_at dksX3_copy_2 12 rfl rfl)
theorem dX3_copy_61 : decode cX3_copy 61 = .ok (.istore_n 3, 1) := dk_62 (dk_at dksX3_copy_2 15 rfl rfl)
theorem dX3_copy_62 : decode cX3_copy 62 = .ok (.aload_n 1, 1) := dk_43 (dk_at dksX3_copy_2 16 rfl rfl)
theorem dX3_copy_63 : decode cX3_copy 63 = .ok (.getfield 12, 3) := dk_180 0 12 (dk_at dksX3_copy_2 17 rfl rfl)
theorem dX3_copy_66 : decode cX3_copy 66 = .ok (.iload_n 3, 1) := dk_29 (dk_at dksX3_copy_2 20 rfl rfl)
theorem dX3_copy_67 : decode cX3_copy 67 = .ok (.invokestatic 68, 3) := dk_184 0 68 (dk_at dksX3_copy_2 21 rfl rfl)
theorem dX3_copy_70 : decode cX3_copy 70 = .ok (.invokevirtual 72, 3) := dk_182 0 72 (dk_at dksX3_copy_3 0 rfl rfl)
theorem dX3_copy_73 : decode cX3_copy 73 = .ok (.goto (-33), 3) := dk_167 255 223 (dk_at dksX3_copy_3 3 rfl rfl)
theorem dX3_copy_76 : decode cX3_copy 76 = .ok (.aload_n 1, 1) := dk_43 (dk_at dksX3_copy_3 6 rfl rfl)
theorem dX3_copy_77 : decode cX3_copy 77 = .ok (.aload_n 0, 1) := dk_42 (dk_at dksX3_copy_3 7 rfl rfl)
theorem dX3_copy_78 : decode cX3_copy 78 = .ok (.getfield 18, 3) := dk_180 0 18 (dk_at dksX3_copy_3 8 rfl rfl)
theorem dX3_copy_81 : decode cX3_copy 81 = .ok (.putfield 18, 3) := dk_181 0 18 (dk_at dksX3_copy_3 11 rfl rfl)
theorem dX3_copy_84 : decode cX3_copy 84 = .ok (.aload_n 1, 1) := dk_43 (dk_at dksX3_copy_3 14 rfl rfl)
theorem dX3_copy_85 : decode cX3_copy 85 = .ok (.aload_n 0, 1) := dk_42 (dk_at dksX3_copy_3 15 rfl rfl)
theorem dX3_copy_86 : decode cX3_copy 86 = .ok (.getfield 76, 3) := dk_180 0 76 (dk_at dksX3_copy_3 16 rfl rfl)
theorem dX3_copy_89 : decode cX3_copy 89 = .ok (.putfield 76, 3) := dk_181 0 76 (dk_at dksX3_copy_3 19 rfl rfl)
theorem dX3_copy_92 : decode cX3_copy 92 = .ok (.aload_n 1, 1) := dk_43 (dk_at dksX3_copy_3 22 rfl rfl)
theorem dX3_copy_93 : decode cX3_copy 93 = .ok (.aload_n 0, 1) := dk_42 (dk_at dksX3_copy_3 23 rfl rfl)
theorem dX3_copy_94 : decode cX3_copy 94 = .ok (.getfield 79, 3) := dk_180 0 79 (dk_at dksX3_copy_4 0 rfl rfl)
theorem dX3_copy_97 : decode cX3_copy 97 = .ok (.putfield 79, 3) := dk_181 0 79 (dk_at dksX3_copy_4 3 rfl rfl)
theorem dX3_copy_100 : decode cX3_copy 100 = .ok (.aload_n 1, 1) := dk_43 (dk_at dksX3_copy_4 6 rfl rfl)
theorem dX3_copy_101 : decode cX3_copy 101 = .ok (.aload_n 0, 1) := dk_42 (dk_at dksX3_copy_4 7 rfl rfl)
theorem dX3_copy_102 : decode cX3_copy 102 = .ok (.getfield 22, 3) := dk_180 0 22 (dk_at dksX3_copy_4 8 rfl rfl)
theorem dX3_copy_105 : decode cX3_copy 105 = .ok (.putfield 22, 3) := dk_181 0 22 (dk_at dksX3_copy_4 11 rfl rfl)
theorem dX3_copy_108 : decode cX3_copy 108 = .ok (.aload_n 1, 1) := dk_43 (dk_at dksX3_copy_4 14 rfl rfl)
theorem dX3_copy_109 : decode cX3_copy 109 = .ok (.aload_n 0, 1) := dk_42 (dk_at dksX3_copy_4 15 rfl rfl)
theorem dX3_copy_110 : decode cX3_copy 110 = .ok (.getfield 82, 3) := dk_180 0 82 (dk_at dksX3_copy_4 16 rfl rfl)
theorem dX3_copy_113 : decode cX3_copy 113 = .ok (.putfield 82, 3) := dk_181 0 82 (dk_at dksX3_copy_4 19 rfl rfl)
theorem dX3_copy_116 : decode cX3_copy 116 = .ok (.aload_n 1, 1) := dk_43 (dk_at dksX3_copy_4 22 rfl rfl)
theorem dX3_copy_117 : decode cX3_copy 117 = .ok (.areturn, 1) := dk_176 (dk_at dksX3_copy_4 23 rfl rfl)
abbrev cX3_parts : ByteArray := prog_3_method_9_code
def yX3_parts : MethodName := ⟨RX3, "parts", "()Ljava/util/List;"⟩
def dkwX3_parts_7 : List UInt8 := [132, 5, 1, 167, 255, 184, 43, 176]
abbrev dktX3_parts_7 : List UInt8 := dkwX3_parts_7 ++ []
def dkwX3_parts_6 : List UInt8 := [21, 4, 162, 0, 7, 4, 167, 0, 4, 3, 184, 0, 140, 96, 183, 0, 143, 185, 0, 123, 2, 0, 62]
abbrev dktX3_parts_6 : List UInt8 := dkwX3_parts_6 ++ dktX3_parts_7
def dkwX3_parts_5 : List UInt8 := [182, 0, 108, 104, 44, 190, 4, 96, 108, 54, 6, 43, 187, 0, 138, 89, 44, 21, 5, 46, 21, 6, 21, 5]
abbrev dktX3_parts_5 : List UInt8 := dkwX3_parts_5 ++ dktX3_parts_6
def dkwX3_parts_4 : List UInt8 := [21, 5, 44, 190, 162, 0, 71, 21, 5, 154, 0, 7, 5, 167, 0, 4, 4, 42, 42, 180, 0, 82]
abbrev dktX3_parts_4 : List UInt8 := dkwX3_parts_4 ++ dktX3_parts_5
def dkwX3_parts_3 : List UInt8 := [185, 0, 123, 2, 0, 62, 44, 190, 154, 0, 5, 43, 176, 42, 44, 190, 182, 0, 134, 54, 4, 3, 54, 5]
abbrev dktX3_parts_3 : List UInt8 := dkwX3_parts_3 ++ dktX3_parts_4
def dkwX3_parts_2 : List UInt8 := [180, 0, 82, 153, 0, 26, 43, 187, 0, 129, 89, 42, 180, 0, 42, 42, 4, 182, 0, 101, 183, 0, 131]
abbrev dktX3_parts_2 : List UInt8 := dkwX3_parts_2 ++ dktX3_parts_3
def dkwX3_parts_1 : List UInt8 := [187, 0, 118, 89, 42, 42, 180, 0, 82, 182, 0, 105, 183, 0, 120, 185, 0, 123, 2, 0, 62, 42]
abbrev dktX3_parts_1 : List UInt8 := dkwX3_parts_1 ++ dktX3_parts_2
def dkwX3_parts_0 : List UInt8 := [187, 0, 111, 89, 183, 0, 113, 76, 42, 180, 0, 76, 6, 160, 0, 5, 43, 176, 42, 182, 0, 114, 77, 43]
abbrev dktX3_parts_0 : List UInt8 := dkwX3_parts_0 ++ dktX3_parts_1
theorem dksX3_parts_0 : cX3_parts.data.toList.drop 0 = dktX3_parts_0 := by decide +kernel
theorem dksX3_parts_1 : cX3_parts.data.toList.drop 24 = dktX3_parts_1 := dk_seg dksX3_parts_0 24 rfl rfl
theorem dksX3_parts_2 : cX3_parts.data.toList.drop 46 = dktX3_parts_2 := dk_seg dksX3_parts_1 22 rfl rfl
theorem dksX3_parts_3 : cX3_parts.data.toList.drop 69 = dktX3_parts_3 := dk_seg dksX3_parts_2 23 rfl rfl
theorem dksX3_parts_4 : cX3_parts.data.toList.drop 93 = dktX3_parts_4 := dk_seg dksX3_parts_3 24 rfl rfl
theorem dksX3_parts_5 : cX3_parts.data.toList.drop 115 = dktX3_parts_5 := dk_seg dksX3_parts_4 22 rfl rfl
theorem dksX3_parts_6 : cX3_parts.data.toList.drop 139 = dktX3_parts_6 := dk_seg dksX3_parts_5 24 rfl rfl
theorem dksX3_parts_7 : cX3_parts.data.toList.drop 162 = dktX3_parts_7 := dk_seg dksX3_parts_6 23 rfl rfl
theorem dX3_parts_0 : decode cX3_parts 0 = .ok (.new 111, 3) := dk_187 0 111 (dk_at dksX3_parts_0 0 rfl rfl)
theorem dX3_parts_3 : decode cX3_parts 3 = .ok (.dup, 1) := dk_89 (dk_at dksX3_parts_0 3 rfl rfl)
theorem dX3_parts_4 : decode cX3_parts 4 = .ok (.invokespecial 113, 3) := dk_183 0 113 (dk_at dksX3_parts_0 4 rfl rfl)
theorem dX3_parts_7 : decode cX3_parts 7 = .ok (.astore_n 1, 1) := dk_76 (dk_at dksX3_parts_0 7 rfl rfl)
theorem dX3_parts_8 : decode cX3_parts 8 = .ok (.aload_n 0, 1) := dk_42 (dk_at dksX3_parts_0 8 rfl rfl)
theorem dX3_parts_9 : decode cX3_parts 9 = .ok (.getfield 76, 3) := dk_180 0 76 (dk_at dksX3_parts_0 9 rfl rfl)
theorem dX3_parts_12 : decode cX3_parts 12 = .ok (.iconst 3, 1) := dk_6 (dk_at dksX3_parts_0 12 rfl rfl)
theorem dX3_parts_13 : decode cX3_parts 13 = .ok (.if_icmp .ne 5, 3) := dk_160 0 5 (dk_at dksX3_parts_0 13 rfl rfl)
theorem dX3_parts_16 : decode cX3_parts 16 = .ok (.aload_n 1, 1) := dk_43 (dk_at dksX3_parts_0 16 rfl rfl)
theorem dX3_parts_17 : decode cX3_parts 17 = .ok (.areturn, 1) := dk_176 (dk_at dksX3_parts_0 17 rfl rfl)
theorem dX3_parts_18 : decode cX3_parts 18 = .ok (.aload_n 0, 1) := dk_42 (dk_at dksX3_parts_0 18 rfl rfl)
theorem dX3_parts_19 : decode cX3_parts 19 = .ok (.invokevirtual 114, 3) := dk_182 0 114 (dk_at dksX3_parts_0 19 rfl rfl)
theorem dX3_parts_22 : decode cX3_parts 22 = .ok (.astore_n 2, 1) := dk_77 (dk_at dksX3_parts_0 22 rfl rfl)
theorem dX3_parts_23 : decode cX3_parts 23 = .ok (.aload_n 1, 1) := dk_43 (dk_at dksX3_parts_0 23 rfl rfl)
theorem dX3_parts_24 : decode cX3_parts 24 = .ok (.new 118, 3) := dk_187 0 118 (dk_at dksX3_parts_1 0 rfl rfl)
theorem dX3_parts_27 : decode cX3_parts 27 = .ok (.dup, 1) := dk_89 (dk_at dksX3_parts_1 3 rfl rfl)
theorem dX3_parts_28 : decode cX3_parts 28 = .ok (.aload_n 0, 1) := dk_42 (dk_at dksX3_parts_1 4 rfl rfl)
theorem dX3_parts_29 : decode cX3_parts 29 = .ok (.aload_n 0, 1) := dk_42 (dk_at dksX3_parts_1 5 rfl rfl)
theorem dX3_parts_30 : decode cX3_parts 30 = .ok (.getfield 82, 3) := dk_180 0 82 (dk_at dksX3_parts_1 6 rfl rfl)
theorem dX3_parts_33 : decode cX3_parts 33 = .ok (.invokevirtual 105, 3) := dk_182 0 105 (dk_at dksX3_parts_1 9 rfl rfl)
theorem dX3_parts_36 : decode cX3_parts 36 = .ok (.invokespecial 120, 3) := dk_183 0 120 (dk_at dksX3_parts_1 12 rfl rfl)
theorem dX3_parts_39 : decode cX3_parts 39 = .ok (.invokeinterface 123 2, 5) := by decide +kernel
theorem dX3_parts_44 : decode cX3_parts 44 = .ok (.istore_n 3, 1) := dk_62 (dk_at dksX3_parts_1 20 rfl rfl)
theorem dX3_parts_45 : decode cX3_parts 45 = .ok (.aload_n 0, 1) := dk_42 (dk_at dksX3_parts_1 21 rfl rfl)
theorem dX3_parts_46 : decode cX3_parts 46 = .ok (.getfield 82, 3) := dk_180 0 82 (dk_at dksX3_parts_2 0 rfl rfl)
theorem dX3_parts_49 : decode cX3_parts 49 = .ok (.ifCond .eq 26, 3) := dk_153 0 26 (dk_at dksX3_parts_2 3 rfl rfl)
theorem dX3_parts_52 : decode cX3_parts 52 = .ok (.aload_n 1, 1) := dk_43 (dk_at dksX3_parts_2 6 rfl rfl)
theorem dX3_parts_53 : decode cX3_parts 53 = .ok (.new 129, 3) := dk_187 0 129 (dk_at dksX3_parts_2 7 rfl rfl)
theorem dX3_parts_56 : decode cX3_parts 56 = .ok (.dup, 1) := dk_89 (dk_at dksX3_parts_2 10 rfl rfl)
theorem dX3_parts_57 : decode cX3_parts 57 = .ok (.aload_n 0, 1) := dk_42 (dk_at dksX3_parts_2 11 rfl rfl)
theorem dX3_parts_58 : decode cX3_parts 58 = .ok (.getfield 42, 3) := dk_180 0 42 (dk_at dksX3_parts_2 12 rfl rfl)
theorem dX3_parts_61 : decode cX3_parts 61 = .ok (.aload_n 0, 1) := dk_42 (dk_at dksX3_parts_2 15 rfl rfl)
theorem dX3_parts_62 : decode cX3_parts 62 = .ok (.iconst 1, 1) := dk_4 (dk_at dksX3_parts_2 16 rfl rfl)
theorem dX3_parts_63 : decode cX3_parts 63 = .ok (.invokevirtual 101, 3) := dk_182 0 101 (dk_at dksX3_parts_2 17 rfl rfl)
theorem dX3_parts_66 : decode cX3_parts 66 = .ok (.invokespecial 131, 3) := dk_183 0 131 (dk_at dksX3_parts_2 20 rfl rfl)
theorem dX3_parts_69 : decode cX3_parts 69 = .ok (.invokeinterface 123 2, 5) := by decide +kernel
theorem dX3_parts_74 : decode cX3_parts 74 = .ok (.istore_n 3, 1) := dk_62 (dk_at dksX3_parts_3 5 rfl rfl)
theorem dX3_parts_75 : decode cX3_parts 75 = .ok (.aload_n 2, 1) := dk_44 (dk_at dksX3_parts_3 6 rfl rfl)
theorem dX3_parts_76 : decode cX3_parts 76 = .ok (.arraylength, 1) := dk_190 (dk_at dksX3_parts_3 7 rfl rfl)
theorem dX3_parts_77 : decode cX3_parts 77 = .ok (.ifCond .ne 5, 3) := dk_154 0 5 (dk_at dksX3_parts_3 8 rfl rfl)
theorem dX3_parts_80 : decode cX3_parts 80 = .ok (.aload_n 1, 1) := dk_43 (dk_at dksX3_parts_3 11 rfl rfl)
theorem dX3_parts_81 : decode cX3_parts 81 = .ok (.areturn, 1) := dk_176 (dk_at dksX3_parts_3 12 rfl rfl)
theorem dX3_parts_82 : decode cX3_parts 82 = .ok (.aload_n 0, 1) := dk_42 (dk_at dksX3_parts_3 13 rfl rfl)
theorem dX3_parts_83 : decode cX3_parts 83 = .ok (.aload_n 2, 1) := dk_44 (dk_at dksX3_parts_3 14 rfl rfl)
theorem dX3_parts_84 : decode cX3_parts 84 = .ok (.arraylength, 1) := dk_190 (dk_at dksX3_parts_3 15 rfl rfl)
theorem dX3_parts_85 : decode cX3_parts 85 = .ok (.invokevirtual 134, 3) := dk_182 0 134 (dk_at dksX3_parts_3 16 rfl rfl)
theorem dX3_parts_88 : decode cX3_parts 88 = .ok (.istore 4, 2) := dk_54 4 (dk_at dksX3_parts_3 19 rfl rfl)
theorem dX3_parts_90 : decode cX3_parts 90 = .ok (.iconst 0, 1) := dk_3 (dk_at dksX3_parts_3 21 rfl rfl)
theorem dX3_parts_91 : decode cX3_parts 91 = .ok (.istore 5, 2) := dk_54 5 (dk_at dksX3_parts_3 22 rfl rfl)
theorem dX3_parts_93 : decode cX3_parts 93 = .ok (.iload 5, 2) := dk_21 5 (dk_at dksX3_parts_4 0 rfl rfl)
theorem dX3_parts_95 : decode cX3_parts 95 = .ok (.aload_n 2, 1) := dk_44 (dk_at dksX3_parts_4 2 rfl rfl)
theorem dX3_parts_96 : decode cX3_parts 96 = .ok (.arraylength, 1) := dk_190 (dk_at dksX3_parts_4 3 rfl rfl)
theorem dX3_parts_97 : decode cX3_parts 97 = .ok (.if_icmp .ge 71, 3) := dk_162 0 71 (dk_at dksX3_parts_4 4 rfl rfl)
theorem dX3_parts_100 : decode cX3_parts 100 = .ok (.iload 5, 2) := dk_21 5 (dk_at dksX3_parts_4 7 rfl rfl)
theorem dX3_parts_102 : decode cX3_parts 102 = .ok (.ifCond .ne 7, 3) := dk_154 0 7 (dk_at dksX3_parts_4 9 rfl rfl)
theorem dX3_parts_105 : decode cX3_parts 105 = .ok (.iconst 2, 1) := dk_5 (dk_at dksX3_parts_4 12 rfl rfl)
theorem dX3_parts_106 : decode cX3_parts 106 = .ok (.goto 4, 3) := dk_167 0 4 (dk_at dksX3_parts_4 13 rfl rfl)
theorem dX3_parts_109 : decode cX3_parts 109 = .ok (.iconst 1, 1) := dk_4 (dk_at dksX3_parts_4 16 rfl rfl)
theorem dX3_parts_110 : decode cX3_parts 110 = .ok (.aload_n 0, 1) := dk_42 (dk_at dksX3_parts_4 17 rfl rfl)
theorem dX3_parts_111 : decode cX3_parts 111 = .ok (.aload_n 0, 1) := dk_42 (dk_at dksX3_parts_4 18 rfl rfl)
theorem dX3_parts_112 : decode cX3_parts 112 = .ok (.getfield 82, 3) := dk_180 0 82 (dk_at dksX3_parts_4 19 rfl rfl)
theorem dX3_parts_115 : decode cX3_parts 115 = .ok (.invokevirtual 108, 3) := dk_182 0 108 (dk_at dksX3_parts_5 0 rfl rfl)
theorem dX3_parts_118 : decode cX3_parts 118 = .ok (.imul, 1) := dk_104 (dk_at dksX3_parts_5 3 rfl rfl)
theorem dX3_parts_119 : decode cX3_parts 119 = .ok (.aload_n 2, 1) := dk_44 (dk_at dksX3_parts_5 4 rfl rfl)
theorem dX3_parts_120 : decode cX3_parts 120 = .ok (.arraylength, 1) := dk_190 (dk_at dksX3_parts_5 5 rfl rfl)
theorem dX3_parts_121 : decode cX3_parts 121 = .ok (.iconst 1, 1) := dk_4 (dk_at dksX3_parts_5 6 rfl rfl)
theorem dX3_parts_122 : decode cX3_parts 122 = .ok (.iadd, 1) := dk_96 (dk_at dksX3_parts_5 7 rfl rfl)
theorem dX3_parts_123 : decode cX3_parts 123 = .ok (.idiv, 1) := dk_108 (dk_at dksX3_parts_5 8 rfl rfl)
theorem dX3_parts_124 : decode cX3_parts 124 = .ok (.istore 6, 2) := dk_54 6 (dk_at dksX3_parts_5 9 rfl rfl)
theorem dX3_parts_126 : decode cX3_parts 126 = .ok (.aload_n 1, 1) := dk_43 (dk_at dksX3_parts_5 11 rfl rfl)
theorem dX3_parts_127 : decode cX3_parts 127 = .ok (.new 138, 3) := dk_187 0 138 (dk_at dksX3_parts_5 12 rfl rfl)
theorem dX3_parts_130 : decode cX3_parts 130 = .ok (.dup, 1) := dk_89 (dk_at dksX3_parts_5 15 rfl rfl)
theorem dX3_parts_131 : decode cX3_parts 131 = .ok (.aload_n 2, 1) := dk_44 (dk_at dksX3_parts_5 16 rfl rfl)
theorem dX3_parts_132 : decode cX3_parts 132 = .ok (.iload 5, 2) := dk_21 5 (dk_at dksX3_parts_5 17 rfl rfl)
theorem dX3_parts_134 : decode cX3_parts 134 = .ok (.iaload, 1) := dk_46 (dk_at dksX3_parts_5 19 rfl rfl)
theorem dX3_parts_135 : decode cX3_parts 135 = .ok (.iload 6, 2) := dk_21 6 (dk_at dksX3_parts_5 20 rfl rfl)
theorem dX3_parts_137 : decode cX3_parts 137 = .ok (.iload 5, 2) := dk_21 5 (dk_at dksX3_parts_5 22 rfl rfl)
theorem dX3_parts_139 : decode cX3_parts 139 = .ok (.iload 4, 2) := dk_21 4 (dk_at dksX3_parts_6 0 rfl rfl)
theorem dX3_parts_141 : decode cX3_parts 141 = .ok (.if_icmp .ge 7, 3) := dk_162 0 7 (dk_at dksX3_parts_6 2 rfl rfl)
theorem dX3_parts_144 : decode cX3_parts 144 = .ok (.iconst 1, 1) := dk_4 (dk_at dksX3_parts_6 5 rfl rfl)
theorem dX3_parts_145 : decode cX3_parts 145 = .ok (.goto 4, 3) := dk_167 0 4 (dk_at dksX3_parts_6 6 rfl rfl)
theorem dX3_parts_148 : decode cX3_parts 148 = .ok (.iconst 0, 1) := dk_3 (dk_at dksX3_parts_6 9 rfl rfl)
theorem dX3_parts_149 : decode cX3_parts 149 = .ok (.invokestatic 140, 3) := dk_184 0 140 (dk_at dksX3_parts_6 10 rfl rfl)
theorem dX3_parts_152 : decode cX3_parts 152 = .ok (.iadd, 1) := dk_96 (dk_at dksX3_parts_6 13 rfl rfl)
theorem dX3_parts_153 : decode cX3_parts 153 = .ok (.invokespecial 143, 3) := dk_183 0 143 (dk_at dksX3_parts_6 14 rfl rfl)
theorem dX3_parts_156 : decode cX3_parts 156 = .ok (.invokeinterface 123 2, 5) := by decide +kernel
theorem dX3_parts_161 : decode cX3_parts 161 = .ok (.istore_n 3, 1) := dk_62 (dk_at dksX3_parts_6 22 rfl rfl)
theorem dX3_parts_162 : decode cX3_parts 162 = .ok (.iinc 5 1, 3) := dk_132 5 1 (dk_at dksX3_parts_7 0 rfl rfl)
theorem dX3_parts_165 : decode cX3_parts 165 = .ok (.goto (-72), 3) := dk_167 255 184 (dk_at dksX3_parts_7 3 rfl rfl)
theorem dX3_parts_168 : decode cX3_parts 168 = .ok (.aload_n 1, 1) := dk_43 (dk_at dksX3_parts_7 6 rfl rfl)
theorem dX3_parts_169 : decode cX3_parts 169 = .ok (.areturn, 1) := dk_176 (dk_at dksX3_parts_7 7 rfl rfl)
abbrev cX3_hands : ByteArray := prog_3_method_3_code
def yX3_hands : MethodName := ⟨RX3, "hands", "()[I"⟩
def dkwX3_hands_2 : List UInt8 := [132, 2, 1, 167, 255, 230, 43, 176]
abbrev dktX3_hands_2 : List UInt8 := dkwX3_hands_2 ++ []
def dkwX3_hands_1 : List UInt8 := [28, 43, 190, 162, 0, 26, 43, 28, 42, 180, 0, 12, 28, 182, 0, 89, 192, 0, 62, 182, 0, 64, 79]
abbrev dktX3_hands_1 : List UInt8 := dkwX3_hands_1 ++ dktX3_hands_2
def dkwX3_hands_0 : List UInt8 := [42, 180, 0, 76, 153, 0, 8, 42, 180, 0, 18, 176, 42, 180, 0, 12, 182, 0, 86, 188, 10, 76, 3, 61]
abbrev dktX3_hands_0 : List UInt8 := dkwX3_hands_0 ++ dktX3_hands_1
theorem dksX3_hands_0 : cX3_hands.data.toList.drop 0 = dktX3_hands_0 := by decide +kernel
theorem dksX3_hands_1 : cX3_hands.data.toList.drop 24 = dktX3_hands_1 := dk_seg dksX3_hands_0 24 rfl rfl
theorem dksX3_hands_2 : cX3_hands.data.toList.drop 47 = dktX3_hands_2 := dk_seg dksX3_hands_1 23 rfl rfl
theorem dX3_hands_0 : decode cX3_hands 0 = .ok (.aload_n 0, 1) := dk_42 (dk_at dksX3_hands_0 0 rfl rfl)
theorem dX3_hands_1 : decode cX3_hands 1 = .ok (.getfield 76, 3) := dk_180 0 76 (dk_at dksX3_hands_0 1 rfl rfl)
theorem dX3_hands_4 : decode cX3_hands 4 = .ok (.ifCond .eq 8, 3) := dk_153 0 8 (dk_at dksX3_hands_0 4 rfl rfl)
theorem dX3_hands_7 : decode cX3_hands 7 = .ok (.aload_n 0, 1) := dk_42 (dk_at dksX3_hands_0 7 rfl rfl)
theorem dX3_hands_8 : decode cX3_hands 8 = .ok (.getfield 18, 3) := dk_180 0 18 (dk_at dksX3_hands_0 8 rfl rfl)
theorem dX3_hands_11 : decode cX3_hands 11 = .ok (.areturn, 1) := dk_176 (dk_at dksX3_hands_0 11 rfl rfl)
theorem dX3_hands_12 : decode cX3_hands 12 = .ok (.aload_n 0, 1) := dk_42 (dk_at dksX3_hands_0 12 rfl rfl)
theorem dX3_hands_13 : decode cX3_hands 13 = .ok (.getfield 12, 3) := dk_180 0 12 (dk_at dksX3_hands_0 13 rfl rfl)
theorem dX3_hands_16 : decode cX3_hands 16 = .ok (.invokevirtual 86, 3) := dk_182 0 86 (dk_at dksX3_hands_0 16 rfl rfl)
theorem dX3_hands_19 : decode cX3_hands 19 = .ok (.newarray .int, 2) := dk_188_10 (dk_at dksX3_hands_0 19 rfl rfl)
theorem dX3_hands_21 : decode cX3_hands 21 = .ok (.astore_n 1, 1) := dk_76 (dk_at dksX3_hands_0 21 rfl rfl)
theorem dX3_hands_22 : decode cX3_hands 22 = .ok (.iconst 0, 1) := dk_3 (dk_at dksX3_hands_0 22 rfl rfl)
theorem dX3_hands_23 : decode cX3_hands 23 = .ok (.istore_n 2, 1) := dk_61 (dk_at dksX3_hands_0 23 rfl rfl)
theorem dX3_hands_24 : decode cX3_hands 24 = .ok (.iload_n 2, 1) := dk_28 (dk_at dksX3_hands_1 0 rfl rfl)
theorem dX3_hands_25 : decode cX3_hands 25 = .ok (.aload_n 1, 1) := dk_43 (dk_at dksX3_hands_1 1 rfl rfl)
theorem dX3_hands_26 : decode cX3_hands 26 = .ok (.arraylength, 1) := dk_190 (dk_at dksX3_hands_1 2 rfl rfl)
theorem dX3_hands_27 : decode cX3_hands 27 = .ok (.if_icmp .ge 26, 3) := dk_162 0 26 (dk_at dksX3_hands_1 3 rfl rfl)
theorem dX3_hands_30 : decode cX3_hands 30 = .ok (.aload_n 1, 1) := dk_43 (dk_at dksX3_hands_1 6 rfl rfl)
theorem dX3_hands_31 : decode cX3_hands 31 = .ok (.iload_n 2, 1) := dk_28 (dk_at dksX3_hands_1 7 rfl rfl)
theorem dX3_hands_32 : decode cX3_hands 32 = .ok (.aload_n 0, 1) := dk_42 (dk_at dksX3_hands_1 8 rfl rfl)
theorem dX3_hands_33 : decode cX3_hands 33 = .ok (.getfield 12, 3) := dk_180 0 12 (dk_at dksX3_hands_1 9 rfl rfl)
theorem dX3_hands_36 : decode cX3_hands 36 = .ok (.iload_n 2, 1) := dk_28 (dk_at dksX3_hands_1 12 rfl rfl)
theorem dX3_hands_37 : decode cX3_hands 37 = .ok (.invokevirtual 89, 3) := dk_182 0 89 (dk_at dksX3_hands_1 13 rfl rfl)
theorem dX3_hands_40 : decode cX3_hands 40 = .ok (.checkcast 62, 3) := dk_192 0 62 (dk_at dksX3_hands_1 16 rfl rfl)
theorem dX3_hands_43 : decode cX3_hands 43 = .ok (.invokevirtual 64, 3) := dk_182 0 64 (dk_at dksX3_hands_1 19 rfl rfl)
theorem dX3_hands_46 : decode cX3_hands 46 = .ok (.iastore, 1) := dk_79 (dk_at dksX3_hands_1 22 rfl rfl)
theorem dX3_hands_47 : decode cX3_hands 47 = .ok (.iinc 2 1, 3) := dk_132 2 1 (dk_at dksX3_hands_2 0 rfl rfl)
theorem dX3_hands_50 : decode cX3_hands 50 = .ok (.goto (-26), 3) := dk_167 255 230 (dk_at dksX3_hands_2 3 rfl rfl)
theorem dX3_hands_53 : decode cX3_hands 53 = .ok (.aload_n 1, 1) := dk_43 (dk_at dksX3_hands_2 6 rfl rfl)
theorem dX3_hands_54 : decode cX3_hands 54 = .ok (.areturn, 1) := dk_176 (dk_at dksX3_hands_2 7 rfl rfl)
abbrev cX3_crown : ByteArray := prog_3_method_5_code
def yX3_crown : MethodName := ⟨RX3, "crown", "(Z)I"⟩
def dkwX3_crown_1 : List UInt8 := [16, 10, 108, 172]
abbrev dktX3_crown_1 : List UInt8 := dkwX3_crown_1 ++ []
def dkwX3_crown_0 : List UInt8 := [27, 153, 0, 13, 42, 182, 0, 98, 16, 10, 108, 167, 0, 15, 42, 180, 0, 33, 16, 10, 96, 4, 100]
abbrev dktX3_crown_0 : List UInt8 := dkwX3_crown_0 ++ dktX3_crown_1
theorem dksX3_crown_0 : cX3_crown.data.toList.drop 0 = dktX3_crown_0 := by decide +kernel
theorem dksX3_crown_1 : cX3_crown.data.toList.drop 23 = dktX3_crown_1 := dk_seg dksX3_crown_0 23 rfl rfl
theorem dX3_crown_0 : decode cX3_crown 0 = .ok (.iload_n 1, 1) := dk_27 (dk_at dksX3_crown_0 0 rfl rfl)
theorem dX3_crown_1 : decode cX3_crown 1 = .ok (.ifCond .eq 13, 3) := dk_153 0 13 (dk_at dksX3_crown_0 1 rfl rfl)
theorem dX3_crown_4 : decode cX3_crown 4 = .ok (.aload_n 0, 1) := dk_42 (dk_at dksX3_crown_0 4 rfl rfl)
theorem dX3_crown_5 : decode cX3_crown 5 = .ok (.invokevirtual 98, 3) := dk_182 0 98 (dk_at dksX3_crown_0 5 rfl rfl)
theorem dX3_crown_8 : decode cX3_crown 8 = .ok (.bipush 10, 2) := dk_16 10 (dk_at dksX3_crown_0 8 rfl rfl)
theorem dX3_crown_10 : decode cX3_crown 10 = .ok (.idiv, 1) := dk_108 (dk_at dksX3_crown_0 10 rfl rfl)
theorem dX3_crown_11 : decode cX3_crown 11 = .ok (.goto 15, 3) := dk_167 0 15 (dk_at dksX3_crown_0 11 rfl rfl)
theorem dX3_crown_14 : decode cX3_crown 14 = .ok (.aload_n 0, 1) := dk_42 (dk_at dksX3_crown_0 14 rfl rfl)
theorem dX3_crown_15 : decode cX3_crown 15 = .ok (.getfield 33, 3) := dk_180 0 33 (dk_at dksX3_crown_0 15 rfl rfl)
theorem dX3_crown_18 : decode cX3_crown 18 = .ok (.bipush 10, 2) := dk_16 10 (dk_at dksX3_crown_0 18 rfl rfl)
theorem dX3_crown_20 : decode cX3_crown 20 = .ok (.iadd, 1) := dk_96 (dk_at dksX3_crown_0 20 rfl rfl)
theorem dX3_crown_21 : decode cX3_crown 21 = .ok (.iconst 1, 1) := dk_4 (dk_at dksX3_crown_0 21 rfl rfl)
theorem dX3_crown_22 : decode cX3_crown 22 = .ok (.isub, 1) := dk_100 (dk_at dksX3_crown_0 22 rfl rfl)
theorem dX3_crown_23 : decode cX3_crown 23 = .ok (.bipush 10, 2) := dk_16 10 (dk_at dksX3_crown_1 0 rfl rfl)
theorem dX3_crown_25 : decode cX3_crown 25 = .ok (.idiv, 1) := dk_108 (dk_at dksX3_crown_1 2 rfl rfl)
theorem dX3_crown_26 : decode cX3_crown 26 = .ok (.ireturn, 1) := dk_172 (dk_at dksX3_crown_1 3 rfl rfl)
abbrev cX3_salvage : ByteArray := prog_3_method_4_code
def yX3_salvage : MethodName := ⟨RX3, "salvage", "()I"⟩
def dkwX3_salvage_0 : List UInt8 := [42, 180, 0, 33, 42, 180, 0, 29, 182, 0, 93, 104, 16, 100, 108, 172]
abbrev dktX3_salvage_0 : List UInt8 := dkwX3_salvage_0 ++ []
theorem dksX3_salvage_0 : cX3_salvage.data.toList.drop 0 = dktX3_salvage_0 := by decide +kernel
theorem dX3_salvage_0 : decode cX3_salvage 0 = .ok (.aload_n 0, 1) := dk_42 (dk_at dksX3_salvage_0 0 rfl rfl)
theorem dX3_salvage_1 : decode cX3_salvage 1 = .ok (.getfield 33, 3) := dk_180 0 33 (dk_at dksX3_salvage_0 1 rfl rfl)
theorem dX3_salvage_4 : decode cX3_salvage 4 = .ok (.aload_n 0, 1) := dk_42 (dk_at dksX3_salvage_0 4 rfl rfl)
theorem dX3_salvage_5 : decode cX3_salvage 5 = .ok (.getfield 29, 3) := dk_180 0 29 (dk_at dksX3_salvage_0 5 rfl rfl)
theorem dX3_salvage_8 : decode cX3_salvage 8 = .ok (.invokevirtual 93, 3) := dk_182 0 93 (dk_at dksX3_salvage_0 8 rfl rfl)
theorem dX3_salvage_11 : decode cX3_salvage 11 = .ok (.imul, 1) := dk_104 (dk_at dksX3_salvage_0 11 rfl rfl)
theorem dX3_salvage_12 : decode cX3_salvage 12 = .ok (.bipush 100, 2) := dk_16 100 (dk_at dksX3_salvage_0 12 rfl rfl)
theorem dX3_salvage_14 : decode cX3_salvage 14 = .ok (.idiv, 1) := dk_108 (dk_at dksX3_salvage_0 14 rfl rfl)
theorem dX3_salvage_15 : decode cX3_salvage 15 = .ok (.ireturn, 1) := dk_172 (dk_at dksX3_salvage_0 15 rfl rfl)
abbrev cX3_owners : ByteArray := prog_3_method_6_code
def yX3_owners : MethodName := ⟨RX3, "owners", "(Z)I"⟩
def dkwX3_owners_0 : List UInt8 := [27, 153, 0, 15, 42, 180, 0, 33, 42, 182, 0, 98, 100, 167, 0, 4, 3, 172]
abbrev dktX3_owners_0 : List UInt8 := dkwX3_owners_0 ++ []
theorem dksX3_owners_0 : cX3_owners.data.toList.drop 0 = dktX3_owners_0 := by decide +kernel
theorem dX3_owners_0 : decode cX3_owners 0 = .ok (.iload_n 1, 1) := dk_27 (dk_at dksX3_owners_0 0 rfl rfl)
theorem dX3_owners_1 : decode cX3_owners 1 = .ok (.ifCond .eq 15, 3) := dk_153 0 15 (dk_at dksX3_owners_0 1 rfl rfl)
theorem dX3_owners_4 : decode cX3_owners 4 = .ok (.aload_n 0, 1) := dk_42 (dk_at dksX3_owners_0 4 rfl rfl)
theorem dX3_owners_5 : decode cX3_owners 5 = .ok (.getfield 33, 3) := dk_180 0 33 (dk_at dksX3_owners_0 5 rfl rfl)
theorem dX3_owners_8 : decode cX3_owners 8 = .ok (.aload_n 0, 1) := dk_42 (dk_at dksX3_owners_0 8 rfl rfl)
theorem dX3_owners_9 : decode cX3_owners 9 = .ok (.invokevirtual 98, 3) := dk_182 0 98 (dk_at dksX3_owners_0 9 rfl rfl)
theorem dX3_owners_12 : decode cX3_owners 12 = .ok (.isub, 1) := dk_100 (dk_at dksX3_owners_0 12 rfl rfl)
theorem dX3_owners_13 : decode cX3_owners 13 = .ok (.goto 4, 3) := dk_167 0 4 (dk_at dksX3_owners_0 13 rfl rfl)
theorem dX3_owners_16 : decode cX3_owners 16 = .ok (.iconst 0, 1) := dk_3 (dk_at dksX3_owners_0 16 rfl rfl)
theorem dX3_owners_17 : decode cX3_owners 17 = .ok (.ireturn, 1) := dk_172 (dk_at dksX3_owners_0 17 rfl rfl)
abbrev cX3_leftOver : ByteArray := prog_3_method_8_code
def yX3_leftOver : MethodName := ⟨RX3, "leftOver", "(I)I"⟩
def dkwX3_leftOver_1 : List UInt8 := [4, 96, 108, 62, 42, 42, 180, 0, 82, 182, 0, 108, 29, 100, 28, 27, 4, 100, 104, 100, 172]
abbrev dktX3_leftOver_1 : List UInt8 := dkwX3_leftOver_1 ++ []
def dkwX3_leftOver_0 : List UInt8 := [42, 42, 180, 0, 82, 182, 0, 108, 27, 4, 96, 108, 61, 5, 42, 42, 180, 0, 82, 182, 0, 108, 104, 27]
abbrev dktX3_leftOver_0 : List UInt8 := dkwX3_leftOver_0 ++ dktX3_leftOver_1
theorem dksX3_leftOver_0 : cX3_leftOver.data.toList.drop 0 = dktX3_leftOver_0 := by decide +kernel
theorem dksX3_leftOver_1 : cX3_leftOver.data.toList.drop 24 = dktX3_leftOver_1 := dk_seg dksX3_leftOver_0 24 rfl rfl
theorem dX3_leftOver_0 : decode cX3_leftOver 0 = .ok (.aload_n 0, 1) := dk_42 (dk_at dksX3_leftOver_0 0 rfl rfl)
theorem dX3_leftOver_1 : decode cX3_leftOver 1 = .ok (.aload_n 0, 1) := dk_42 (dk_at dksX3_leftOver_0 1 rfl rfl)
theorem dX3_leftOver_2 : decode cX3_leftOver 2 = .ok (.getfield 82, 3) := dk_180 0 82 (dk_at dksX3_leftOver_0 2 rfl rfl)
theorem dX3_leftOver_5 : decode cX3_leftOver 5 = .ok (.invokevirtual 108, 3) := dk_182 0 108 (dk_at dksX3_leftOver_0 5 rfl rfl)
theorem dX3_leftOver_8 : decode cX3_leftOver 8 = .ok (.iload_n 1, 1) := dk_27 (dk_at dksX3_leftOver_0 8 rfl rfl)
theorem dX3_leftOver_9 : decode cX3_leftOver 9 = .ok (.iconst 1, 1) := dk_4 (dk_at dksX3_leftOver_0 9 rfl rfl)
theorem dX3_leftOver_10 : decode cX3_leftOver 10 = .ok (.iadd, 1) := dk_96 (dk_at dksX3_leftOver_0 10 rfl rfl)
theorem dX3_leftOver_11 : decode cX3_leftOver 11 = .ok (.idiv, 1) := dk_108 (dk_at dksX3_leftOver_0 11 rfl rfl)
theorem dX3_leftOver_12 : decode cX3_leftOver 12 = .ok (.istore_n 2, 1) := dk_61 (dk_at dksX3_leftOver_0 12 rfl rfl)
theorem dX3_leftOver_13 : decode cX3_leftOver 13 = .ok (.iconst 2, 1) := dk_5 (dk_at dksX3_leftOver_0 13 rfl rfl)
theorem dX3_leftOver_14 : decode cX3_leftOver 14 = .ok (.aload_n 0, 1) := dk_42 (dk_at dksX3_leftOver_0 14 rfl rfl)
theorem dX3_leftOver_15 : decode cX3_leftOver 15 = .ok (.aload_n 0, 1) := dk_42 (dk_at dksX3_leftOver_0 15 rfl rfl)
theorem dX3_leftOver_16 : decode cX3_leftOver 16 = .ok (.getfield 82, 3) := dk_180 0 82 (dk_at dksX3_leftOver_0 16 rfl rfl)
theorem dX3_leftOver_19 : decode cX3_leftOver 19 = .ok (.invokevirtual 108, 3) := dk_182 0 108 (dk_at dksX3_leftOver_0 19 rfl rfl)
theorem dX3_leftOver_22 : decode cX3_leftOver 22 = .ok (.imul, 1) := dk_104 (dk_at dksX3_leftOver_0 22 rfl rfl)
theorem dX3_leftOver_23 : decode cX3_leftOver 23 = .ok (.iload_n 1, 1) := dk_27 (dk_at dksX3_leftOver_0 23 rfl rfl)
theorem dX3_leftOver_24 : decode cX3_leftOver 24 = .ok (.iconst 1, 1) := dk_4 (dk_at dksX3_leftOver_1 0 rfl rfl)
theorem dX3_leftOver_25 : decode cX3_leftOver 25 = .ok (.iadd, 1) := dk_96 (dk_at dksX3_leftOver_1 1 rfl rfl)
theorem dX3_leftOver_26 : decode cX3_leftOver 26 = .ok (.idiv, 1) := dk_108 (dk_at dksX3_leftOver_1 2 rfl rfl)
theorem dX3_leftOver_27 : decode cX3_leftOver 27 = .ok (.istore_n 3, 1) := dk_62 (dk_at dksX3_leftOver_1 3 rfl rfl)
theorem dX3_leftOver_28 : decode cX3_leftOver 28 = .ok (.aload_n 0, 1) := dk_42 (dk_at dksX3_leftOver_1 4 rfl rfl)
theorem dX3_leftOver_29 : decode cX3_leftOver 29 = .ok (.aload_n 0, 1) := dk_42 (dk_at dksX3_leftOver_1 5 rfl rfl)
theorem dX3_leftOver_30 : decode cX3_leftOver 30 = .ok (.getfield 82, 3) := dk_180 0 82 (dk_at dksX3_leftOver_1 6 rfl rfl)
theorem dX3_leftOver_33 : decode cX3_leftOver 33 = .ok (.invokevirtual 108, 3) := dk_182 0 108 (dk_at dksX3_leftOver_1 9 rfl rfl)
theorem dX3_leftOver_36 : decode cX3_leftOver 36 = .ok (.iload_n 3, 1) := dk_29 (dk_at dksX3_leftOver_1 12 rfl rfl)
theorem dX3_leftOver_37 : decode cX3_leftOver 37 = .ok (.isub, 1) := dk_100 (dk_at dksX3_leftOver_1 13 rfl rfl)
theorem dX3_leftOver_38 : decode cX3_leftOver 38 = .ok (.iload_n 2, 1) := dk_28 (dk_at dksX3_leftOver_1 14 rfl rfl)
theorem dX3_leftOver_39 : decode cX3_leftOver 39 = .ok (.iload_n 1, 1) := dk_27 (dk_at dksX3_leftOver_1 15 rfl rfl)
theorem dX3_leftOver_40 : decode cX3_leftOver 40 = .ok (.iconst 1, 1) := dk_4 (dk_at dksX3_leftOver_1 16 rfl rfl)
theorem dX3_leftOver_41 : decode cX3_leftOver 41 = .ok (.isub, 1) := dk_100 (dk_at dksX3_leftOver_1 17 rfl rfl)
theorem dX3_leftOver_42 : decode cX3_leftOver 42 = .ok (.imul, 1) := dk_104 (dk_at dksX3_leftOver_1 18 rfl rfl)
theorem dX3_leftOver_43 : decode cX3_leftOver 43 = .ok (.isub, 1) := dk_100 (dk_at dksX3_leftOver_1 19 rfl rfl)
theorem dX3_leftOver_44 : decode cX3_leftOver 44 = .ok (.ireturn, 1) := dk_172 (dk_at dksX3_leftOver_1 20 rfl rfl)
abbrev cX3_rest : ByteArray := prog_3_method_7_code
def yX3_rest : MethodName := ⟨RX3, "rest", "(Z)I"⟩
def dkwX3_rest_0 : List UInt8 := [42, 180, 0, 33, 42, 27, 182, 0, 101, 100, 42, 27, 182, 0, 105, 100, 172]
abbrev dktX3_rest_0 : List UInt8 := dkwX3_rest_0 ++ []
theorem dksX3_rest_0 : cX3_rest.data.toList.drop 0 = dktX3_rest_0 := by decide +kernel
theorem dX3_rest_0 : decode cX3_rest 0 = .ok (.aload_n 0, 1) := dk_42 (dk_at dksX3_rest_0 0 rfl rfl)
theorem dX3_rest_1 : decode cX3_rest 1 = .ok (.getfield 33, 3) := dk_180 0 33 (dk_at dksX3_rest_0 1 rfl rfl)
theorem dX3_rest_4 : decode cX3_rest 4 = .ok (.aload_n 0, 1) := dk_42 (dk_at dksX3_rest_0 4 rfl rfl)
theorem dX3_rest_5 : decode cX3_rest 5 = .ok (.iload_n 1, 1) := dk_27 (dk_at dksX3_rest_0 5 rfl rfl)
theorem dX3_rest_6 : decode cX3_rest 6 = .ok (.invokevirtual 101, 3) := dk_182 0 101 (dk_at dksX3_rest_0 6 rfl rfl)
theorem dX3_rest_9 : decode cX3_rest 9 = .ok (.isub, 1) := dk_100 (dk_at dksX3_rest_0 9 rfl rfl)
theorem dX3_rest_10 : decode cX3_rest 10 = .ok (.aload_n 0, 1) := dk_42 (dk_at dksX3_rest_0 10 rfl rfl)
theorem dX3_rest_11 : decode cX3_rest 11 = .ok (.iload_n 1, 1) := dk_27 (dk_at dksX3_rest_0 11 rfl rfl)
theorem dX3_rest_12 : decode cX3_rest 12 = .ok (.invokevirtual 105, 3) := dk_182 0 105 (dk_at dksX3_rest_0 12 rfl rfl)
theorem dX3_rest_15 : decode cX3_rest 15 = .ok (.isub, 1) := dk_100 (dk_at dksX3_rest_0 15 rfl rfl)
theorem dX3_rest_16 : decode cX3_rest 16 = .ok (.ireturn, 1) := dk_172 (dk_at dksX3_rest_0 16 rfl rfl)
abbrev cX3_sum : ByteArray := prog_3_method_10_code
def yX3_sum : MethodName := ⟨RX3, "sum", "(LWreckShares$Rule;)I"⟩
def dkwX3_sum_2 : List UInt8 := [185, 0, 157, 1, 0, 167, 0, 4, 3, 96, 61, 167, 255, 211, 28, 172]
abbrev dktX3_sum_2 : List UInt8 := dkwX3_sum_2 ++ []
def dkwX3_sum_1 : List UInt8 := [185, 0, 58, 1, 0, 192, 0, 149, 58, 4, 28, 43, 25, 4, 185, 0, 151, 2, 0, 153, 0, 13, 25, 4]
abbrev dktX3_sum_1 : List UInt8 := dkwX3_sum_1 ++ dktX3_sum_2
def dkwX3_sum_0 : List UInt8 := [3, 61, 42, 182, 0, 144, 185, 0, 148, 1, 0, 78, 45, 185, 0, 52, 1, 0, 153, 0, 42, 45]
abbrev dktX3_sum_0 : List UInt8 := dkwX3_sum_0 ++ dktX3_sum_1
theorem dksX3_sum_0 : cX3_sum.data.toList.drop 0 = dktX3_sum_0 := by decide +kernel
theorem dksX3_sum_1 : cX3_sum.data.toList.drop 22 = dktX3_sum_1 := dk_seg dksX3_sum_0 22 rfl rfl
theorem dksX3_sum_2 : cX3_sum.data.toList.drop 46 = dktX3_sum_2 := dk_seg dksX3_sum_1 24 rfl rfl
theorem dX3_sum_0 : decode cX3_sum 0 = .ok (.iconst 0, 1) := dk_3 (dk_at dksX3_sum_0 0 rfl rfl)
theorem dX3_sum_1 : decode cX3_sum 1 = .ok (.istore_n 2, 1) := dk_61 (dk_at dksX3_sum_0 1 rfl rfl)
theorem dX3_sum_2 : decode cX3_sum 2 = .ok (.aload_n 0, 1) := dk_42 (dk_at dksX3_sum_0 2 rfl rfl)
theorem dX3_sum_3 : decode cX3_sum 3 = .ok (.invokevirtual 144, 3) := dk_182 0 144 (dk_at dksX3_sum_0 3 rfl rfl)
theorem dX3_sum_6 : decode cX3_sum 6 = .ok (.invokeinterface 148 1, 5) := by decide +kernel
theorem dX3_sum_11 : decode cX3_sum 11 = .ok (.astore_n 3, 1) := dk_78 (dk_at dksX3_sum_0 11 rfl rfl)
theorem dX3_sum_12 : decode cX3_sum 12 = .ok (.aload_n 3, 1) := dk_45 (dk_at dksX3_sum_0 12 rfl rfl)
theorem dX3_sum_13 : decode cX3_sum 13 = .ok (.invokeinterface 52 1, 5) := by decide +kernel
theorem dX3_sum_18 : decode cX3_sum 18 = .ok (.ifCond .eq 42, 3) := dk_153 0 42 (dk_at dksX3_sum_0 18 rfl rfl)
theorem dX3_sum_21 : decode cX3_sum 21 = .ok (.aload_n 3, 1) := dk_45 (dk_at dksX3_sum_0 21 rfl rfl)
theorem dX3_sum_22 : decode cX3_sum 22 = .ok (.invokeinterface 58 1, 5) := by decide +kernel
theorem dX3_sum_27 : decode cX3_sum 27 = .ok (.checkcast 149, 3) := dk_192 0 149 (dk_at dksX3_sum_1 5 rfl rfl)
theorem dX3_sum_30 : decode cX3_sum 30 = .ok (.astore 4, 2) := dk_58 4 (dk_at dksX3_sum_1 8 rfl rfl)
theorem dX3_sum_32 : decode cX3_sum 32 = .ok (.iload_n 2, 1) := dk_28 (dk_at dksX3_sum_1 10 rfl rfl)
theorem dX3_sum_33 : decode cX3_sum 33 = .ok (.aload_n 1, 1) := dk_43 (dk_at dksX3_sum_1 11 rfl rfl)
theorem dX3_sum_34 : decode cX3_sum 34 = .ok (.aload 4, 2) := dk_25 4 (dk_at dksX3_sum_1 12 rfl rfl)
theorem dX3_sum_36 : decode cX3_sum 36 = .ok (.invokeinterface 151 2, 5) := by decide +kernel
theorem dX3_sum_41 : decode cX3_sum 41 = .ok (.ifCond .eq 13, 3) := dk_153 0 13 (dk_at dksX3_sum_1 19 rfl rfl)
theorem dX3_sum_44 : decode cX3_sum 44 = .ok (.aload 4, 2) := dk_25 4 (dk_at dksX3_sum_1 22 rfl rfl)
theorem dX3_sum_46 : decode cX3_sum 46 = .ok (.invokeinterface 157 1, 5) := by decide +kernel
theorem dX3_sum_51 : decode cX3_sum 51 = .ok (.goto 4, 3) := dk_167 0 4 (dk_at dksX3_sum_2 5 rfl rfl)
theorem dX3_sum_54 : decode cX3_sum 54 = .ok (.iconst 0, 1) := dk_3 (dk_at dksX3_sum_2 8 rfl rfl)
theorem dX3_sum_55 : decode cX3_sum 55 = .ok (.iadd, 1) := dk_96 (dk_at dksX3_sum_2 9 rfl rfl)
theorem dX3_sum_56 : decode cX3_sum 56 = .ok (.istore_n 2, 1) := dk_61 (dk_at dksX3_sum_2 10 rfl rfl)
theorem dX3_sum_57 : decode cX3_sum 57 = .ok (.goto (-45), 3) := dk_167 255 211 (dk_at dksX3_sum_2 11 rfl rfl)
theorem dX3_sum_60 : decode cX3_sum 60 = .ok (.iload_n 2, 1) := dk_28 (dk_at dksX3_sum_2 14 rfl rfl)
theorem dX3_sum_61 : decode cX3_sum 61 = .ok (.ireturn, 1) := dk_172 (dk_at dksX3_sum_2 15 rfl rfl)
theorem q146 : (Jvm.Cond.initialized "WreckShares$Good") ∈ lw_all := lw_g (lw_at lw_m1 22 rfl) rfl
theorem q584 : (Jvm.Cond.instantiable "WreckShares$Good" (12 : Nat)) ∈ lw_all := lw_g (lw_at lw_m2 220 rfl) rfl
theorem q597 : (Jvm.Cond.instanceMethod ({ cls := "WreckShares$Good", name := "<init>", desc := "(ILWreckShares$Kind;IIII)V" } : Jvm.MethodName)) ∈ lw_all := lw_g (lw_at lw_m2 233 rfl) rfl
theorem q598 : (Jvm.Cond.code ({ cls := "WreckShares$Good", name := "<init>", desc := "(ILWreckShares$Kind;IIII)V" } : Jvm.MethodName) prog_3_method_1_code (7 : Nat) (Option.none : Option Jvm.ClassFile.FieldType)) ∈ lw_all := lw_g (lw_at lw_m2 234 rfl) rfl
theorem q599 : (Jvm.Cond.methodLink "WreckShares$Good" (3 : Nat) ({ cls := "java/lang/Object", name := "<init>", desc := "()V" } : Jvm.MethodName)) ∈ lw_all := lw_g (lw_at lw_m2 235 rfl) rfl
theorem q600 : (Jvm.Cond.classLink "WreckShares$Good" (9 : Nat) "java/util/LinkedList") ∈ lw_all := lw_g (lw_at lw_m2 236 rfl) rfl
theorem q602 : (Jvm.Cond.methodLink "WreckShares$Good" (11 : Nat) ({ cls := "java/util/LinkedList", name := "<init>", desc := "()V" } : Jvm.MethodName)) ∈ lw_all := lw_g (lw_at lw_m2 238 rfl) rfl
theorem q621 : (Jvm.Cond.fieldLink "WreckShares$Good" (26 : Nat) "WreckShares$Good" "number" "I") ∈ lw_all := lw_g (lw_at lw_m3 17 rfl) rfl
theorem q625 : (Jvm.Cond.fieldLink "WreckShares$Good" (33 : Nat) "WreckShares$Good" "value" "I") ∈ lw_all := lw_g (lw_at lw_m3 21 rfl) rfl
theorem q628 : (Jvm.Cond.fieldLink "WreckShares$Good" (42 : Nat) "WreckShares$Good" "mark" "I") ∈ lw_all := lw_g (lw_at lw_m3 24 rfl) rfl
theorem q631 : (Jvm.Cond.fieldLink "WreckShares$Good" (36 : Nat) "WreckShares$Good" "height" "I") ∈ lw_all := lw_g (lw_at lw_m3 27 rfl) rfl
theorem q634 : (Jvm.Cond.fieldLink "WreckShares$Good" (39 : Nat) "WreckShares$Good" "need" "I") ∈ lw_all := lw_g (lw_at lw_m3 30 rfl) rfl
theorem q637 : (Jvm.Cond.fieldLink "WreckShares$Good" (29 : Nat) "WreckShares$Good" "kind" "LWreckShares$Kind;") ∈ lw_all := lw_g (lw_at lw_m3 33 rfl) rfl
theorem q639 : (Jvm.Cond.fieldLink "WreckShares$Good" (12 : Nat) "WreckShares$Good" "rope" "Ljava/util/LinkedList;") ∈ lw_all := lw_g (lw_at lw_m3 35 rfl) rfl
theorem q642 : (Jvm.Cond.fieldLink "WreckShares$Good" (18 : Nat) "WreckShares$Good" "crew" "[I") ∈ lw_all := lw_g (lw_at lw_m3 38 rfl) rfl
theorem q646 : (Jvm.Cond.fieldLink "WreckShares$Good" (76 : Nat) "WreckShares$Good" "state" "I") ∈ lw_all := lw_g (lw_at lw_m3 42 rfl) rfl
theorem q649 : (Jvm.Cond.fieldLink "WreckShares$Good" (79 : Nat) "WreckShares$Good" "washed" "I") ∈ lw_all := lw_g (lw_at lw_m3 45 rfl) rfl
theorem q652 : (Jvm.Cond.fieldLink "WreckShares$Good" (22 : Nat) "WreckShares$Good" "due" "I") ∈ lw_all := lw_g (lw_at lw_m3 48 rfl) rfl
theorem q655 : (Jvm.Cond.fieldLink "WreckShares$Good" (82 : Nat) "WreckShares$Good" "isClaimed" "Z") ∈ lw_all := lw_g (lw_at lw_m3 51 rfl) rfl
theorem q658 : (Jvm.Cond.laysFinal "WreckShares$Good" "WreckShares$Good" "number" "I") ∈ lw_all := lw_g (lw_at lw_m3 54 rfl) rfl
theorem q659 : (Jvm.Cond.soleField "WreckShares$Good" "number") ∈ lw_all := lw_g (lw_at lw_m3 55 rfl) rfl
theorem q660 : (Jvm.Cond.laysFinal "WreckShares$Good" "WreckShares$Good" "value" "I") ∈ lw_all := lw_g (lw_at lw_m3 56 rfl) rfl
theorem q661 : (Jvm.Cond.soleField "WreckShares$Good" "value") ∈ lw_all := lw_g (lw_at lw_m3 57 rfl) rfl
theorem q662 : (Jvm.Cond.laysFinal "WreckShares$Good" "WreckShares$Good" "mark" "I") ∈ lw_all := lw_g (lw_at lw_m3 58 rfl) rfl
theorem q663 : (Jvm.Cond.soleField "WreckShares$Good" "mark") ∈ lw_all := lw_g (lw_at lw_m3 59 rfl) rfl
theorem q664 : (Jvm.Cond.laysFinal "WreckShares$Good" "WreckShares$Good" "height" "I") ∈ lw_all := lw_g (lw_at lw_m3 60 rfl) rfl
theorem q665 : (Jvm.Cond.soleField "WreckShares$Good" "height") ∈ lw_all := lw_g (lw_at lw_m3 61 rfl) rfl
theorem q666 : (Jvm.Cond.laysFinal "WreckShares$Good" "WreckShares$Good" "need" "I") ∈ lw_all := lw_g (lw_at lw_m3 62 rfl) rfl
theorem q667 : (Jvm.Cond.soleField "WreckShares$Good" "need") ∈ lw_all := lw_g (lw_at lw_m3 63 rfl) rfl
theorem q668 : (Jvm.Cond.laysFinal "WreckShares$Good" "WreckShares$Good" "kind" "LWreckShares$Kind;") ∈ lw_all := lw_g (lw_at lw_m3 64 rfl) rfl
theorem q669 : (Jvm.Cond.soleField "WreckShares$Good" "kind") ∈ lw_all := lw_g (lw_at lw_m3 65 rfl) rfl
theorem q670 : (Jvm.Cond.laysFinal "WreckShares$Good" "WreckShares$Good" "rope" "Ljava/util/LinkedList;") ∈ lw_all := lw_g (lw_at lw_m3 66 rfl) rfl
theorem q671 : (Jvm.Cond.soleField "WreckShares$Good" "rope") ∈ lw_all := lw_g (lw_at lw_m3 67 rfl) rfl
theorem q672 : (Jvm.Cond.lays "WreckShares$Good" "WreckShares$Good" "crew" "[I") ∈ lw_all := lw_g (lw_at lw_m3 68 rfl) rfl
theorem q673 : (Jvm.Cond.soleField "WreckShares$Good" "crew") ∈ lw_all := lw_g (lw_at lw_m3 69 rfl) rfl
theorem q674 : (Jvm.Cond.lays "WreckShares$Good" "WreckShares$Good" "state" "I") ∈ lw_all := lw_g (lw_at lw_m3 70 rfl) rfl
theorem q675 : (Jvm.Cond.soleField "WreckShares$Good" "state") ∈ lw_all := lw_g (lw_at lw_m3 71 rfl) rfl
theorem q676 : (Jvm.Cond.lays "WreckShares$Good" "WreckShares$Good" "washed" "I") ∈ lw_all := lw_g (lw_at lw_m3 72 rfl) rfl
theorem q677 : (Jvm.Cond.soleField "WreckShares$Good" "washed") ∈ lw_all := lw_g (lw_at lw_m3 73 rfl) rfl
theorem q678 : (Jvm.Cond.lays "WreckShares$Good" "WreckShares$Good" "due" "I") ∈ lw_all := lw_g (lw_at lw_m3 74 rfl) rfl
theorem q679 : (Jvm.Cond.soleField "WreckShares$Good" "due") ∈ lw_all := lw_g (lw_at lw_m3 75 rfl) rfl
theorem q680 : (Jvm.Cond.lays "WreckShares$Good" "WreckShares$Good" "isClaimed" "Z") ∈ lw_all := lw_g (lw_at lw_m3 76 rfl) rfl
theorem q681 : (Jvm.Cond.soleField "WreckShares$Good" "isClaimed") ∈ lw_all := lw_g (lw_at lw_m3 77 rfl) rfl
theorem q682 : (Jvm.Cond.superclass "WreckShares$Good" "java/lang/Object") ∈ lw_all := lw_g (lw_at lw_m3 78 rfl) rfl
theorem q715 : (Jvm.Cond.selects "WreckShares$Good" ({ cls := "java/lang/Object", name := "getClass", desc := "()Ljava/lang/Class;" } : Jvm.MethodName) ({ cls := "java/lang/Object", name := "getClass", desc := "()Ljava/lang/Class;" } : Jvm.MethodName)) ∈ lw_all := lw_g (lw_at lw_m3 111 rfl) rfl
theorem q1368 : (Jvm.Cond.selects "WreckShares$Good" ({ cls := "java/lang/Object", name := "equals", desc := "(Ljava/lang/Object;)Z" } : Jvm.MethodName) ({ cls := "java/lang/Object", name := "equals", desc := "(Ljava/lang/Object;)Z" } : Jvm.MethodName)) ∈ lw_all := lw_g (lw_at lw_m6 44 rfl) rfl
theorem q1462 : (Jvm.Cond.instanceMethod ({ cls := "WreckShares$Good", name := "copy", desc := "()LWreckShares$Good;" } : Jvm.MethodName)) ∈ lw_all := lw_g (lw_at lw_m6 138 rfl) rfl
theorem q1463 : (Jvm.Cond.selects "WreckShares$Good" ({ cls := "WreckShares$Good", name := "copy", desc := "()LWreckShares$Good;" } : Jvm.MethodName) ({ cls := "WreckShares$Good", name := "copy", desc := "()LWreckShares$Good;" } : Jvm.MethodName)) ∈ lw_all := lw_g (lw_at lw_m6 139 rfl) rfl
theorem q1464 : (Jvm.Cond.code ({ cls := "WreckShares$Good", name := "copy", desc := "()LWreckShares$Good;" } : Jvm.MethodName) prog_3_method_2_code (4 : Nat) (Option.some (Jvm.ClassFile.FieldType.object "WreckShares$Good"))) ∈ lw_all := lw_g (lw_at lw_m6 140 rfl) rfl
theorem q1465 : (Jvm.Cond.classLink "WreckShares$Good" (13 : Nat) "WreckShares$Good") ∈ lw_all := lw_g (lw_at lw_m6 141 rfl) rfl
theorem q1466 : (Jvm.Cond.methodLink "WreckShares$Good" (45 : Nat) ({ cls := "WreckShares$Good", name := "<init>", desc := "(ILWreckShares$Kind;IIII)V" } : Jvm.MethodName)) ∈ lw_all := lw_g (lw_at lw_m6 142 rfl) rfl
theorem q1467 : (Jvm.Cond.methodLink "WreckShares$Good" (48 : Nat) ({ cls := "java/util/LinkedList", name := "iterator", desc := "()Ljava/util/Iterator;" } : Jvm.MethodName)) ∈ lw_all := lw_g (lw_at lw_m6 143 rfl) rfl
theorem q1471 : (Jvm.Cond.interfaceEntry "WreckShares$Good" (52 : Nat)) ∈ lw_tbl := lw_at lw_m6 147 rfl
theorem q1472 : (Jvm.Cond.methodLink "WreckShares$Good" (52 : Nat) ({ cls := "java/util/Iterator", name := "hasNext", desc := "()Z" } : Jvm.MethodName)) ∈ lw_all := lw_g (lw_at lw_m6 148 rfl) rfl
theorem q1473 : (Jvm.Cond.interfaceEntry "WreckShares$Good" (58 : Nat)) ∈ lw_tbl := lw_at lw_m6 149 rfl
theorem q1474 : (Jvm.Cond.methodLink "WreckShares$Good" (58 : Nat) ({ cls := "java/util/Iterator", name := "next", desc := "()Ljava/lang/Object;" } : Jvm.MethodName)) ∈ lw_all := lw_g (lw_at lw_m6 150 rfl) rfl
theorem q1475 : (Jvm.Cond.classLink "WreckShares$Good" (62 : Nat) "java/lang/Integer") ∈ lw_all := lw_g (lw_at lw_m6 151 rfl) rfl
theorem q1476 : (Jvm.Cond.methodLink "WreckShares$Good" (64 : Nat) ({ cls := "java/lang/Integer", name := "intValue", desc := "()I" } : Jvm.MethodName)) ∈ lw_all := lw_g (lw_at lw_m6 152 rfl) rfl
theorem q1477 : (Jvm.Cond.methodLink "WreckShares$Good" (68 : Nat) ({ cls := "java/lang/Integer", name := "valueOf", desc := "(I)Ljava/lang/Integer;" } : Jvm.MethodName)) ∈ lw_all := lw_g (lw_at lw_m6 153 rfl) rfl
theorem q1478 : (Jvm.Cond.methodLink "WreckShares$Good" (72 : Nat) ({ cls := "java/util/LinkedList", name := "addLast", desc := "(Ljava/lang/Object;)V" } : Jvm.MethodName)) ∈ lw_all := lw_g (lw_at lw_m6 154 rfl) rfl
theorem q1553 : (Jvm.Cond.instanceMethod ({ cls := "WreckShares$Good", name := "parts", desc := "()Ljava/util/List;" } : Jvm.MethodName)) ∈ lw_all := lw_g (lw_at lw_m6 229 rfl) rfl
theorem q1554 : (Jvm.Cond.selects "WreckShares$Good" ({ cls := "WreckShares$Good", name := "parts", desc := "()Ljava/util/List;" } : Jvm.MethodName) ({ cls := "WreckShares$Good", name := "parts", desc := "()Ljava/util/List;" } : Jvm.MethodName)) ∈ lw_all := lw_g (lw_at lw_m6 230 rfl) rfl
theorem q1555 : (Jvm.Cond.code ({ cls := "WreckShares$Good", name := "parts", desc := "()Ljava/util/List;" } : Jvm.MethodName) prog_3_method_9_code (7 : Nat) (Option.some (Jvm.ClassFile.FieldType.object "java/util/List"))) ∈ lw_all := lw_g (lw_at lw_m6 231 rfl) rfl
theorem q1556 : (Jvm.Cond.classLink "WreckShares$Good" (111 : Nat) "java/util/ArrayList") ∈ lw_all := lw_g (lw_at lw_m6 232 rfl) rfl
theorem q1557 : (Jvm.Cond.methodLink "WreckShares$Good" (113 : Nat) ({ cls := "java/util/ArrayList", name := "<init>", desc := "()V" } : Jvm.MethodName)) ∈ lw_all := lw_g (lw_at lw_m6 233 rfl) rfl
theorem q1560 : (Jvm.Cond.methodLink "WreckShares$Good" (114 : Nat) ({ cls := "WreckShares$Good", name := "hands", desc := "()[I" } : Jvm.MethodName)) ∈ lw_all := lw_g (lw_at lw_m6 236 rfl) rfl
theorem q1561 : (Jvm.Cond.instanceMethod ({ cls := "WreckShares$Good", name := "hands", desc := "()[I" } : Jvm.MethodName)) ∈ lw_all := lw_g (lw_at lw_m6 237 rfl) rfl
theorem q1562 : (Jvm.Cond.selects "WreckShares$Good" ({ cls := "WreckShares$Good", name := "hands", desc := "()[I" } : Jvm.MethodName) ({ cls := "WreckShares$Good", name := "hands", desc := "()[I" } : Jvm.MethodName)) ∈ lw_all := lw_g (lw_at lw_m6 238 rfl) rfl
theorem q1563 : (Jvm.Cond.code ({ cls := "WreckShares$Good", name := "hands", desc := "()[I" } : Jvm.MethodName) prog_3_method_3_code (3 : Nat) (Option.some (Jvm.ClassFile.FieldType.array Jvm.ClassFile.FieldType.int))) ∈ lw_all := lw_g (lw_at lw_m6 239 rfl) rfl
theorem q1564 : (Jvm.Cond.methodLink "WreckShares$Good" (86 : Nat) ({ cls := "java/util/LinkedList", name := "size", desc := "()I" } : Jvm.MethodName)) ∈ lw_all := lw_g (lw_at lw_m7 0 rfl) rfl
theorem q1565 : (Jvm.Cond.methodLink "WreckShares$Good" (89 : Nat) ({ cls := "java/util/LinkedList", name := "get", desc := "(I)Ljava/lang/Object;" } : Jvm.MethodName)) ∈ lw_all := lw_g (lw_at lw_m7 1 rfl) rfl
theorem q1566 : (Jvm.Cond.classLink "WreckShares$Good" (118 : Nat) "WreckShares$ToCrown") ∈ lw_all := lw_g (lw_at lw_m7 2 rfl) rfl
theorem q1568 : (Jvm.Cond.methodLink "WreckShares$Good" (105 : Nat) ({ cls := "WreckShares$Good", name := "crown", desc := "(Z)I" } : Jvm.MethodName)) ∈ lw_all := lw_g (lw_at lw_m7 4 rfl) rfl
theorem q1569 : (Jvm.Cond.instanceMethod ({ cls := "WreckShares$Good", name := "crown", desc := "(Z)I" } : Jvm.MethodName)) ∈ lw_all := lw_g (lw_at lw_m7 5 rfl) rfl
theorem q1570 : (Jvm.Cond.selects "WreckShares$Good" ({ cls := "WreckShares$Good", name := "crown", desc := "(Z)I" } : Jvm.MethodName) ({ cls := "WreckShares$Good", name := "crown", desc := "(Z)I" } : Jvm.MethodName)) ∈ lw_all := lw_g (lw_at lw_m7 6 rfl) rfl
theorem q1571 : (Jvm.Cond.code ({ cls := "WreckShares$Good", name := "crown", desc := "(Z)I" } : Jvm.MethodName) prog_3_method_5_code (2 : Nat) (Option.some Jvm.ClassFile.FieldType.int)) ∈ lw_all := lw_g (lw_at lw_m7 7 rfl) rfl
theorem q1572 : (Jvm.Cond.methodLink "WreckShares$Good" (98 : Nat) ({ cls := "WreckShares$Good", name := "salvage", desc := "()I" } : Jvm.MethodName)) ∈ lw_all := lw_g (lw_at lw_m7 8 rfl) rfl
theorem q1573 : (Jvm.Cond.instanceMethod ({ cls := "WreckShares$Good", name := "salvage", desc := "()I" } : Jvm.MethodName)) ∈ lw_all := lw_g (lw_at lw_m7 9 rfl) rfl
theorem q1574 : (Jvm.Cond.selects "WreckShares$Good" ({ cls := "WreckShares$Good", name := "salvage", desc := "()I" } : Jvm.MethodName) ({ cls := "WreckShares$Good", name := "salvage", desc := "()I" } : Jvm.MethodName)) ∈ lw_all := lw_g (lw_at lw_m7 10 rfl) rfl
theorem q1575 : (Jvm.Cond.code ({ cls := "WreckShares$Good", name := "salvage", desc := "()I" } : Jvm.MethodName) prog_3_method_4_code (1 : Nat) (Option.some Jvm.ClassFile.FieldType.int)) ∈ lw_all := lw_g (lw_at lw_m7 11 rfl) rfl
theorem q1576 : (Jvm.Cond.methodLink "WreckShares$Good" (93 : Nat) ({ cls := "WreckShares$Kind", name := "rate", desc := "()I" } : Jvm.MethodName)) ∈ lw_all := lw_g (lw_at lw_m7 12 rfl) rfl
theorem q1591 : (Jvm.Cond.methodLinkNest "WreckShares$Good" (120 : Nat) ({ cls := "WreckShares$ToCrown", name := "<init>", desc := "(I)V" } : Jvm.MethodName) "WreckShares") ∈ lw_tbl := lw_at lw_m7 27 rfl
theorem q1602 : (Jvm.Cond.interfaceEntry "WreckShares$Good" (123 : Nat)) ∈ lw_tbl := lw_at lw_m7 38 rfl
theorem q1603 : (Jvm.Cond.methodLink "WreckShares$Good" (123 : Nat) ({ cls := "java/util/List", name := "add", desc := "(Ljava/lang/Object;)Z" } : Jvm.MethodName)) ∈ lw_all := lw_g (lw_at lw_m7 39 rfl) rfl
theorem q1604 : (Jvm.Cond.classLink "WreckShares$Good" (129 : Nat) "WreckShares$ToOwner") ∈ lw_all := lw_g (lw_at lw_m7 40 rfl) rfl
theorem q1606 : (Jvm.Cond.methodLink "WreckShares$Good" (101 : Nat) ({ cls := "WreckShares$Good", name := "owners", desc := "(Z)I" } : Jvm.MethodName)) ∈ lw_all := lw_g (lw_at lw_m7 42 rfl) rfl
theorem q1607 : (Jvm.Cond.instanceMethod ({ cls := "WreckShares$Good", name := "owners", desc := "(Z)I" } : Jvm.MethodName)) ∈ lw_all := lw_g (lw_at lw_m7 43 rfl) rfl
theorem q1608 : (Jvm.Cond.selects "WreckShares$Good" ({ cls := "WreckShares$Good", name := "owners", desc := "(Z)I" } : Jvm.MethodName) ({ cls := "WreckShares$Good", name := "owners", desc := "(Z)I" } : Jvm.MethodName)) ∈ lw_all := lw_g (lw_at lw_m7 44 rfl) rfl
theorem q1609 : (Jvm.Cond.code ({ cls := "WreckShares$Good", name := "owners", desc := "(Z)I" } : Jvm.MethodName) prog_3_method_6_code (2 : Nat) (Option.some Jvm.ClassFile.FieldType.int)) ∈ lw_all := lw_g (lw_at lw_m7 45 rfl) rfl
theorem q1610 : (Jvm.Cond.methodLinkNest "WreckShares$Good" (131 : Nat) ({ cls := "WreckShares$ToOwner", name := "<init>", desc := "(II)V" } : Jvm.MethodName) "WreckShares") ∈ lw_tbl := lw_at lw_m7 46 rfl
theorem q1621 : (Jvm.Cond.methodLink "WreckShares$Good" (134 : Nat) ({ cls := "WreckShares$Good", name := "leftOver", desc := "(I)I" } : Jvm.MethodName)) ∈ lw_all := lw_g (lw_at lw_m7 57 rfl) rfl
theorem q1622 : (Jvm.Cond.instanceMethod ({ cls := "WreckShares$Good", name := "leftOver", desc := "(I)I" } : Jvm.MethodName)) ∈ lw_all := lw_g (lw_at lw_m7 58 rfl) rfl
theorem q1623 : (Jvm.Cond.selects "WreckShares$Good" ({ cls := "WreckShares$Good", name := "leftOver", desc := "(I)I" } : Jvm.MethodName) ({ cls := "WreckShares$Good", name := "leftOver", desc := "(I)I" } : Jvm.MethodName)) ∈ lw_all := lw_g (lw_at lw_m7 59 rfl) rfl
theorem q1624 : (Jvm.Cond.code ({ cls := "WreckShares$Good", name := "leftOver", desc := "(I)I" } : Jvm.MethodName) prog_3_method_8_code (4 : Nat) (Option.some Jvm.ClassFile.FieldType.int)) ∈ lw_all := lw_g (lw_at lw_m7 60 rfl) rfl
theorem q1625 : (Jvm.Cond.methodLink "WreckShares$Good" (108 : Nat) ({ cls := "WreckShares$Good", name := "rest", desc := "(Z)I" } : Jvm.MethodName)) ∈ lw_all := lw_g (lw_at lw_m7 61 rfl) rfl
theorem q1626 : (Jvm.Cond.instanceMethod ({ cls := "WreckShares$Good", name := "rest", desc := "(Z)I" } : Jvm.MethodName)) ∈ lw_all := lw_g (lw_at lw_m7 62 rfl) rfl
theorem q1627 : (Jvm.Cond.selects "WreckShares$Good" ({ cls := "WreckShares$Good", name := "rest", desc := "(Z)I" } : Jvm.MethodName) ({ cls := "WreckShares$Good", name := "rest", desc := "(Z)I" } : Jvm.MethodName)) ∈ lw_all := lw_g (lw_at lw_m7 63 rfl) rfl
theorem q1628 : (Jvm.Cond.code ({ cls := "WreckShares$Good", name := "rest", desc := "(Z)I" } : Jvm.MethodName) prog_3_method_7_code (2 : Nat) (Option.some Jvm.ClassFile.FieldType.int)) ∈ lw_all := lw_g (lw_at lw_m7 64 rfl) rfl
theorem q1629 : (Jvm.Cond.classLink "WreckShares$Good" (138 : Nat) "WreckShares$ToFinder") ∈ lw_all := lw_g (lw_at lw_m7 65 rfl) rfl
theorem q1631 : (Jvm.Cond.methodLinkNest "WreckShares$Good" (140 : Nat) ({ cls := "WreckShares", name := "asInt", desc := "(Z)I" } : Jvm.MethodName) "WreckShares") ∈ lw_tbl := lw_at lw_m7 67 rfl
theorem q1632 : (Jvm.Cond.methodLinkNest "WreckShares$Good" (143 : Nat) ({ cls := "WreckShares$ToFinder", name := "<init>", desc := "(II)V" } : Jvm.MethodName) "WreckShares") ∈ lw_tbl := lw_at lw_m7 68 rfl
theorem q2138 : (Jvm.Cond.instanceMethod ({ cls := "WreckShares$Good", name := "sum", desc := "(LWreckShares$Rule;)I" } : Jvm.MethodName)) ∈ lw_all := lw_g (lw_at lw_m9 94 rfl) rfl
theorem q2139 : (Jvm.Cond.selects "WreckShares$Good" ({ cls := "WreckShares$Good", name := "sum", desc := "(LWreckShares$Rule;)I" } : Jvm.MethodName) ({ cls := "WreckShares$Good", name := "sum", desc := "(LWreckShares$Rule;)I" } : Jvm.MethodName)) ∈ lw_all := lw_g (lw_at lw_m9 95 rfl) rfl
theorem q2140 : (Jvm.Cond.code ({ cls := "WreckShares$Good", name := "sum", desc := "(LWreckShares$Rule;)I" } : Jvm.MethodName) prog_3_method_10_code (5 : Nat) (Option.some Jvm.ClassFile.FieldType.int)) ∈ lw_all := lw_g (lw_at lw_m9 96 rfl) rfl
theorem q2141 : (Jvm.Cond.methodLink "WreckShares$Good" (144 : Nat) ({ cls := "WreckShares$Good", name := "parts", desc := "()Ljava/util/List;" } : Jvm.MethodName)) ∈ lw_all := lw_g (lw_at lw_m9 97 rfl) rfl
theorem q2142 : (Jvm.Cond.interfaceEntry "WreckShares$Good" (148 : Nat)) ∈ lw_tbl := lw_at lw_m9 98 rfl
theorem q2143 : (Jvm.Cond.methodLink "WreckShares$Good" (148 : Nat) ({ cls := "java/util/List", name := "iterator", desc := "()Ljava/util/Iterator;" } : Jvm.MethodName)) ∈ lw_all := lw_g (lw_at lw_m9 99 rfl) rfl
theorem q2144 : (Jvm.Cond.classLink "WreckShares$Good" (149 : Nat) "WreckShares$Part") ∈ lw_all := lw_g (lw_at lw_m9 100 rfl) rfl
theorem q2145 : (Jvm.Cond.interfaceEntry "WreckShares$Good" (151 : Nat)) ∈ lw_tbl := lw_at lw_m9 101 rfl
theorem q2146 : (Jvm.Cond.methodLink "WreckShares$Good" (151 : Nat) ({ cls := "WreckShares$Rule", name := "is", desc := "(LWreckShares$Part;)Z" } : Jvm.MethodName)) ∈ lw_all := lw_g (lw_at lw_m9 102 rfl) rfl
theorem q2149 : (Jvm.Cond.interfaceEntry "WreckShares$Good" (157 : Nat)) ∈ lw_tbl := lw_at lw_m9 105 rfl
theorem q2150 : (Jvm.Cond.methodLink "WreckShares$Good" (157 : Nat) ({ cls := "WreckShares$Part", name := "amount", desc := "()I" } : Jvm.MethodName)) ∈ lw_all := lw_g (lw_at lw_m9 106 rfl) rfl
theorem q3163 : (Jvm.Cond.castable "WreckShares$Good" "java/lang/Object") ∈ lw_tbl := lw_at lw_m13 159 rfl
theorem in_X3 : ∀ w ∈ wsX30, w ∈ lw_all := lw_in wsX30 [658, 660, 662, 664, 666, 668, 670, 672, 674, 676, 678, 680] (by decide +kernel) (by decide +kernel)

/-! WreckShares$Kind -/
def RX4 : String := "WreckShares$Kind"
abbrev cX4_of : ByteArray := prog_4_method_5_code
def yX4_of : MethodName := ⟨RX4, "of", "(I)LWreckShares$Kind;"⟩
def dkwX4_of_1 : List UInt8 := [160, 0, 9, 178, 0, 10, 167, 0, 6, 178, 0, 13, 176]
abbrev dktX4_of_1 : List UInt8 := dkwX4_of_1 ++ []
def dkwX4_of_0 : List UInt8 := [26, 154, 0, 9, 178, 0, 3, 167, 0, 28, 26, 4, 160, 0, 9, 178, 0, 7, 167, 0, 17, 26, 5]
abbrev dktX4_of_0 : List UInt8 := dkwX4_of_0 ++ dktX4_of_1
theorem dksX4_of_0 : cX4_of.data.toList.drop 0 = dktX4_of_0 := by decide +kernel
theorem dksX4_of_1 : cX4_of.data.toList.drop 23 = dktX4_of_1 := dk_seg dksX4_of_0 23 rfl rfl
theorem dX4_of_0 : decode cX4_of 0 = .ok (.iload_n 0, 1) := dk_26 (dk_at dksX4_of_0 0 rfl rfl)
theorem dX4_of_1 : decode cX4_of 1 = .ok (.ifCond .ne 9, 3) := dk_154 0 9 (dk_at dksX4_of_0 1 rfl rfl)
theorem dX4_of_4 : decode cX4_of 4 = .ok (.getstatic 3, 3) := dk_178 0 3 (dk_at dksX4_of_0 4 rfl rfl)
theorem dX4_of_7 : decode cX4_of 7 = .ok (.goto 28, 3) := dk_167 0 28 (dk_at dksX4_of_0 7 rfl rfl)
theorem dX4_of_10 : decode cX4_of 10 = .ok (.iload_n 0, 1) := dk_26 (dk_at dksX4_of_0 10 rfl rfl)
theorem dX4_of_11 : decode cX4_of 11 = .ok (.iconst 1, 1) := dk_4 (dk_at dksX4_of_0 11 rfl rfl)
theorem dX4_of_12 : decode cX4_of 12 = .ok (.if_icmp .ne 9, 3) := dk_160 0 9 (dk_at dksX4_of_0 12 rfl rfl)
theorem dX4_of_15 : decode cX4_of 15 = .ok (.getstatic 7, 3) := dk_178 0 7 (dk_at dksX4_of_0 15 rfl rfl)
theorem dX4_of_18 : decode cX4_of 18 = .ok (.goto 17, 3) := dk_167 0 17 (dk_at dksX4_of_0 18 rfl rfl)
theorem dX4_of_21 : decode cX4_of 21 = .ok (.iload_n 0, 1) := dk_26 (dk_at dksX4_of_0 21 rfl rfl)
theorem dX4_of_22 : decode cX4_of 22 = .ok (.iconst 2, 1) := dk_5 (dk_at dksX4_of_0 22 rfl rfl)
theorem dX4_of_23 : decode cX4_of 23 = .ok (.if_icmp .ne 9, 3) := dk_160 0 9 (dk_at dksX4_of_1 0 rfl rfl)
theorem dX4_of_26 : decode cX4_of 26 = .ok (.getstatic 10, 3) := dk_178 0 10 (dk_at dksX4_of_1 3 rfl rfl)
theorem dX4_of_29 : decode cX4_of 29 = .ok (.goto 6, 3) := dk_167 0 6 (dk_at dksX4_of_1 6 rfl rfl)
theorem dX4_of_32 : decode cX4_of 32 = .ok (.getstatic 13, 3) := dk_178 0 13 (dk_at dksX4_of_1 9 rfl rfl)
theorem dX4_of_35 : decode cX4_of 35 = .ok (.areturn, 1) := dk_176 (dk_at dksX4_of_1 12 rfl rfl)
abbrev cX4_named : ByteArray := prog_4_method_6_code
def yX4_named : MethodName := ⟨RX4, "named", "(Ljava/lang/String;)LWreckShares$Kind;"⟩
def dkwX4_named_7 : List UInt8 := [1, 176]
abbrev dktX4_named_7 : List UInt8 := dkwX4_named_7 ++ []
def dkwX4_named_6 : List UInt8 := [178, 0, 3, 167, 0, 22, 178, 0, 7, 167, 0, 16, 178, 0, 10, 167, 0, 10, 178, 0, 13, 167, 0, 4]
abbrev dktX4_named_6 : List UInt8 := dkwX4_named_6 ++ dktX4_named_7
def dkwX4_named_5 : List UInt8 := [170, 0, 0, 0, 0, 54, 0, 0, 0, 0, 0, 0, 0, 3, 0, 0, 0, 30, 0, 0, 0, 36, 0, 0, 0, 42, 0, 0, 0, 48]
abbrev dktX4_named_5 : List UInt8 := dkwX4_named_5 ++ dktX4_named_6
def dkwX4_named_4 : List UInt8 := [153, 0, 5, 6, 61, 28]
abbrev dktX4_named_4 : List UInt8 := dkwX4_named_4 ++ dktX4_named_5
def dkwX4_named_3 : List UInt8 := [61, 167, 0, 28, 43, 18, 49, 182, 0, 43, 153, 0, 19, 5, 61, 167, 0, 14, 43, 18, 51, 182, 0, 43]
abbrev dktX4_named_3 : List UInt8 := dkwX4_named_3 ++ dktX4_named_4
def dkwX4_named_2 : List UInt8 := [43, 18, 41, 182, 0, 43, 153, 0, 47, 3, 61, 167, 0, 42, 43, 18, 47, 182, 0, 43, 153, 0, 33, 4]
abbrev dktX4_named_2 : List UInt8 := dkwX4_named_2 ++ dktX4_named_3
def dkwX4_named_1 : List UInt8 := [171, 0, 0, 0, 0, 0, 0, 97, 0, 0, 0, 4, 0, 46, 5, 248, 0, 0, 0, 58, 0, 46, 123, 54, 0, 0, 0, 44, 0, 53, 247, 78, 0, 0, 0, 72, 5, 163, 231, 1, 0, 0, 0, 86]
abbrev dktX4_named_1 : List UInt8 := dkwX4_named_1 ++ dktX4_named_2
def dkwX4_named_0 : List UInt8 := [42, 76, 2, 61, 43, 182, 0, 35]
abbrev dktX4_named_0 : List UInt8 := dkwX4_named_0 ++ dktX4_named_1
theorem dksX4_named_0 : cX4_named.data.toList.drop 0 = dktX4_named_0 := by decide +kernel
theorem dksX4_named_1 : cX4_named.data.toList.drop 8 = dktX4_named_1 := dk_seg dksX4_named_0 8 rfl rfl
theorem dksX4_named_2 : cX4_named.data.toList.drop 52 = dktX4_named_2 := dk_seg dksX4_named_1 44 rfl rfl
theorem dksX4_named_3 : cX4_named.data.toList.drop 76 = dktX4_named_3 := dk_seg dksX4_named_2 24 rfl rfl
theorem dksX4_named_4 : cX4_named.data.toList.drop 100 = dktX4_named_4 := dk_seg dksX4_named_3 24 rfl rfl
theorem dksX4_named_5 : cX4_named.data.toList.drop 106 = dktX4_named_5 := dk_seg dksX4_named_4 6 rfl rfl
theorem dksX4_named_6 : cX4_named.data.toList.drop 136 = dktX4_named_6 := dk_seg dksX4_named_5 30 rfl rfl
theorem dksX4_named_7 : cX4_named.data.toList.drop 160 = dktX4_named_7 := dk_seg dksX4_named_6 24 rfl rfl
theorem dX4_named_0 : decode cX4_named 0 = .ok (.aload_n 0, 1) := dk_42 (dk_at dksX4_named_0 0 rfl rfl)
theorem dX4_named_1 : decode cX4_named 1 = .ok (.astore_n 1, 1) := dk_76 (dk_at dksX4_named_0 1 rfl rfl)
theorem dX4_named_2 : decode cX4_named 2 = .ok (.iconst (-1), 1) := dk_2 (dk_at dksX4_named_0 2 rfl rfl)
theorem dX4_named_3 : decode cX4_named 3 = .ok (.istore_n 2, 1) := dk_61 (dk_at dksX4_named_0 3 rfl rfl)
theorem dX4_named_4 : decode cX4_named 4 = .ok (.aload_n 1, 1) := dk_43 (dk_at dksX4_named_0 4 rfl rfl)
theorem dX4_named_5 : decode cX4_named 5 = .ok (.invokevirtual 35, 3) := dk_182 0 35 (dk_at dksX4_named_0 5 rfl rfl)
theorem dX4_named_8 : decode cX4_named 8 = .ok (.lookupswitch 97 #[(3016184, 58), (3046198, 44), (3536718, 72), (94627585, 86)], 44) := by decide +kernel
theorem dX4_named_52 : decode cX4_named 52 = .ok (.aload_n 1, 1) := dk_43 (dk_at dksX4_named_2 0 rfl rfl)
theorem dX4_named_53 : decode cX4_named 53 = .ok (.ldc 41, 2) := dk_18 41 (dk_at dksX4_named_2 1 rfl rfl)
theorem dX4_named_55 : decode cX4_named 55 = .ok (.invokevirtual 43, 3) := dk_182 0 43 (dk_at dksX4_named_2 3 rfl rfl)
theorem dX4_named_58 : decode cX4_named 58 = .ok (.ifCond .eq 47, 3) := dk_153 0 47 (dk_at dksX4_named_2 6 rfl rfl)
theorem dX4_named_61 : decode cX4_named 61 = .ok (.iconst 0, 1) := dk_3 (dk_at dksX4_named_2 9 rfl rfl)
theorem dX4_named_62 : decode cX4_named 62 = .ok (.istore_n 2, 1) := dk_61 (dk_at dksX4_named_2 10 rfl rfl)
theorem dX4_named_63 : decode cX4_named 63 = .ok (.goto 42, 3) := dk_167 0 42 (dk_at dksX4_named_2 11 rfl rfl)
theorem dX4_named_66 : decode cX4_named 66 = .ok (.aload_n 1, 1) := dk_43 (dk_at dksX4_named_2 14 rfl rfl)
theorem dX4_named_67 : decode cX4_named 67 = .ok (.ldc 47, 2) := dk_18 47 (dk_at dksX4_named_2 15 rfl rfl)
theorem dX4_named_69 : decode cX4_named 69 = .ok (.invokevirtual 43, 3) := dk_182 0 43 (dk_at dksX4_named_2 17 rfl rfl)
theorem dX4_named_72 : decode cX4_named 72 = .ok (.ifCond .eq 33, 3) := dk_153 0 33 (dk_at dksX4_named_2 20 rfl rfl)
theorem dX4_named_75 : decode cX4_named 75 = .ok (.iconst 1, 1) := dk_4 (dk_at dksX4_named_2 23 rfl rfl)
theorem dX4_named_76 : decode cX4_named 76 = .ok (.istore_n 2, 1) := dk_61 (dk_at dksX4_named_3 0 rfl rfl)
theorem dX4_named_77 : decode cX4_named 77 = .ok (.goto 28, 3) := dk_167 0 28 (dk_at dksX4_named_3 1 rfl rfl)
theorem dX4_named_80 : decode cX4_named 80 = .ok (.aload_n 1, 1) := dk_43 (dk_at dksX4_named_3 4 rfl rfl)
theorem dX4_named_81 : decode cX4_named 81 = .ok (.ldc 49, 2) := dk_18 49 (dk_at dksX4_named_3 5 rfl rfl)
theorem dX4_named_83 : decode cX4_named 83 = .ok (.invokevirtual 43, 3) := dk_182 0 43 (dk_at dksX4_named_3 7 rfl rfl)
theorem dX4_named_86 : decode cX4_named 86 = .ok (.ifCond .eq 19, 3) := dk_153 0 19 (dk_at dksX4_named_3 10 rfl rfl)
theorem dX4_named_89 : decode cX4_named 89 = .ok (.iconst 2, 1) := dk_5 (dk_at dksX4_named_3 13 rfl rfl)
theorem dX4_named_90 : decode cX4_named 90 = .ok (.istore_n 2, 1) := dk_61 (dk_at dksX4_named_3 14 rfl rfl)
theorem dX4_named_91 : decode cX4_named 91 = .ok (.goto 14, 3) := dk_167 0 14 (dk_at dksX4_named_3 15 rfl rfl)
theorem dX4_named_94 : decode cX4_named 94 = .ok (.aload_n 1, 1) := dk_43 (dk_at dksX4_named_3 18 rfl rfl)
theorem dX4_named_95 : decode cX4_named 95 = .ok (.ldc 51, 2) := dk_18 51 (dk_at dksX4_named_3 19 rfl rfl)
theorem dX4_named_97 : decode cX4_named 97 = .ok (.invokevirtual 43, 3) := dk_182 0 43 (dk_at dksX4_named_3 21 rfl rfl)
theorem dX4_named_100 : decode cX4_named 100 = .ok (.ifCond .eq 5, 3) := dk_153 0 5 (dk_at dksX4_named_4 0 rfl rfl)
theorem dX4_named_103 : decode cX4_named 103 = .ok (.iconst 3, 1) := dk_6 (dk_at dksX4_named_4 3 rfl rfl)
theorem dX4_named_104 : decode cX4_named 104 = .ok (.istore_n 2, 1) := dk_61 (dk_at dksX4_named_4 4 rfl rfl)
theorem dX4_named_105 : decode cX4_named 105 = .ok (.iload_n 2, 1) := dk_28 (dk_at dksX4_named_4 5 rfl rfl)
theorem dX4_named_106 : decode cX4_named 106 = .ok (.tableswitch 54 0 3 #[30, 36, 42, 48], 30) := by decide +kernel
theorem dX4_named_136 : decode cX4_named 136 = .ok (.getstatic 3, 3) := dk_178 0 3 (dk_at dksX4_named_6 0 rfl rfl)
theorem dX4_named_139 : decode cX4_named 139 = .ok (.goto 22, 3) := dk_167 0 22 (dk_at dksX4_named_6 3 rfl rfl)
theorem dX4_named_142 : decode cX4_named 142 = .ok (.getstatic 7, 3) := dk_178 0 7 (dk_at dksX4_named_6 6 rfl rfl)
theorem dX4_named_145 : decode cX4_named 145 = .ok (.goto 16, 3) := dk_167 0 16 (dk_at dksX4_named_6 9 rfl rfl)
theorem dX4_named_148 : decode cX4_named 148 = .ok (.getstatic 10, 3) := dk_178 0 10 (dk_at dksX4_named_6 12 rfl rfl)
theorem dX4_named_151 : decode cX4_named 151 = .ok (.goto 10, 3) := dk_167 0 10 (dk_at dksX4_named_6 15 rfl rfl)
theorem dX4_named_154 : decode cX4_named 154 = .ok (.getstatic 13, 3) := dk_178 0 13 (dk_at dksX4_named_6 18 rfl rfl)
theorem dX4_named_157 : decode cX4_named 157 = .ok (.goto 4, 3) := dk_167 0 4 (dk_at dksX4_named_6 21 rfl rfl)
theorem dX4_named_160 : decode cX4_named 160 = .ok (.aconst_null, 1) := dk_1 (dk_at dksX4_named_7 0 rfl rfl)
theorem dX4_named_161 : decode cX4_named 161 = .ok (.areturn, 1) := dk_176 (dk_at dksX4_named_7 1 rfl rfl)
abbrev cX4_values : ByteArray := prog_4_method_1_code
def yX4_values : MethodName := ⟨RX4, "values", "()[LWreckShares$Kind;"⟩
def dkwX4_values_0 : List UInt8 := [178, 0, 16, 182, 0, 20, 192, 0, 21, 176]
abbrev dktX4_values_0 : List UInt8 := dkwX4_values_0 ++ []
theorem dksX4_values_0 : cX4_values.data.toList.drop 0 = dktX4_values_0 := by decide +kernel
theorem dX4_values_0 : decode cX4_values 0 = .ok (.getstatic 16, 3) := dk_178 0 16 (dk_at dksX4_values_0 0 rfl rfl)
theorem dX4_values_3 : decode cX4_values 3 = .ok (.invokevirtual 20, 3) := dk_182 0 20 (dk_at dksX4_values_0 3 rfl rfl)
theorem dX4_values_6 : decode cX4_values 6 = .ok (.checkcast 21, 3) := dk_192 0 21 (dk_at dksX4_values_0 6 rfl rfl)
theorem dX4_values_9 : decode cX4_values 9 = .ok (.areturn, 1) := dk_176 (dk_at dksX4_values_0 9 rfl rfl)
theorem q148 : (Jvm.Cond.initialized "WreckShares$Kind") ∈ lw_all := lw_g (lw_at lw_m1 24 rfl) rfl
theorem q586 : (Jvm.Cond.static ({ cls := "WreckShares$Kind", name := "of", desc := "(I)LWreckShares$Kind;" } : Jvm.MethodName)) ∈ lw_all := lw_g (lw_at lw_m2 222 rfl) rfl
theorem q587 : (Jvm.Cond.code ({ cls := "WreckShares$Kind", name := "of", desc := "(I)LWreckShares$Kind;" } : Jvm.MethodName) prog_4_method_5_code (1 : Nat) (Option.some (Jvm.ClassFile.FieldType.object "WreckShares$Kind"))) ∈ lw_all := lw_g (lw_at lw_m2 223 rfl) rfl
theorem q588 : (Jvm.Cond.fieldLink "WreckShares$Kind" (3 : Nat) "WreckShares$Kind" "CASK" "LWreckShares$Kind;") ∈ lw_all := lw_g (lw_at lw_m2 224 rfl) rfl
theorem q589 : (Jvm.Cond.laysStatic "WreckShares$Kind" "CASK" "LWreckShares$Kind;") ∈ lw_tbl := lw_at lw_m2 225 rfl
theorem q590 : (Jvm.Cond.fieldLink "WreckShares$Kind" (7 : Nat) "WreckShares$Kind" "BALE" "LWreckShares$Kind;") ∈ lw_all := lw_g (lw_at lw_m2 226 rfl) rfl
theorem q591 : (Jvm.Cond.laysStatic "WreckShares$Kind" "BALE" "LWreckShares$Kind;") ∈ lw_tbl := lw_at lw_m2 227 rfl
theorem q592 : (Jvm.Cond.fieldLink "WreckShares$Kind" (10 : Nat) "WreckShares$Kind" "SPAR" "LWreckShares$Kind;") ∈ lw_all := lw_g (lw_at lw_m2 228 rfl) rfl
theorem q593 : (Jvm.Cond.laysStatic "WreckShares$Kind" "SPAR" "LWreckShares$Kind;") ∈ lw_tbl := lw_at lw_m2 229 rfl
theorem q594 : (Jvm.Cond.fieldLink "WreckShares$Kind" (13 : Nat) "WreckShares$Kind" "CHEST" "LWreckShares$Kind;") ∈ lw_all := lw_g (lw_at lw_m2 230 rfl) rfl
theorem q595 : (Jvm.Cond.laysStatic "WreckShares$Kind" "CHEST" "LWreckShares$Kind;") ∈ lw_tbl := lw_at lw_m2 231 rfl
theorem q1577 : (Jvm.Cond.declares ({ cls := "WreckShares$Kind", name := "rate", desc := "()I" } : Jvm.MethodName)) ∈ lw_tbl := lw_at lw_m7 13 rfl
theorem q1578 : (Jvm.Cond.sameMethod "WreckShares$Kind" "WreckShares$Kind" "rate" "()I") ∈ lw_all := lw_g (lw_at lw_m7 14 rfl) rfl
theorem q1929 : (Jvm.Cond.static ({ cls := "WreckShares$Kind", name := "named", desc := "(Ljava/lang/String;)LWreckShares$Kind;" } : Jvm.MethodName)) ∈ lw_all := lw_g (lw_at lw_m8 125 rfl) rfl
theorem q1930 : (Jvm.Cond.code ({ cls := "WreckShares$Kind", name := "named", desc := "(Ljava/lang/String;)LWreckShares$Kind;" } : Jvm.MethodName) prog_4_method_6_code (3 : Nat) (Option.some (Jvm.ClassFile.FieldType.object "WreckShares$Kind"))) ∈ lw_all := lw_g (lw_at lw_m8 126 rfl) rfl
theorem q1931 : (Jvm.Cond.methodLink "WreckShares$Kind" (35 : Nat) ({ cls := "java/lang/String", name := "hashCode", desc := "()I" } : Jvm.MethodName)) ∈ lw_all := lw_g (lw_at lw_m8 127 rfl) rfl
theorem q1988 : (Jvm.Cond.stringRef "WreckShares$Kind" (41 : Nat) "cask") ∈ lw_tbl := lw_at lw_m8 184 rfl
theorem q1989 : (Jvm.Cond.methodLink "WreckShares$Kind" (43 : Nat) ({ cls := "java/lang/String", name := "equals", desc := "(Ljava/lang/Object;)Z" } : Jvm.MethodName)) ∈ lw_all := lw_g (lw_at lw_m8 185 rfl) rfl
theorem q1990 : (Jvm.Cond.stringRef "WreckShares$Kind" (47 : Nat) "bale") ∈ lw_tbl := lw_at lw_m8 186 rfl
theorem q1991 : (Jvm.Cond.stringRef "WreckShares$Kind" (49 : Nat) "spar") ∈ lw_tbl := lw_at lw_m8 187 rfl
theorem q1992 : (Jvm.Cond.stringRef "WreckShares$Kind" (51 : Nat) "chest") ∈ lw_tbl := lw_at lw_m8 188 rfl
theorem q2052 : (Jvm.Cond.sameMethod "WreckShares$Kind" "java/lang/Enum" "ordinal" "()I") ∈ lw_all := lw_g (lw_at lw_m9 8 rfl) rfl
theorem q2106 : (Jvm.Cond.static ({ cls := "WreckShares$Kind", name := "values", desc := "()[LWreckShares$Kind;" } : Jvm.MethodName)) ∈ lw_all := lw_g (lw_at lw_m9 62 rfl) rfl
theorem q2107 : (Jvm.Cond.code ({ cls := "WreckShares$Kind", name := "values", desc := "()[LWreckShares$Kind;" } : Jvm.MethodName) prog_4_method_1_code (0 : Nat) (Option.some (Jvm.ClassFile.FieldType.array (Jvm.ClassFile.FieldType.object "WreckShares$Kind")))) ∈ lw_all := lw_g (lw_at lw_m9 63 rfl) rfl
theorem q2108 : (Jvm.Cond.fieldLink "WreckShares$Kind" (16 : Nat) "WreckShares$Kind" "$VALUES" "[LWreckShares$Kind;") ∈ lw_all := lw_g (lw_at lw_m9 64 rfl) rfl
theorem q2109 : (Jvm.Cond.laysStatic "WreckShares$Kind" "$VALUES" "[LWreckShares$Kind;") ∈ lw_tbl := lw_at lw_m9 65 rfl
theorem q2110 : (Jvm.Cond.methodLink "WreckShares$Kind" (20 : Nat) ({ cls := "[LWreckShares$Kind;", name := "clone", desc := "()Ljava/lang/Object;" } : Jvm.MethodName)) ∈ lw_all := lw_g (lw_at lw_m9 66 rfl) rfl
theorem q2115 : (Jvm.Cond.classLink "WreckShares$Kind" (21 : Nat) "[LWreckShares$Kind;") ∈ lw_all := lw_g (lw_at lw_m9 71 rfl) rfl
theorem q3155 : (Jvm.Cond.castable "WreckShares$Kind" "java/lang/Object") ∈ lw_tbl := lw_at lw_m13 151 rfl

/-! WreckShares$Parser -/
def RX6 : String := "WreckShares$Parser"
def TX6 : u_T := fun k => match k with
  | 0 => ("WreckShares$Parser", "word", "Ljava/lang/StringBuilder;", true)
  | 1 => ("WreckShares$Parser", "end", "I", true)
  | 2 => ("WreckShares$Parser", "at", "I", false)
  | 3 => ("WreckShares$Parser", "begin", "I", false)
  | 4 => ("WreckShares$Parser", "value", "I", false)
  | 5 => ("WreckShares$Parser", "sign", "I", false)
  | 6 => ("WreckShares$Parser", "many", "I", false)
  | 7 => ("WreckShares$Parser", "token", "LWreckShares$Token;", false)
  | _ => ("WreckShares$Parser", "this$0", "LWreckShares;", true)
def tyX6 : Nat → FieldType := fun k => match k with
  | 0 => .object "java/lang/StringBuilder"
  | 1 => .int
  | 2 => .int
  | 3 => .int
  | 4 => .int
  | 5 => .int
  | 6 => .int
  | 7 => .object "WreckShares$Token"
  | _ => .object "WreckShares"
abbrev wsX60 : List Cond := u_ws RX6 TX6 9
theorem nmX6 : ∀ a, a < 9 → ∀ b, b < 9 → a ≠ b → (TX6 a).2.1 ≠ (TX6 b).2.1 := by decide +kernel
theorem tyX6_ok : ∀ k, k < 9 → parseFieldDescriptor (TX6 k).2.2.1 = some (tyX6 k) := by decide +kernel
abbrev cX6_init : ByteArray := prog_11_method_1_code
def yX6_init : MethodName := ⟨RX6, "<init>", "(LWreckShares;I)V"⟩
def dkwX6_init_1 : List UInt8 := [181, 0, 22, 42, 182, 0, 26, 177]
abbrev dktX6_init_1 : List UInt8 := dkwX6_init_1 ++ []
def dkwX6_init_0 : List UInt8 := [42, 43, 181, 0, 3, 42, 183, 0, 9, 42, 187, 0, 15, 89, 183, 0, 17, 181, 0, 18, 42, 28]
abbrev dktX6_init_0 : List UInt8 := dkwX6_init_0 ++ dktX6_init_1
theorem dksX6_init_0 : cX6_init.data.toList.drop 0 = dktX6_init_0 := by decide +kernel
theorem dksX6_init_1 : cX6_init.data.toList.drop 22 = dktX6_init_1 := dk_seg dksX6_init_0 22 rfl rfl
theorem dX6_init_0 : decode cX6_init 0 = .ok (.aload_n 0, 1) := dk_42 (dk_at dksX6_init_0 0 rfl rfl)
theorem dX6_init_1 : decode cX6_init 1 = .ok (.aload_n 1, 1) := dk_43 (dk_at dksX6_init_0 1 rfl rfl)
theorem dX6_init_2 : decode cX6_init 2 = .ok (.putfield 3, 3) := dk_181 0 3 (dk_at dksX6_init_0 2 rfl rfl)
theorem dX6_init_5 : decode cX6_init 5 = .ok (.aload_n 0, 1) := dk_42 (dk_at dksX6_init_0 5 rfl rfl)
theorem dX6_init_6 : decode cX6_init 6 = .ok (.invokespecial 9, 3) := dk_183 0 9 (dk_at dksX6_init_0 6 rfl rfl)
theorem dX6_init_9 : decode cX6_init 9 = .ok (.aload_n 0, 1) := dk_42 (dk_at dksX6_init_0 9 rfl rfl)
theorem dX6_init_10 : decode cX6_init 10 = .ok (.new 15, 3) := dk_187 0 15 (dk_at dksX6_init_0 10 rfl rfl)
theorem dX6_init_13 : decode cX6_init 13 = .ok (.dup, 1) := dk_89 (dk_at dksX6_init_0 13 rfl rfl)
theorem dX6_init_14 : decode cX6_init 14 = .ok (.invokespecial 17, 3) := dk_183 0 17 (dk_at dksX6_init_0 14 rfl rfl)
theorem dX6_init_17 : decode cX6_init 17 = .ok (.putfield 18, 3) := dk_181 0 18 (dk_at dksX6_init_0 17 rfl rfl)
theorem dX6_init_20 : decode cX6_init 20 = .ok (.aload_n 0, 1) := dk_42 (dk_at dksX6_init_0 20 rfl rfl)
theorem dX6_init_21 : decode cX6_init 21 = .ok (.iload_n 2, 1) := dk_28 (dk_at dksX6_init_0 21 rfl rfl)
theorem dX6_init_22 : decode cX6_init 22 = .ok (.putfield 22, 3) := dk_181 0 22 (dk_at dksX6_init_1 0 rfl rfl)
theorem dX6_init_25 : decode cX6_init 25 = .ok (.aload_n 0, 1) := dk_42 (dk_at dksX6_init_1 3 rfl rfl)
theorem dX6_init_26 : decode cX6_init 26 = .ok (.invokevirtual 26, 3) := dk_182 0 26 (dk_at dksX6_init_1 4 rfl rfl)
theorem dX6_init_29 : decode cX6_init 29 = .ok (.return_, 1) := dk_177 (dk_at dksX6_init_1 7 rfl rfl)
abbrev cX6_next : ByteArray := prog_11_method_5_code
def yX6_next : MethodName := ⟨RX6, "next", "()V"⟩
def dkwX6_next_10 : List UInt8 := [181, 0, 83, 42, 178, 0, 86, 181, 0, 53, 42, 89, 180, 0, 33, 4, 96, 181, 0, 33, 177]
abbrev dktX6_next_10 : List UInt8 := dkwX6_next_10 ++ []
def dkwX6_next_9 : List UInt8 := [180, 0, 33, 4, 96, 181, 0, 33, 167, 255, 204, 42, 178, 0, 80, 181, 0, 53, 167, 0, 25, 42, 27]
abbrev dktX6_next_9 : List UInt8 := dkwX6_next_9 ++ dktX6_next_10
def dkwX6_next_8 : List UInt8 := [180, 0, 70, 104, 42, 42, 180, 0, 33, 182, 0, 36, 96, 16, 48, 100, 184, 0, 74, 181, 0, 70, 42, 89]
abbrev dktX6_next_8 : List UInt8 := dkwX6_next_8 ++ dktX6_next_9
def dkwX6_next_7 : List UInt8 := [3, 181, 0, 70, 42, 42, 180, 0, 33, 182, 0, 36, 184, 0, 67, 153, 0, 44, 42, 18, 73, 16, 10, 42]
abbrev dktX6_next_7 : List UInt8 := dkwX6_next_7 ++ dktX6_next_8
def dkwX6_next_6 : List UInt8 := [181, 0, 33, 167, 255, 215, 42, 178, 0, 64, 181, 0, 53, 167, 0, 102, 27, 184, 0, 67, 153, 0, 73, 42]
abbrev dktX6_next_6 : List UInt8 := dkwX6_next_6 ++ dktX6_next_7
def dkwX6_next_5 : List UInt8 := [42, 180, 0, 18, 42, 42, 180, 0, 33, 182, 0, 36, 146, 182, 0, 60, 87, 42, 89, 180, 0, 33, 4, 96]
abbrev dktX6_next_5 : List UInt8 := dkwX6_next_5 ++ dktX6_next_6
def dkwX6_next_4 : List UInt8 := [167, 0, 163, 27, 184, 0, 56, 153, 0, 57, 42, 42, 180, 0, 33, 182, 0, 36, 184, 0, 56, 153, 0, 33]
abbrev dktX6_next_4 : List UInt8 := dkwX6_next_4 ++ dktX6_next_5
def dkwX6_next_3 : List UInt8 := [182, 0, 36, 60, 42, 180, 0, 33, 42, 180, 0, 22, 161, 0, 13, 42, 178, 0, 47, 181, 0, 53]
abbrev dktX6_next_3 : List UInt8 := dkwX6_next_3 ++ dktX6_next_4
def dkwX6_next_2 : List UInt8 := [167, 255, 209, 42, 42, 180, 0, 33, 181, 0, 40, 42, 180, 0, 18, 3, 182, 0, 43, 42, 42, 180, 0, 33]
abbrev dktX6_next_2 : List UInt8 := dkwX6_next_2 ++ dktX6_next_3
def dkwX6_next_1 : List UInt8 := [42, 42, 180, 0, 33, 182, 0, 36, 16, 10, 160, 0, 16, 42, 89, 180, 0, 33, 4, 96, 181, 0, 33]
abbrev dktX6_next_1 : List UInt8 := dkwX6_next_1 ++ dktX6_next_2
def dkwX6_next_0 : List UInt8 := [42, 180, 0, 33, 42, 180, 0, 22, 162, 0, 42, 42, 42, 180, 0, 33, 182, 0, 36, 16, 32, 159, 0, 16]
abbrev dktX6_next_0 : List UInt8 := dkwX6_next_0 ++ dktX6_next_1
theorem dksX6_next_0 : cX6_next.data.toList.drop 0 = dktX6_next_0 := by decide +kernel
theorem dksX6_next_1 : cX6_next.data.toList.drop 24 = dktX6_next_1 := dk_seg dksX6_next_0 24 rfl rfl
theorem dksX6_next_2 : cX6_next.data.toList.drop 47 = dktX6_next_2 := dk_seg dksX6_next_1 23 rfl rfl
theorem dksX6_next_3 : cX6_next.data.toList.drop 71 = dktX6_next_3 := dk_seg dksX6_next_2 24 rfl rfl
theorem dksX6_next_4 : cX6_next.data.toList.drop 93 = dktX6_next_4 := dk_seg dksX6_next_3 22 rfl rfl
theorem dksX6_next_5 : cX6_next.data.toList.drop 117 = dktX6_next_5 := dk_seg dksX6_next_4 24 rfl rfl
theorem dksX6_next_6 : cX6_next.data.toList.drop 141 = dktX6_next_6 := dk_seg dksX6_next_5 24 rfl rfl
theorem dksX6_next_7 : cX6_next.data.toList.drop 165 = dktX6_next_7 := dk_seg dksX6_next_6 24 rfl rfl
theorem dksX6_next_8 : cX6_next.data.toList.drop 189 = dktX6_next_8 := dk_seg dksX6_next_7 24 rfl rfl
theorem dksX6_next_9 : cX6_next.data.toList.drop 213 = dktX6_next_9 := dk_seg dksX6_next_8 24 rfl rfl
theorem dksX6_next_10 : cX6_next.data.toList.drop 236 = dktX6_next_10 := dk_seg dksX6_next_9 23 rfl rfl
theorem dX6_next_0 : decode cX6_next 0 = .ok (.aload_n 0, 1) := dk_42 (dk_at dksX6_next_0 0 rfl rfl)
theorem dX6_next_1 : decode cX6_next 1 = .ok (.getfield 33, 3) := dk_180 0 33 (dk_at dksX6_next_0 1 rfl rfl)
theorem dX6_next_4 : decode cX6_next 4 = .ok (.aload_n 0, 1) := dk_42 (dk_at dksX6_next_0 4 rfl rfl)
theorem dX6_next_5 : decode cX6_next 5 = .ok (.getfield 22, 3) := dk_180 0 22 (dk_at dksX6_next_0 5 rfl rfl)
theorem dX6_next_8 : decode cX6_next 8 = .ok (.if_icmp .ge 42, 3) := dk_162 0 42 (dk_at dksX6_next_0 8 rfl rfl)
theorem dX6_next_11 : decode cX6_next 11 = .ok (.aload_n 0, 1) := dk_42 (dk_at dksX6_next_0 11 rfl rfl)
theorem dX6_next_12 : decode cX6_next 12 = .ok (.aload_n 0, 1) := dk_42 (dk_at dksX6_next_0 12 rfl rfl)
theorem dX6_next_13 : decode cX6_next 13 = .ok (.getfield 33, 3) := dk_180 0 33 (dk_at dksX6_next_0 13 rfl rfl)
theorem dX6_next_16 : decode cX6_next 16 = .ok (.invokevirtual 36, 3) := dk_182 0 36 (dk_at dksX6_next_0 16 rfl rfl)
theorem dX6_next_19 : decode cX6_next 19 = .ok (.bipush 32, 2) := dk_16 32 (dk_at dksX6_next_0 19 rfl rfl)
theorem dX6_next_21 : decode cX6_next 21 = .ok (.if_icmp .eq 16, 3) := dk_159 0 16 (dk_at dksX6_next_0 21 rfl rfl)
theorem dX6_next_24 : decode cX6_next 24 = .ok (.aload_n 0, 1) := dk_42 (dk_at dksX6_next_1 0 rfl rfl)
theorem dX6_next_25 : decode cX6_next 25 = .ok (.aload_n 0, 1) := dk_42 (dk_at dksX6_next_1 1 rfl rfl)
theorem dX6_next_26 : decode cX6_next 26 = .ok (.getfield 33, 3) := dk_180 0 33 (dk_at dksX6_next_1 2 rfl rfl)
theorem dX6_next_29 : decode cX6_next 29 = .ok (.invokevirtual 36, 3) := dk_182 0 36 (dk_at dksX6_next_1 5 rfl rfl)
theorem dX6_next_32 : decode cX6_next 32 = .ok (.bipush 10, 2) := dk_16 10 (dk_at dksX6_next_1 8 rfl rfl)
theorem dX6_next_34 : decode cX6_next 34 = .ok (.if_icmp .ne 16, 3) := dk_160 0 16 (dk_at dksX6_next_1 10 rfl rfl)
theorem dX6_next_37 : decode cX6_next 37 = .ok (.aload_n 0, 1) := dk_42 (dk_at dksX6_next_1 13 rfl rfl)
theorem dX6_next_38 : decode cX6_next 38 = .ok (.dup, 1) := dk_89 (dk_at dksX6_next_1 14 rfl rfl)
theorem dX6_next_39 : decode cX6_next 39 = .ok (.getfield 33, 3) := dk_180 0 33 (dk_at dksX6_next_1 15 rfl rfl)
theorem dX6_next_42 : decode cX6_next 42 = .ok (.iconst 1, 1) := dk_4 (dk_at dksX6_next_1 18 rfl rfl)
theorem dX6_next_43 : decode cX6_next 43 = .ok (.iadd, 1) := dk_96 (dk_at dksX6_next_1 19 rfl rfl)
theorem dX6_next_44 : decode cX6_next 44 = .ok (.putfield 33, 3) := dk_181 0 33 (dk_at dksX6_next_1 20 rfl rfl)
theorem dX6_next_47 : decode cX6_next 47 = .ok (.goto (-47), 3) := dk_167 255 209 (dk_at dksX6_next_2 0 rfl rfl)
theorem dX6_next_50 : decode cX6_next 50 = .ok (.aload_n 0, 1) := dk_42 (dk_at dksX6_next_2 3 rfl rfl)
theorem dX6_next_51 : decode cX6_next 51 = .ok (.aload_n 0, 1) := dk_42 (dk_at dksX6_next_2 4 rfl rfl)
theorem dX6_next_52 : decode cX6_next 52 = .ok (.getfield 33, 3) := dk_180 0 33 (dk_at dksX6_next_2 5 rfl rfl)
theorem dX6_next_55 : decode cX6_next 55 = .ok (.putfield 40, 3) := dk_181 0 40 (dk_at dksX6_next_2 8 rfl rfl)
theorem dX6_next_58 : decode cX6_next 58 = .ok (.aload_n 0, 1) := dk_42 (dk_at dksX6_next_2 11 rfl rfl)
theorem dX6_next_59 : decode cX6_next 59 = .ok (.getfield 18, 3) := dk_180 0 18 (dk_at dksX6_next_2 12 rfl rfl)
theorem dX6_next_62 : decode cX6_next 62 = .ok (.iconst 0, 1) := dk_3 (dk_at dksX6_next_2 15 rfl rfl)
theorem dX6_next_63 : decode cX6_next 63 = .ok (.invokevirtual 43, 3) := dk_182 0 43 (dk_at dksX6_next_2 16 rfl rfl)
theorem dX6_next_66 : decode cX6_next 66 = .ok (.aload_n 0, 1) := dk_42 (dk_at dksX6_next_2 19 rfl rfl)
theorem dX6_next_67 : decode cX6_next 67 = .ok (.aload_n 0, 1) := dk_42 (dk_at dksX6_next_2 20 rfl rfl)
theorem dX6_next_68 : decode cX6_next 68 = .ok (.getfield 33, 3) := dk_180 0 33 (dk_at dksX6_next_2 21 rfl rfl)
theorem dX6_next_71 : decode cX6_next 71 = .ok (.invokevirtual 36, 3) := dk_182 0 36 (dk_at dksX6_next_3 0 rfl rfl)
theorem dX6_next_74 : decode cX6_next 74 = .ok (.istore_n 1, 1) := dk_60 (dk_at dksX6_next_3 3 rfl rfl)
theorem dX6_next_75 : decode cX6_next 75 = .ok (.aload_n 0, 1) := dk_42 (dk_at dksX6_next_3 4 rfl rfl)
theorem dX6_next_76 : decode cX6_next 76 = .ok (.getfield 33, 3) := dk_180 0 33 (dk_at dksX6_next_3 5 rfl rfl)
theorem dX6_next_79 : decode cX6_next 79 = .ok (.aload_n 0, 1) := dk_42 (dk_at dksX6_next_3 8 rfl rfl)
theorem dX6_next_80 : decode cX6_next 80 = .ok (.getfield 22, 3) := dk_180 0 22 (dk_at dksX6_next_3 9 rfl rfl)
theorem dX6_next_83 : decode cX6_next 83 = .ok (.if_icmp .lt 13, 3) := dk_161 0 13 (dk_at dksX6_next_3 12 rfl rfl)
theorem dX6_next_86 : decode cX6_next 86 = .ok (.aload_n 0, 1) := dk_42 (dk_at dksX6_next_3 15 rfl rfl)
theorem dX6_next_87 : decode cX6_next 87 = .ok (.getstatic 47, 3) := dk_178 0 47 (dk_at dksX6_next_3 16 rfl rfl)
theorem dX6_next_90 : decode cX6_next 90 = .ok (.putfield 53, 3) := dk_181 0 53 (dk_at dksX6_next_3 19 rfl rfl)
theorem dX6_next_93 : decode cX6_next 93 = .ok (.goto 163, 3) := dk_167 0 163 (dk_at dksX6_next_4 0 rfl rfl)
theorem dX6_next_96 : decode cX6_next 96 = .ok (.iload_n 1, 1) := dk_27 (dk_at dksX6_next_4 3 rfl rfl)
theorem dX6_next_97 : decode cX6_next 97 = .ok (.invokestatic 56, 3) := dk_184 0 56 (dk_at dksX6_next_4 4 rfl rfl)
theorem dX6_next_100 : decode cX6_next 100 = .ok (.ifCond .eq 57, 3) := dk_153 0 57 (dk_at dksX6_next_4 7 rfl rfl)
theorem dX6_next_103 : decode cX6_next 103 = .ok (.aload_n 0, 1) := dk_42 (dk_at dksX6_next_4 10 rfl rfl)
theorem dX6_next_104 : decode cX6_next 104 = .ok (.aload_n 0, 1) := dk_42 (dk_at dksX6_next_4 11 rfl rfl)
theorem dX6_next_105 : decode cX6_next 105 = .ok (.getfield 33, 3) := dk_180 0 33 (dk_at dksX6_next_4 12 rfl rfl)
theorem dX6_next_108 : decode cX6_next 108 = .ok (.invokevirtual 36, 3) := dk_182 0 36 (dk_at dksX6_next_4 15 rfl rfl)
theorem dX6_next_111 : decode cX6_next 111 = .ok (.invokestatic 56, 3) := dk_184 0 56 (dk_at dksX6_next_4 18 rfl rfl)
theorem dX6_next_114 : decode cX6_next 114 = .ok (.ifCond .eq 33, 3) := dk_153 0 33 (dk_at dksX6_next_4 21 rfl rfl)
theorem dX6_next_117 : decode cX6_next 117 = .ok (.aload_n 0, 1) := dk_42 (dk_at dksX6_next_5 0 rfl rfl)
theorem dX6_next_118 : decode cX6_next 118 = .ok (.getfield 18, 3) := dk_180 0 18 (dk_at dksX6_next_5 1 rfl rfl)
theorem dX6_next_121 : decode cX6_next 121 = .ok (.aload_n 0, 1) := dk_42 (dk_at dksX6_next_5 4 rfl rfl)
theorem dX6_next_122 : decode cX6_next 122 = .ok (.aload_n 0, 1) := dk_42 (dk_at dksX6_next_5 5 rfl rfl)
theorem dX6_next_123 : decode cX6_next 123 = .ok (.getfield 33, 3) := dk_180 0 33 (dk_at dksX6_next_5 6 rfl rfl)
theorem dX6_next_126 : decode cX6_next 126 = .ok (.invokevirtual 36, 3) := dk_182 0 36 (dk_at dksX6_next_5 9 rfl rfl)
theorem dX6_next_129 : decode cX6_next 129 = .ok (.i2c, 1) := dk_146 (dk_at dksX6_next_5 12 rfl rfl)
theorem dX6_next_130 : decode cX6_next 130 = .ok (.invokevirtual 60, 3) := dk_182 0 60 (dk_at dksX6_next_5 13 rfl rfl)
theorem dX6_next_133 : decode cX6_next 133 = .ok (.pop, 1) := dk_87 (dk_at dksX6_next_5 16 rfl rfl)
theorem dX6_next_134 : decode cX6_next 134 = .ok (.aload_n 0, 1) := dk_42 (dk_at dksX6_next_5 17 rfl rfl)
theorem dX6_next_135 : decode cX6_next 135 = .ok (.dup, 1) := dk_89 (dk_at dksX6_next_5 18 rfl rfl)
theorem dX6_next_136 : decode cX6_next 136 = .ok (.getfield 33, 3) := dk_180 0 33 (dk_at dksX6_next_5 19 rfl rfl)
theorem dX6_next_139 : decode cX6_next 139 = .ok (.iconst 1, 1) := dk_4 (dk_at dksX6_next_5 22 rfl rfl)
theorem dX6_next_140 : decode cX6_next 140 = .ok (.iadd, 1) := dk_96 (dk_at dksX6_next_5 23 rfl rfl)
theorem dX6_next_141 : decode cX6_next 141 = .ok (.putfield 33, 3) := dk_181 0 33 (dk_at dksX6_next_6 0 rfl rfl)
theorem dX6_next_144 : decode cX6_next 144 = .ok (.goto (-41), 3) := dk_167 255 215 (dk_at dksX6_next_6 3 rfl rfl)
theorem dX6_next_147 : decode cX6_next 147 = .ok (.aload_n 0, 1) := dk_42 (dk_at dksX6_next_6 6 rfl rfl)
theorem dX6_next_148 : decode cX6_next 148 = .ok (.getstatic 64, 3) := dk_178 0 64 (dk_at dksX6_next_6 7 rfl rfl)
theorem dX6_next_151 : decode cX6_next 151 = .ok (.putfield 53, 3) := dk_181 0 53 (dk_at dksX6_next_6 10 rfl rfl)
theorem dX6_next_154 : decode cX6_next 154 = .ok (.goto 102, 3) := dk_167 0 102 (dk_at dksX6_next_6 13 rfl rfl)
theorem dX6_next_157 : decode cX6_next 157 = .ok (.iload_n 1, 1) := dk_27 (dk_at dksX6_next_6 16 rfl rfl)
theorem dX6_next_158 : decode cX6_next 158 = .ok (.invokestatic 67, 3) := dk_184 0 67 (dk_at dksX6_next_6 17 rfl rfl)
theorem dX6_next_161 : decode cX6_next 161 = .ok (.ifCond .eq 73, 3) := dk_153 0 73 (dk_at dksX6_next_6 20 rfl rfl)
theorem dX6_next_164 : decode cX6_next 164 = .ok (.aload_n 0, 1) := dk_42 (dk_at dksX6_next_6 23 rfl rfl)
theorem dX6_next_165 : decode cX6_next 165 = .ok (.iconst 0, 1) := dk_3 (dk_at dksX6_next_7 0 rfl rfl)
theorem dX6_next_166 : decode cX6_next 166 = .ok (.putfield 70, 3) := dk_181 0 70 (dk_at dksX6_next_7 1 rfl rfl)
theorem dX6_next_169 : decode cX6_next 169 = .ok (.aload_n 0, 1) := dk_42 (dk_at dksX6_next_7 4 rfl rfl)
theorem dX6_next_170 : decode cX6_next 170 = .ok (.aload_n 0, 1) := dk_42 (dk_at dksX6_next_7 5 rfl rfl)
theorem dX6_next_171 : decode cX6_next 171 = .ok (.getfield 33, 3) := dk_180 0 33 (dk_at dksX6_next_7 6 rfl rfl)
theorem dX6_next_174 : decode cX6_next 174 = .ok (.invokevirtual 36, 3) := dk_182 0 36 (dk_at dksX6_next_7 9 rfl rfl)
theorem dX6_next_177 : decode cX6_next 177 = .ok (.invokestatic 67, 3) := dk_184 0 67 (dk_at dksX6_next_7 12 rfl rfl)
theorem dX6_next_180 : decode cX6_next 180 = .ok (.ifCond .eq 44, 3) := dk_153 0 44 (dk_at dksX6_next_7 15 rfl rfl)
theorem dX6_next_183 : decode cX6_next 183 = .ok (.aload_n 0, 1) := dk_42 (dk_at dksX6_next_7 18 rfl rfl)
theorem dX6_next_184 : decode cX6_next 184 = .ok (.ldc 73, 2) := dk_18 73 (dk_at dksX6_next_7 19 rfl rfl)
theorem dX6_next_186 : decode cX6_next 186 = .ok (.bipush 10, 2) := dk_16 10 (dk_at dksX6_next_7 21 rfl rfl)
theorem dX6_next_188 : decode cX6_next 188 = .ok (.aload_n 0, 1) := dk_42 (dk_at dksX6_next_7 23 rfl rfl)
theorem dX6_next_189 : decode cX6_next 189 = .ok (.getfield 70, 3) := dk_180 0 70 (dk_at dksX6_next_8 0 rfl rfl)
theorem dX6_next_192 : decode cX6_next 192 = .ok (.imul, 1) := dk_104 (dk_at dksX6_next_8 3 rfl rfl)
theorem dX6_next_193 : decode cX6_next 193 = .ok (.aload_n 0, 1) := dk_42 (dk_at dksX6_next_8 4 rfl rfl)
theorem dX6_next_194 : decode cX6_next 194 = .ok (.aload_n 0, 1) := dk_42 (dk_at dksX6_next_8 5 rfl rfl)
theorem dX6_next_195 : decode cX6_next 195 = .ok (.getfield 33, 3) := dk_180 0 33 (dk_at dksX6_next_8 6 rfl rfl)
theorem dX6_next_198 : decode cX6_next 198 = .ok (.invokevirtual 36, 3) := dk_182 0 36 (dk_at dksX6_next_8 9 rfl rfl)
theorem dX6_next_201 : decode cX6_next 201 = .ok (.iadd, 1) := dk_96 (dk_at dksX6_next_8 12 rfl rfl)
theorem dX6_next_202 : decode cX6_next 202 = .ok (.bipush 48, 2) := dk_16 48 (dk_at dksX6_next_8 13 rfl rfl)
theorem dX6_next_204 : decode cX6_next 204 = .ok (.isub, 1) := dk_100 (dk_at dksX6_next_8 15 rfl rfl)
theorem dX6_next_205 : decode cX6_next 205 = .ok (.invokestatic 74, 3) := dk_184 0 74 (dk_at dksX6_next_8 16 rfl rfl)
theorem dX6_next_208 : decode cX6_next 208 = .ok (.putfield 70, 3) := dk_181 0 70 (dk_at dksX6_next_8 19 rfl rfl)
theorem dX6_next_211 : decode cX6_next 211 = .ok (.aload_n 0, 1) := dk_42 (dk_at dksX6_next_8 22 rfl rfl)
theorem dX6_next_212 : decode cX6_next 212 = .ok (.dup, 1) := dk_89 (dk_at dksX6_next_8 23 rfl rfl)
theorem dX6_next_213 : decode cX6_next 213 = .ok (.getfield 33, 3) := dk_180 0 33 (dk_at dksX6_next_9 0 rfl rfl)
theorem dX6_next_216 : decode cX6_next 216 = .ok (.iconst 1, 1) := dk_4 (dk_at dksX6_next_9 3 rfl rfl)
theorem dX6_next_217 : decode cX6_next 217 = .ok (.iadd, 1) := dk_96 (dk_at dksX6_next_9 4 rfl rfl)
theorem dX6_next_218 : decode cX6_next 218 = .ok (.putfield 33, 3) := dk_181 0 33 (dk_at dksX6_next_9 5 rfl rfl)
theorem dX6_next_221 : decode cX6_next 221 = .ok (.goto (-52), 3) := dk_167 255 204 (dk_at dksX6_next_9 8 rfl rfl)
theorem dX6_next_224 : decode cX6_next 224 = .ok (.aload_n 0, 1) := dk_42 (dk_at dksX6_next_9 11 rfl rfl)
theorem dX6_next_225 : decode cX6_next 225 = .ok (.getstatic 80, 3) := dk_178 0 80 (dk_at dksX6_next_9 12 rfl rfl)
theorem dX6_next_228 : decode cX6_next 228 = .ok (.putfield 53, 3) := dk_181 0 53 (dk_at dksX6_next_9 15 rfl rfl)
theorem dX6_next_231 : decode cX6_next 231 = .ok (.goto 25, 3) := dk_167 0 25 (dk_at dksX6_next_9 18 rfl rfl)
theorem dX6_next_234 : decode cX6_next 234 = .ok (.aload_n 0, 1) := dk_42 (dk_at dksX6_next_9 21 rfl rfl)
theorem dX6_next_235 : decode cX6_next 235 = .ok (.iload_n 1, 1) := dk_27 (dk_at dksX6_next_9 22 rfl rfl)
theorem dX6_next_236 : decode cX6_next 236 = .ok (.putfield 83, 3) := dk_181 0 83 (dk_at dksX6_next_10 0 rfl rfl)
theorem dX6_next_239 : decode cX6_next 239 = .ok (.aload_n 0, 1) := dk_42 (dk_at dksX6_next_10 3 rfl rfl)
theorem dX6_next_240 : decode cX6_next 240 = .ok (.getstatic 86, 3) := dk_178 0 86 (dk_at dksX6_next_10 4 rfl rfl)
theorem dX6_next_243 : decode cX6_next 243 = .ok (.putfield 53, 3) := dk_181 0 53 (dk_at dksX6_next_10 7 rfl rfl)
theorem dX6_next_246 : decode cX6_next 246 = .ok (.aload_n 0, 1) := dk_42 (dk_at dksX6_next_10 10 rfl rfl)
theorem dX6_next_247 : decode cX6_next 247 = .ok (.dup, 1) := dk_89 (dk_at dksX6_next_10 11 rfl rfl)
theorem dX6_next_248 : decode cX6_next 248 = .ok (.getfield 33, 3) := dk_180 0 33 (dk_at dksX6_next_10 12 rfl rfl)
theorem dX6_next_251 : decode cX6_next 251 = .ok (.iconst 1, 1) := dk_4 (dk_at dksX6_next_10 15 rfl rfl)
theorem dX6_next_252 : decode cX6_next 252 = .ok (.iadd, 1) := dk_96 (dk_at dksX6_next_10 16 rfl rfl)
theorem dX6_next_253 : decode cX6_next 253 = .ok (.putfield 33, 3) := dk_181 0 33 (dk_at dksX6_next_10 17 rfl rfl)
theorem dX6_next_256 : decode cX6_next 256 = .ok (.return_, 1) := dk_177 (dk_at dksX6_next_10 20 rfl rfl)
abbrev cX6_byteAt : ByteArray := prog_11_method_2_code
def yX6_byteAt : MethodName := ⟨RX6, "byteAt", "(I)I"⟩
def dkwX6_byteAt_1 : List UInt8 := [3, 172]
abbrev dktX6_byteAt_1 : List UInt8 := dkwX6_byteAt_1 ++ []
def dkwX6_byteAt_0 : List UInt8 := [27, 42, 180, 0, 22, 162, 0, 19, 42, 180, 0, 3, 180, 0, 29, 27, 51, 17, 0, 255, 126, 167, 0, 4]
abbrev dktX6_byteAt_0 : List UInt8 := dkwX6_byteAt_0 ++ dktX6_byteAt_1
theorem dksX6_byteAt_0 : cX6_byteAt.data.toList.drop 0 = dktX6_byteAt_0 := by decide +kernel
theorem dksX6_byteAt_1 : cX6_byteAt.data.toList.drop 24 = dktX6_byteAt_1 := dk_seg dksX6_byteAt_0 24 rfl rfl
theorem dX6_byteAt_0 : decode cX6_byteAt 0 = .ok (.iload_n 1, 1) := dk_27 (dk_at dksX6_byteAt_0 0 rfl rfl)
theorem dX6_byteAt_1 : decode cX6_byteAt 1 = .ok (.aload_n 0, 1) := dk_42 (dk_at dksX6_byteAt_0 1 rfl rfl)
theorem dX6_byteAt_2 : decode cX6_byteAt 2 = .ok (.getfield 22, 3) := dk_180 0 22 (dk_at dksX6_byteAt_0 2 rfl rfl)
theorem dX6_byteAt_5 : decode cX6_byteAt 5 = .ok (.if_icmp .ge 19, 3) := dk_162 0 19 (dk_at dksX6_byteAt_0 5 rfl rfl)
theorem dX6_byteAt_8 : decode cX6_byteAt 8 = .ok (.aload_n 0, 1) := dk_42 (dk_at dksX6_byteAt_0 8 rfl rfl)
theorem dX6_byteAt_9 : decode cX6_byteAt 9 = .ok (.getfield 3, 3) := dk_180 0 3 (dk_at dksX6_byteAt_0 9 rfl rfl)
theorem dX6_byteAt_12 : decode cX6_byteAt 12 = .ok (.getfield 29, 3) := dk_180 0 29 (dk_at dksX6_byteAt_0 12 rfl rfl)
theorem dX6_byteAt_15 : decode cX6_byteAt 15 = .ok (.iload_n 1, 1) := dk_27 (dk_at dksX6_byteAt_0 15 rfl rfl)
theorem dX6_byteAt_16 : decode cX6_byteAt 16 = .ok (.baload, 1) := dk_51 (dk_at dksX6_byteAt_0 16 rfl rfl)
theorem dX6_byteAt_17 : decode cX6_byteAt 17 = .ok (.sipush 255, 3) := dk_17 0 255 (dk_at dksX6_byteAt_0 17 rfl rfl)
theorem dX6_byteAt_20 : decode cX6_byteAt 20 = .ok (.iand, 1) := dk_126 (dk_at dksX6_byteAt_0 20 rfl rfl)
theorem dX6_byteAt_21 : decode cX6_byteAt 21 = .ok (.goto 4, 3) := dk_167 0 4 (dk_at dksX6_byteAt_0 21 rfl rfl)
theorem dX6_byteAt_24 : decode cX6_byteAt 24 = .ok (.iconst 0, 1) := dk_3 (dk_at dksX6_byteAt_1 0 rfl rfl)
theorem dX6_byteAt_25 : decode cX6_byteAt 25 = .ok (.ireturn, 1) := dk_172 (dk_at dksX6_byteAt_1 1 rfl rfl)
abbrev cX6_isLetter : ByteArray := prog_11_method_3_code
def yX6_isLetter : MethodName := ⟨RX6, "isLetter", "(I)Z"⟩
def dkwX6_isLetter_0 : List UInt8 := [26, 16, 97, 161, 0, 13, 26, 16, 122, 163, 0, 7, 4, 167, 0, 4, 3, 172]
abbrev dktX6_isLetter_0 : List UInt8 := dkwX6_isLetter_0 ++ []
theorem dksX6_isLetter_0 : cX6_isLetter.data.toList.drop 0 = dktX6_isLetter_0 := by decide +kernel
theorem dX6_isLetter_0 : decode cX6_isLetter 0 = .ok (.iload_n 0, 1) := dk_26 (dk_at dksX6_isLetter_0 0 rfl rfl)
theorem dX6_isLetter_1 : decode cX6_isLetter 1 = .ok (.bipush 97, 2) := dk_16 97 (dk_at dksX6_isLetter_0 1 rfl rfl)
theorem dX6_isLetter_3 : decode cX6_isLetter 3 = .ok (.if_icmp .lt 13, 3) := dk_161 0 13 (dk_at dksX6_isLetter_0 3 rfl rfl)
theorem dX6_isLetter_6 : decode cX6_isLetter 6 = .ok (.iload_n 0, 1) := dk_26 (dk_at dksX6_isLetter_0 6 rfl rfl)
theorem dX6_isLetter_7 : decode cX6_isLetter 7 = .ok (.bipush 122, 2) := dk_16 122 (dk_at dksX6_isLetter_0 7 rfl rfl)
theorem dX6_isLetter_9 : decode cX6_isLetter 9 = .ok (.if_icmp .gt 7, 3) := dk_163 0 7 (dk_at dksX6_isLetter_0 9 rfl rfl)
theorem dX6_isLetter_12 : decode cX6_isLetter 12 = .ok (.iconst 1, 1) := dk_4 (dk_at dksX6_isLetter_0 12 rfl rfl)
theorem dX6_isLetter_13 : decode cX6_isLetter 13 = .ok (.goto 4, 3) := dk_167 0 4 (dk_at dksX6_isLetter_0 13 rfl rfl)
theorem dX6_isLetter_16 : decode cX6_isLetter 16 = .ok (.iconst 0, 1) := dk_3 (dk_at dksX6_isLetter_0 16 rfl rfl)
theorem dX6_isLetter_17 : decode cX6_isLetter 17 = .ok (.ireturn, 1) := dk_172 (dk_at dksX6_isLetter_0 17 rfl rfl)
abbrev cX6_isDigit : ByteArray := prog_11_method_4_code
def yX6_isDigit : MethodName := ⟨RX6, "isDigit", "(I)Z"⟩
def dkwX6_isDigit_0 : List UInt8 := [26, 16, 48, 161, 0, 13, 26, 16, 57, 163, 0, 7, 4, 167, 0, 4, 3, 172]
abbrev dktX6_isDigit_0 : List UInt8 := dkwX6_isDigit_0 ++ []
theorem dksX6_isDigit_0 : cX6_isDigit.data.toList.drop 0 = dktX6_isDigit_0 := by decide +kernel
theorem dX6_isDigit_0 : decode cX6_isDigit 0 = .ok (.iload_n 0, 1) := dk_26 (dk_at dksX6_isDigit_0 0 rfl rfl)
theorem dX6_isDigit_1 : decode cX6_isDigit 1 = .ok (.bipush 48, 2) := dk_16 48 (dk_at dksX6_isDigit_0 1 rfl rfl)
theorem dX6_isDigit_3 : decode cX6_isDigit 3 = .ok (.if_icmp .lt 13, 3) := dk_161 0 13 (dk_at dksX6_isDigit_0 3 rfl rfl)
theorem dX6_isDigit_6 : decode cX6_isDigit 6 = .ok (.iload_n 0, 1) := dk_26 (dk_at dksX6_isDigit_0 6 rfl rfl)
theorem dX6_isDigit_7 : decode cX6_isDigit 7 = .ok (.bipush 57, 2) := dk_16 57 (dk_at dksX6_isDigit_0 7 rfl rfl)
theorem dX6_isDigit_9 : decode cX6_isDigit 9 = .ok (.if_icmp .gt 7, 3) := dk_163 0 7 (dk_at dksX6_isDigit_0 9 rfl rfl)
theorem dX6_isDigit_12 : decode cX6_isDigit 12 = .ok (.iconst 1, 1) := dk_4 (dk_at dksX6_isDigit_0 12 rfl rfl)
theorem dX6_isDigit_13 : decode cX6_isDigit 13 = .ok (.goto 4, 3) := dk_167 0 4 (dk_at dksX6_isDigit_0 13 rfl rfl)
theorem dX6_isDigit_16 : decode cX6_isDigit 16 = .ok (.iconst 0, 1) := dk_3 (dk_at dksX6_isDigit_0 16 rfl rfl)
theorem dX6_isDigit_17 : decode cX6_isDigit 17 = .ok (.ireturn, 1) := dk_172 (dk_at dksX6_isDigit_0 17 rfl rfl)
abbrev cX6_text : ByteArray := prog_11_method_12_code
def yX6_text : MethodName := ⟨RX6, "text", "()LWreckShares$Shore;"⟩
def dkwX6_text_7 : List UInt8 := [185, 0, 157, 2, 0, 54, 6, 42, 182, 0, 134, 167, 255, 161, 25, 4, 176]
abbrev dktX6_text_7 : List UInt8 := dkwX6_text_7 ++ []
def dkwX6_text_6 : List UInt8 := [182, 0, 26, 25, 4, 180, 0, 143, 42, 25, 4, 180, 0, 143, 185, 0, 147, 1, 0, 25, 5, 182, 0, 153]
abbrev dktX6_text_6 : List UInt8 := dkwX6_text_6 ++ dktX6_text_7
def dkwX6_text_5 : List UInt8 := [180, 0, 143, 185, 0, 147, 1, 0, 16, 24, 162, 0, 7, 4, 167, 0, 4, 3, 7, 182, 0, 109, 42]
abbrev dktX6_text_5 : List UInt8 := dkwX6_text_5 ++ dktX6_text_6
def dkwX6_text_4 : List UInt8 := [184, 0, 137, 58, 5, 42, 25, 5, 198, 0, 7, 4, 167, 0, 4, 3, 4, 182, 0, 109, 42, 25, 4]
abbrev dktX6_text_4 : List UInt8 := dkwX6_text_4 ++ dktX6_text_5
def dkwX6_text_3 : List UInt8 := [183, 0, 131, 58, 4, 42, 182, 0, 134, 42, 180, 0, 53, 178, 0, 47, 165, 0, 91, 42, 182, 0, 100]
abbrev dktX6_text_3 : List UInt8 := dkwX6_text_3 ++ dktX6_text_4
def dkwX6_text_2 : List UInt8 := [42, 3, 16, 50, 182, 0, 126, 62, 187, 0, 129, 89, 27, 28, 29, 42, 4, 16, 8, 182, 0, 126]
abbrev dktX6_text_2 : List UInt8 := dkwX6_text_2 ++ dktX6_text_3
def dkwX6_text_1 : List UInt8 := [154, 0, 7, 4, 167, 0, 4, 3, 6, 182, 0, 109, 42, 182, 0, 26, 42, 4, 16, 99, 182, 0, 126, 61]
abbrev dktX6_text_1 : List UInt8 := dkwX6_text_1 ++ dktX6_text_2
def dkwX6_text_0 : List UInt8 := [42, 42, 18, 120, 182, 0, 122, 4, 182, 0, 109, 42, 7, 16, 24, 182, 0, 117, 60, 42, 27, 5, 112]
abbrev dktX6_text_0 : List UInt8 := dkwX6_text_0 ++ dktX6_text_1
theorem dksX6_text_0 : cX6_text.data.toList.drop 0 = dktX6_text_0 := by decide +kernel
theorem dksX6_text_1 : cX6_text.data.toList.drop 23 = dktX6_text_1 := dk_seg dksX6_text_0 23 rfl rfl
theorem dksX6_text_2 : cX6_text.data.toList.drop 47 = dktX6_text_2 := dk_seg dksX6_text_1 24 rfl rfl
theorem dksX6_text_3 : cX6_text.data.toList.drop 69 = dktX6_text_3 := dk_seg dksX6_text_2 22 rfl rfl
theorem dksX6_text_4 : cX6_text.data.toList.drop 92 = dktX6_text_4 := dk_seg dksX6_text_3 23 rfl rfl
theorem dksX6_text_5 : cX6_text.data.toList.drop 115 = dktX6_text_5 := dk_seg dksX6_text_4 23 rfl rfl
theorem dksX6_text_6 : cX6_text.data.toList.drop 138 = dktX6_text_6 := dk_seg dksX6_text_5 23 rfl rfl
theorem dksX6_text_7 : cX6_text.data.toList.drop 162 = dktX6_text_7 := dk_seg dksX6_text_6 24 rfl rfl
theorem dX6_text_0 : decode cX6_text 0 = .ok (.aload_n 0, 1) := dk_42 (dk_at dksX6_text_0 0 rfl rfl)
theorem dX6_text_1 : decode cX6_text 1 = .ok (.aload_n 0, 1) := dk_42 (dk_at dksX6_text_0 1 rfl rfl)
theorem dX6_text_2 : decode cX6_text 2 = .ok (.ldc 120, 2) := dk_18 120 (dk_at dksX6_text_0 2 rfl rfl)
theorem dX6_text_4 : decode cX6_text 4 = .ok (.invokevirtual 122, 3) := dk_182 0 122 (dk_at dksX6_text_0 4 rfl rfl)
theorem dX6_text_7 : decode cX6_text 7 = .ok (.iconst 1, 1) := dk_4 (dk_at dksX6_text_0 7 rfl rfl)
theorem dX6_text_8 : decode cX6_text 8 = .ok (.invokevirtual 109, 3) := dk_182 0 109 (dk_at dksX6_text_0 8 rfl rfl)
theorem dX6_text_11 : decode cX6_text 11 = .ok (.aload_n 0, 1) := dk_42 (dk_at dksX6_text_0 11 rfl rfl)
theorem dX6_text_12 : decode cX6_text 12 = .ok (.iconst 4, 1) := dk_7 (dk_at dksX6_text_0 12 rfl rfl)
theorem dX6_text_13 : decode cX6_text 13 = .ok (.bipush 24, 2) := dk_16 24 (dk_at dksX6_text_0 13 rfl rfl)
theorem dX6_text_15 : decode cX6_text 15 = .ok (.invokevirtual 117, 3) := dk_182 0 117 (dk_at dksX6_text_0 15 rfl rfl)
theorem dX6_text_18 : decode cX6_text 18 = .ok (.istore_n 1, 1) := dk_60 (dk_at dksX6_text_0 18 rfl rfl)
theorem dX6_text_19 : decode cX6_text 19 = .ok (.aload_n 0, 1) := dk_42 (dk_at dksX6_text_0 19 rfl rfl)
theorem dX6_text_20 : decode cX6_text 20 = .ok (.iload_n 1, 1) := dk_27 (dk_at dksX6_text_0 20 rfl rfl)
theorem dX6_text_21 : decode cX6_text 21 = .ok (.iconst 2, 1) := dk_5 (dk_at dksX6_text_0 21 rfl rfl)
theorem dX6_text_22 : decode cX6_text 22 = .ok (.irem, 1) := dk_112 (dk_at dksX6_text_0 22 rfl rfl)
theorem dX6_text_23 : decode cX6_text 23 = .ok (.ifCond .ne 7, 3) := dk_154 0 7 (dk_at dksX6_text_1 0 rfl rfl)
theorem dX6_text_26 : decode cX6_text 26 = .ok (.iconst 1, 1) := dk_4 (dk_at dksX6_text_1 3 rfl rfl)
theorem dX6_text_27 : decode cX6_text 27 = .ok (.goto 4, 3) := dk_167 0 4 (dk_at dksX6_text_1 4 rfl rfl)
theorem dX6_text_30 : decode cX6_text 30 = .ok (.iconst 0, 1) := dk_3 (dk_at dksX6_text_1 7 rfl rfl)
theorem dX6_text_31 : decode cX6_text 31 = .ok (.iconst 3, 1) := dk_6 (dk_at dksX6_text_1 8 rfl rfl)
theorem dX6_text_32 : decode cX6_text 32 = .ok (.invokevirtual 109, 3) := dk_182 0 109 (dk_at dksX6_text_1 9 rfl rfl)
theorem dX6_text_35 : decode cX6_text 35 = .ok (.aload_n 0, 1) := dk_42 (dk_at dksX6_text_1 12 rfl rfl)
theorem dX6_text_36 : decode cX6_text 36 = .ok (.invokevirtual 26, 3) := dk_182 0 26 (dk_at dksX6_text_1 13 rfl rfl)
theorem dX6_text_39 : decode cX6_text 39 = .ok (.aload_n 0, 1) := dk_42 (dk_at dksX6_text_1 16 rfl rfl)
theorem dX6_text_40 : decode cX6_text 40 = .ok (.iconst 1, 1) := dk_4 (dk_at dksX6_text_1 17 rfl rfl)
theorem dX6_text_41 : decode cX6_text 41 = .ok (.bipush 99, 2) := dk_16 99 (dk_at dksX6_text_1 18 rfl rfl)
theorem dX6_text_43 : decode cX6_text 43 = .ok (.invokevirtual 126, 3) := dk_182 0 126 (dk_at dksX6_text_1 20 rfl rfl)
theorem dX6_text_46 : decode cX6_text 46 = .ok (.istore_n 2, 1) := dk_61 (dk_at dksX6_text_1 23 rfl rfl)
theorem dX6_text_47 : decode cX6_text 47 = .ok (.aload_n 0, 1) := dk_42 (dk_at dksX6_text_2 0 rfl rfl)
theorem dX6_text_48 : decode cX6_text 48 = .ok (.iconst 0, 1) := dk_3 (dk_at dksX6_text_2 1 rfl rfl)
theorem dX6_text_49 : decode cX6_text 49 = .ok (.bipush 50, 2) := dk_16 50 (dk_at dksX6_text_2 2 rfl rfl)
theorem dX6_text_51 : decode cX6_text 51 = .ok (.invokevirtual 126, 3) := dk_182 0 126 (dk_at dksX6_text_2 4 rfl rfl)
theorem dX6_text_54 : decode cX6_text 54 = .ok (.istore_n 3, 1) := dk_62 (dk_at dksX6_text_2 7 rfl rfl)
theorem dX6_text_55 : decode cX6_text 55 = .ok (.new 129, 3) := dk_187 0 129 (dk_at dksX6_text_2 8 rfl rfl)
theorem dX6_text_58 : decode cX6_text 58 = .ok (.dup, 1) := dk_89 (dk_at dksX6_text_2 11 rfl rfl)
theorem dX6_text_59 : decode cX6_text 59 = .ok (.iload_n 1, 1) := dk_27 (dk_at dksX6_text_2 12 rfl rfl)
theorem dX6_text_60 : decode cX6_text 60 = .ok (.iload_n 2, 1) := dk_28 (dk_at dksX6_text_2 13 rfl rfl)
theorem dX6_text_61 : decode cX6_text 61 = .ok (.iload_n 3, 1) := dk_29 (dk_at dksX6_text_2 14 rfl rfl)
theorem dX6_text_62 : decode cX6_text 62 = .ok (.aload_n 0, 1) := dk_42 (dk_at dksX6_text_2 15 rfl rfl)
theorem dX6_text_63 : decode cX6_text 63 = .ok (.iconst 1, 1) := dk_4 (dk_at dksX6_text_2 16 rfl rfl)
theorem dX6_text_64 : decode cX6_text 64 = .ok (.bipush 8, 2) := dk_16 8 (dk_at dksX6_text_2 17 rfl rfl)
theorem dX6_text_66 : decode cX6_text 66 = .ok (.invokevirtual 126, 3) := dk_182 0 126 (dk_at dksX6_text_2 19 rfl rfl)
theorem dX6_text_69 : decode cX6_text 69 = .ok (.invokespecial 131, 3) := dk_183 0 131 (dk_at dksX6_text_3 0 rfl rfl)
theorem dX6_text_72 : decode cX6_text 72 = .ok (.astore 4, 2) := dk_58 4 (dk_at dksX6_text_3 3 rfl rfl)
theorem dX6_text_74 : decode cX6_text 74 = .ok (.aload_n 0, 1) := dk_42 (dk_at dksX6_text_3 5 rfl rfl)
theorem dX6_text_75 : decode cX6_text 75 = .ok (.invokevirtual 134, 3) := dk_182 0 134 (dk_at dksX6_text_3 6 rfl rfl)
theorem dX6_text_78 : decode cX6_text 78 = .ok (.aload_n 0, 1) := dk_42 (dk_at dksX6_text_3 9 rfl rfl)
theorem dX6_text_79 : decode cX6_text 79 = .ok (.getfield 53, 3) := dk_180 0 53 (dk_at dksX6_text_3 10 rfl rfl)
theorem dX6_text_82 : decode cX6_text 82 = .ok (.getstatic 47, 3) := dk_178 0 47 (dk_at dksX6_text_3 13 rfl rfl)
theorem dX6_text_85 : decode cX6_text 85 = .ok (.if_acmp .eq 91, 3) := dk_165 0 91 (dk_at dksX6_text_3 16 rfl rfl)
theorem dX6_text_88 : decode cX6_text 88 = .ok (.aload_n 0, 1) := dk_42 (dk_at dksX6_text_3 19 rfl rfl)
theorem dX6_text_89 : decode cX6_text 89 = .ok (.invokevirtual 100, 3) := dk_182 0 100 (dk_at dksX6_text_3 20 rfl rfl)
theorem dX6_text_92 : decode cX6_text 92 = .ok (.invokestatic 137, 3) := dk_184 0 137 (dk_at dksX6_text_4 0 rfl rfl)
theorem dX6_text_95 : decode cX6_text 95 = .ok (.astore 5, 2) := dk_58 5 (dk_at dksX6_text_4 3 rfl rfl)
theorem dX6_text_97 : decode cX6_text 97 = .ok (.aload_n 0, 1) := dk_42 (dk_at dksX6_text_4 5 rfl rfl)
theorem dX6_text_98 : decode cX6_text 98 = .ok (.aload 5, 2) := dk_25 5 (dk_at dksX6_text_4 6 rfl rfl)
theorem dX6_text_100 : decode cX6_text 100 = .ok (.ifnull 7, 3) := dk_198 0 7 (dk_at dksX6_text_4 8 rfl rfl)
theorem dX6_text_103 : decode cX6_text 103 = .ok (.iconst 1, 1) := dk_4 (dk_at dksX6_text_4 11 rfl rfl)
theorem dX6_text_104 : decode cX6_text 104 = .ok (.goto 4, 3) := dk_167 0 4 (dk_at dksX6_text_4 12 rfl rfl)
theorem dX6_text_107 : decode cX6_text 107 = .ok (.iconst 0, 1) := dk_3 (dk_at dksX6_text_4 15 rfl rfl)
theorem dX6_text_108 : decode cX6_text 108 = .ok (.iconst 1, 1) := dk_4 (dk_at dksX6_text_4 16 rfl rfl)
theorem dX6_text_109 : decode cX6_text 109 = .ok (.invokevirtual 109, 3) := dk_182 0 109 (dk_at dksX6_text_4 17 rfl rfl)
theorem dX6_text_112 : decode cX6_text 112 = .ok (.aload_n 0, 1) := dk_42 (dk_at dksX6_text_4 20 rfl rfl)
theorem dX6_text_113 : decode cX6_text 113 = .ok (.aload 4, 2) := dk_25 4 (dk_at dksX6_text_4 21 rfl rfl)
theorem dX6_text_115 : decode cX6_text 115 = .ok (.getfield 143, 3) := dk_180 0 143 (dk_at dksX6_text_5 0 rfl rfl)
theorem dX6_text_118 : decode cX6_text 118 = .ok (.invokeinterface 147 1, 5) := by decide +kernel
theorem dX6_text_123 : decode cX6_text 123 = .ok (.bipush 24, 2) := dk_16 24 (dk_at dksX6_text_5 8 rfl rfl)
theorem dX6_text_125 : decode cX6_text 125 = .ok (.if_icmp .ge 7, 3) := dk_162 0 7 (dk_at dksX6_text_5 10 rfl rfl)
theorem dX6_text_128 : decode cX6_text 128 = .ok (.iconst 1, 1) := dk_4 (dk_at dksX6_text_5 13 rfl rfl)
theorem dX6_text_129 : decode cX6_text 129 = .ok (.goto 4, 3) := dk_167 0 4 (dk_at dksX6_text_5 14 rfl rfl)
theorem dX6_text_132 : decode cX6_text 132 = .ok (.iconst 0, 1) := dk_3 (dk_at dksX6_text_5 17 rfl rfl)
theorem dX6_text_133 : decode cX6_text 133 = .ok (.iconst 4, 1) := dk_7 (dk_at dksX6_text_5 18 rfl rfl)
theorem dX6_text_134 : decode cX6_text 134 = .ok (.invokevirtual 109, 3) := dk_182 0 109 (dk_at dksX6_text_5 19 rfl rfl)
theorem dX6_text_137 : decode cX6_text 137 = .ok (.aload_n 0, 1) := dk_42 (dk_at dksX6_text_5 22 rfl rfl)
theorem dX6_text_138 : decode cX6_text 138 = .ok (.invokevirtual 26, 3) := dk_182 0 26 (dk_at dksX6_text_6 0 rfl rfl)
theorem dX6_text_141 : decode cX6_text 141 = .ok (.aload 4, 2) := dk_25 4 (dk_at dksX6_text_6 3 rfl rfl)
theorem dX6_text_143 : decode cX6_text 143 = .ok (.getfield 143, 3) := dk_180 0 143 (dk_at dksX6_text_6 5 rfl rfl)
theorem dX6_text_146 : decode cX6_text 146 = .ok (.aload_n 0, 1) := dk_42 (dk_at dksX6_text_6 8 rfl rfl)
theorem dX6_text_147 : decode cX6_text 147 = .ok (.aload 4, 2) := dk_25 4 (dk_at dksX6_text_6 9 rfl rfl)
theorem dX6_text_149 : decode cX6_text 149 = .ok (.getfield 143, 3) := dk_180 0 143 (dk_at dksX6_text_6 11 rfl rfl)
theorem dX6_text_152 : decode cX6_text 152 = .ok (.invokeinterface 147 1, 5) := by decide +kernel
theorem dX6_text_157 : decode cX6_text 157 = .ok (.aload 5, 2) := dk_25 5 (dk_at dksX6_text_6 19 rfl rfl)
theorem dX6_text_159 : decode cX6_text 159 = .ok (.invokevirtual 153, 3) := dk_182 0 153 (dk_at dksX6_text_6 21 rfl rfl)
theorem dX6_text_162 : decode cX6_text 162 = .ok (.invokeinterface 157 2, 5) := by decide +kernel
theorem dX6_text_167 : decode cX6_text 167 = .ok (.istore 6, 2) := dk_54 6 (dk_at dksX6_text_7 5 rfl rfl)
theorem dX6_text_169 : decode cX6_text 169 = .ok (.aload_n 0, 1) := dk_42 (dk_at dksX6_text_7 7 rfl rfl)
theorem dX6_text_170 : decode cX6_text 170 = .ok (.invokevirtual 134, 3) := dk_182 0 134 (dk_at dksX6_text_7 8 rfl rfl)
theorem dX6_text_173 : decode cX6_text 173 = .ok (.goto (-95), 3) := dk_167 255 161 (dk_at dksX6_text_7 11 rfl rfl)
theorem dX6_text_176 : decode cX6_text 176 = .ok (.aload 4, 2) := dk_25 4 (dk_at dksX6_text_7 14 rfl rfl)
theorem dX6_text_178 : decode cX6_text 178 = .ok (.areturn, 1) := dk_176 (dk_at dksX6_text_7 16 rfl rfl)
abbrev cX6_accept : ByteArray := prog_11_method_8_code
def yX6_accept : MethodName := ⟨RX6, "accept", "(Ljava/lang/String;)Z"⟩
def dkwX6_accept_0 : List UInt8 := [42, 182, 0, 100, 43, 182, 0, 103, 61, 28, 153, 0, 7, 42, 182, 0, 26, 28, 172]
abbrev dktX6_accept_0 : List UInt8 := dkwX6_accept_0 ++ []
theorem dksX6_accept_0 : cX6_accept.data.toList.drop 0 = dktX6_accept_0 := by decide +kernel
theorem dX6_accept_0 : decode cX6_accept 0 = .ok (.aload_n 0, 1) := dk_42 (dk_at dksX6_accept_0 0 rfl rfl)
theorem dX6_accept_1 : decode cX6_accept 1 = .ok (.invokevirtual 100, 3) := dk_182 0 100 (dk_at dksX6_accept_0 1 rfl rfl)
theorem dX6_accept_4 : decode cX6_accept 4 = .ok (.aload_n 1, 1) := dk_43 (dk_at dksX6_accept_0 4 rfl rfl)
theorem dX6_accept_5 : decode cX6_accept 5 = .ok (.invokevirtual 103, 3) := dk_182 0 103 (dk_at dksX6_accept_0 5 rfl rfl)
theorem dX6_accept_8 : decode cX6_accept 8 = .ok (.istore_n 2, 1) := dk_61 (dk_at dksX6_accept_0 8 rfl rfl)
theorem dX6_accept_9 : decode cX6_accept 9 = .ok (.iload_n 2, 1) := dk_28 (dk_at dksX6_accept_0 9 rfl rfl)
theorem dX6_accept_10 : decode cX6_accept 10 = .ok (.ifCond .eq 7, 3) := dk_153 0 7 (dk_at dksX6_accept_0 10 rfl rfl)
theorem dX6_accept_13 : decode cX6_accept 13 = .ok (.aload_n 0, 1) := dk_42 (dk_at dksX6_accept_0 13 rfl rfl)
theorem dX6_accept_14 : decode cX6_accept 14 = .ok (.invokevirtual 26, 3) := dk_182 0 26 (dk_at dksX6_accept_0 14 rfl rfl)
theorem dX6_accept_17 : decode cX6_accept 17 = .ok (.iload_n 2, 1) := dk_28 (dk_at dksX6_accept_0 17 rfl rfl)
theorem dX6_accept_18 : decode cX6_accept 18 = .ok (.ireturn, 1) := dk_172 (dk_at dksX6_accept_0 18 rfl rfl)
abbrev cX6_keyword : ByteArray := prog_11_method_7_code
def yX6_keyword : MethodName := ⟨RX6, "keyword", "()Ljava/lang/String;"⟩
def dkwX6_keyword_0 : List UInt8 := [42, 180, 0, 53, 178, 0, 64, 166, 0, 13, 42, 180, 0, 18, 182, 0, 94, 167, 0, 5, 18, 98, 176]
abbrev dktX6_keyword_0 : List UInt8 := dkwX6_keyword_0 ++ []
theorem dksX6_keyword_0 : cX6_keyword.data.toList.drop 0 = dktX6_keyword_0 := by decide +kernel
theorem dX6_keyword_0 : decode cX6_keyword 0 = .ok (.aload_n 0, 1) := dk_42 (dk_at dksX6_keyword_0 0 rfl rfl)
theorem dX6_keyword_1 : decode cX6_keyword 1 = .ok (.getfield 53, 3) := dk_180 0 53 (dk_at dksX6_keyword_0 1 rfl rfl)
theorem dX6_keyword_4 : decode cX6_keyword 4 = .ok (.getstatic 64, 3) := dk_178 0 64 (dk_at dksX6_keyword_0 4 rfl rfl)
theorem dX6_keyword_7 : decode cX6_keyword 7 = .ok (.if_acmp .ne 13, 3) := dk_166 0 13 (dk_at dksX6_keyword_0 7 rfl rfl)
theorem dX6_keyword_10 : decode cX6_keyword 10 = .ok (.aload_n 0, 1) := dk_42 (dk_at dksX6_keyword_0 10 rfl rfl)
theorem dX6_keyword_11 : decode cX6_keyword 11 = .ok (.getfield 18, 3) := dk_180 0 18 (dk_at dksX6_keyword_0 11 rfl rfl)
theorem dX6_keyword_14 : decode cX6_keyword 14 = .ok (.invokevirtual 94, 3) := dk_182 0 94 (dk_at dksX6_keyword_0 14 rfl rfl)
theorem dX6_keyword_17 : decode cX6_keyword 17 = .ok (.goto 5, 3) := dk_167 0 5 (dk_at dksX6_keyword_0 17 rfl rfl)
theorem dX6_keyword_20 : decode cX6_keyword 20 = .ok (.ldc 98, 2) := dk_18 98 (dk_at dksX6_keyword_0 20 rfl rfl)
theorem dX6_keyword_22 : decode cX6_keyword 22 = .ok (.areturn, 1) := dk_176 (dk_at dksX6_keyword_0 22 rfl rfl)
abbrev cX6_check : ByteArray := prog_11_method_6_code
def yX6_check : MethodName := ⟨RX6, "check", "(ZI)V"⟩
def dkwX6_check_0 : List UInt8 := [27, 154, 0, 16, 187, 0, 89, 89, 28, 42, 180, 0, 40, 183, 0, 91, 191, 177]
abbrev dktX6_check_0 : List UInt8 := dkwX6_check_0 ++ []
theorem dksX6_check_0 : cX6_check.data.toList.drop 0 = dktX6_check_0 := by decide +kernel
theorem dX6_check_0 : decode cX6_check 0 = .ok (.iload_n 1, 1) := dk_27 (dk_at dksX6_check_0 0 rfl rfl)
theorem dX6_check_1 : decode cX6_check 1 = .ok (.ifCond .ne 16, 3) := dk_154 0 16 (dk_at dksX6_check_0 1 rfl rfl)
theorem dX6_check_4 : decode cX6_check 4 = .ok (.new 89, 3) := dk_187 0 89 (dk_at dksX6_check_0 4 rfl rfl)
theorem dX6_check_7 : decode cX6_check 7 = .ok (.dup, 1) := dk_89 (dk_at dksX6_check_0 7 rfl rfl)
theorem dX6_check_8 : decode cX6_check 8 = .ok (.iload_n 2, 1) := dk_28 (dk_at dksX6_check_0 8 rfl rfl)
theorem dX6_check_9 : decode cX6_check 9 = .ok (.aload_n 0, 1) := dk_42 (dk_at dksX6_check_0 9 rfl rfl)
theorem dX6_check_10 : decode cX6_check 10 = .ok (.getfield 40, 3) := dk_180 0 40 (dk_at dksX6_check_0 10 rfl rfl)
theorem dX6_check_13 : decode cX6_check 13 = .ok (.invokespecial 91, 3) := dk_183 0 91 (dk_at dksX6_check_0 13 rfl rfl)
theorem dX6_check_16 : decode cX6_check 16 = .ok (.athrow, 1) := dk_191 (dk_at dksX6_check_0 16 rfl rfl)
theorem dX6_check_17 : decode cX6_check 17 = .ok (.return_, 1) := dk_177 (dk_at dksX6_check_0 17 rfl rfl)
abbrev cX6_look : ByteArray := prog_11_method_10_code
def yX6_look : MethodName := ⟨RX6, "look", "(II)I"⟩
def dkwX6_look_1 : List UInt8 := [180, 0, 70, 27, 28, 184, 0, 113, 5, 182, 0, 109, 42, 180, 0, 70, 172]
abbrev dktX6_look_1 : List UInt8 := dkwX6_look_1 ++ []
def dkwX6_look_0 : List UInt8 := [42, 42, 180, 0, 53, 178, 0, 80, 166, 0, 7, 4, 167, 0, 4, 3, 4, 182, 0, 109, 42, 42]
abbrev dktX6_look_0 : List UInt8 := dkwX6_look_0 ++ dktX6_look_1
theorem dksX6_look_0 : cX6_look.data.toList.drop 0 = dktX6_look_0 := by decide +kernel
theorem dksX6_look_1 : cX6_look.data.toList.drop 22 = dktX6_look_1 := dk_seg dksX6_look_0 22 rfl rfl
theorem dX6_look_0 : decode cX6_look 0 = .ok (.aload_n 0, 1) := dk_42 (dk_at dksX6_look_0 0 rfl rfl)
theorem dX6_look_1 : decode cX6_look 1 = .ok (.aload_n 0, 1) := dk_42 (dk_at dksX6_look_0 1 rfl rfl)
theorem dX6_look_2 : decode cX6_look 2 = .ok (.getfield 53, 3) := dk_180 0 53 (dk_at dksX6_look_0 2 rfl rfl)
theorem dX6_look_5 : decode cX6_look 5 = .ok (.getstatic 80, 3) := dk_178 0 80 (dk_at dksX6_look_0 5 rfl rfl)
theorem dX6_look_8 : decode cX6_look 8 = .ok (.if_acmp .ne 7, 3) := dk_166 0 7 (dk_at dksX6_look_0 8 rfl rfl)
theorem dX6_look_11 : decode cX6_look 11 = .ok (.iconst 1, 1) := dk_4 (dk_at dksX6_look_0 11 rfl rfl)
theorem dX6_look_12 : decode cX6_look 12 = .ok (.goto 4, 3) := dk_167 0 4 (dk_at dksX6_look_0 12 rfl rfl)
theorem dX6_look_15 : decode cX6_look 15 = .ok (.iconst 0, 1) := dk_3 (dk_at dksX6_look_0 15 rfl rfl)
theorem dX6_look_16 : decode cX6_look 16 = .ok (.iconst 1, 1) := dk_4 (dk_at dksX6_look_0 16 rfl rfl)
theorem dX6_look_17 : decode cX6_look 17 = .ok (.invokevirtual 109, 3) := dk_182 0 109 (dk_at dksX6_look_0 17 rfl rfl)
theorem dX6_look_20 : decode cX6_look 20 = .ok (.aload_n 0, 1) := dk_42 (dk_at dksX6_look_0 20 rfl rfl)
theorem dX6_look_21 : decode cX6_look 21 = .ok (.aload_n 0, 1) := dk_42 (dk_at dksX6_look_0 21 rfl rfl)
theorem dX6_look_22 : decode cX6_look 22 = .ok (.getfield 70, 3) := dk_180 0 70 (dk_at dksX6_look_1 0 rfl rfl)
theorem dX6_look_25 : decode cX6_look 25 = .ok (.iload_n 1, 1) := dk_27 (dk_at dksX6_look_1 3 rfl rfl)
theorem dX6_look_26 : decode cX6_look 26 = .ok (.iload_n 2, 1) := dk_28 (dk_at dksX6_look_1 4 rfl rfl)
theorem dX6_look_27 : decode cX6_look 27 = .ok (.invokestatic 113, 3) := dk_184 0 113 (dk_at dksX6_look_1 5 rfl rfl)
theorem dX6_look_30 : decode cX6_look 30 = .ok (.iconst 2, 1) := dk_5 (dk_at dksX6_look_1 8 rfl rfl)
theorem dX6_look_31 : decode cX6_look 31 = .ok (.invokevirtual 109, 3) := dk_182 0 109 (dk_at dksX6_look_1 9 rfl rfl)
theorem dX6_look_34 : decode cX6_look 34 = .ok (.aload_n 0, 1) := dk_42 (dk_at dksX6_look_1 12 rfl rfl)
theorem dX6_look_35 : decode cX6_look 35 = .ok (.getfield 70, 3) := dk_180 0 70 (dk_at dksX6_look_1 13 rfl rfl)
theorem dX6_look_38 : decode cX6_look 38 = .ok (.ireturn, 1) := dk_172 (dk_at dksX6_look_1 16 rfl rfl)
abbrev cX6_number : ByteArray := prog_11_method_11_code
def yX6_number : MethodName := ⟨RX6, "number", "(II)I"⟩
def dkwX6_number_0 : List UInt8 := [42, 27, 28, 182, 0, 117, 62, 42, 182, 0, 26, 29, 172]
abbrev dktX6_number_0 : List UInt8 := dkwX6_number_0 ++ []
theorem dksX6_number_0 : cX6_number.data.toList.drop 0 = dktX6_number_0 := by decide +kernel
theorem dX6_number_0 : decode cX6_number 0 = .ok (.aload_n 0, 1) := dk_42 (dk_at dksX6_number_0 0 rfl rfl)
theorem dX6_number_1 : decode cX6_number 1 = .ok (.iload_n 1, 1) := dk_27 (dk_at dksX6_number_0 1 rfl rfl)
theorem dX6_number_2 : decode cX6_number 2 = .ok (.iload_n 2, 1) := dk_28 (dk_at dksX6_number_0 2 rfl rfl)
theorem dX6_number_3 : decode cX6_number 3 = .ok (.invokevirtual 117, 3) := dk_182 0 117 (dk_at dksX6_number_0 3 rfl rfl)
theorem dX6_number_6 : decode cX6_number 6 = .ok (.istore_n 3, 1) := dk_62 (dk_at dksX6_number_0 6 rfl rfl)
theorem dX6_number_7 : decode cX6_number 7 = .ok (.aload_n 0, 1) := dk_42 (dk_at dksX6_number_0 7 rfl rfl)
theorem dX6_number_8 : decode cX6_number 8 = .ok (.invokevirtual 26, 3) := dk_182 0 26 (dk_at dksX6_number_0 8 rfl rfl)
theorem dX6_number_11 : decode cX6_number 11 = .ok (.iload_n 3, 1) := dk_29 (dk_at dksX6_number_0 11 rfl rfl)
theorem dX6_number_12 : decode cX6_number 12 = .ok (.ireturn, 1) := dk_172 (dk_at dksX6_number_0 12 rfl rfl)
abbrev cX6_ends : ByteArray := prog_11_method_9_code
def yX6_ends : MethodName := ⟨RX6, "ends", "()V"⟩
def dkwX6_ends_1 : List UInt8 := [3, 4, 182, 0, 109, 42, 182, 0, 26, 177]
abbrev dktX6_ends_1 : List UInt8 := dkwX6_ends_1 ++ []
def dkwX6_ends_0 : List UInt8 := [42, 42, 180, 0, 53, 178, 0, 86, 166, 0, 16, 42, 180, 0, 83, 16, 59, 160, 0, 7, 4, 167, 0, 4]
abbrev dktX6_ends_0 : List UInt8 := dkwX6_ends_0 ++ dktX6_ends_1
theorem dksX6_ends_0 : cX6_ends.data.toList.drop 0 = dktX6_ends_0 := by decide +kernel
theorem dksX6_ends_1 : cX6_ends.data.toList.drop 24 = dktX6_ends_1 := dk_seg dksX6_ends_0 24 rfl rfl
theorem dX6_ends_0 : decode cX6_ends 0 = .ok (.aload_n 0, 1) := dk_42 (dk_at dksX6_ends_0 0 rfl rfl)
theorem dX6_ends_1 : decode cX6_ends 1 = .ok (.aload_n 0, 1) := dk_42 (dk_at dksX6_ends_0 1 rfl rfl)
theorem dX6_ends_2 : decode cX6_ends 2 = .ok (.getfield 53, 3) := dk_180 0 53 (dk_at dksX6_ends_0 2 rfl rfl)
theorem dX6_ends_5 : decode cX6_ends 5 = .ok (.getstatic 86, 3) := dk_178 0 86 (dk_at dksX6_ends_0 5 rfl rfl)
theorem dX6_ends_8 : decode cX6_ends 8 = .ok (.if_acmp .ne 16, 3) := dk_166 0 16 (dk_at dksX6_ends_0 8 rfl rfl)
theorem dX6_ends_11 : decode cX6_ends 11 = .ok (.aload_n 0, 1) := dk_42 (dk_at dksX6_ends_0 11 rfl rfl)
theorem dX6_ends_12 : decode cX6_ends 12 = .ok (.getfield 83, 3) := dk_180 0 83 (dk_at dksX6_ends_0 12 rfl rfl)
theorem dX6_ends_15 : decode cX6_ends 15 = .ok (.bipush 59, 2) := dk_16 59 (dk_at dksX6_ends_0 15 rfl rfl)
theorem dX6_ends_17 : decode cX6_ends 17 = .ok (.if_icmp .ne 7, 3) := dk_160 0 7 (dk_at dksX6_ends_0 17 rfl rfl)
theorem dX6_ends_20 : decode cX6_ends 20 = .ok (.iconst 1, 1) := dk_4 (dk_at dksX6_ends_0 20 rfl rfl)
theorem dX6_ends_21 : decode cX6_ends 21 = .ok (.goto 4, 3) := dk_167 0 4 (dk_at dksX6_ends_0 21 rfl rfl)
theorem dX6_ends_24 : decode cX6_ends 24 = .ok (.iconst 0, 1) := dk_3 (dk_at dksX6_ends_1 0 rfl rfl)
theorem dX6_ends_25 : decode cX6_ends 25 = .ok (.iconst 1, 1) := dk_4 (dk_at dksX6_ends_1 1 rfl rfl)
theorem dX6_ends_26 : decode cX6_ends 26 = .ok (.invokevirtual 109, 3) := dk_182 0 109 (dk_at dksX6_ends_1 2 rfl rfl)
theorem dX6_ends_29 : decode cX6_ends 29 = .ok (.aload_n 0, 1) := dk_42 (dk_at dksX6_ends_1 5 rfl rfl)
theorem dX6_ends_30 : decode cX6_ends 30 = .ok (.invokevirtual 26, 3) := dk_182 0 26 (dk_at dksX6_ends_1 6 rfl rfl)
theorem dX6_ends_33 : decode cX6_ends 33 = .ok (.return_, 1) := dk_177 (dk_at dksX6_ends_1 9 rfl rfl)
abbrev cX6_good : ByteArray := prog_11_method_13_code
def yX6_good : MethodName := ⟨RX6, "good", "(ILWreckShares$Kind;)LWreckShares$Good;"⟩
def dkwX6_good_2 : List UInt8 := [8, 182, 0, 126, 167, 0, 4, 3, 183, 0, 164, 176]
abbrev dktX6_good_2 : List UInt8 := dkwX6_good_2 ++ []
def dkwX6_good_1 : List UInt8 := [54, 5, 187, 0, 160, 89, 27, 44, 29, 21, 4, 21, 5, 42, 18, 162, 182, 0, 122, 153, 0, 12, 42, 4]
abbrev dktX6_good_1 : List UInt8 := dkwX6_good_1 ++ dktX6_good_2
def dkwX6_good_0 : List UInt8 := [42, 4, 17, 3, 231, 182, 0, 126, 62, 42, 3, 16, 9, 182, 0, 126, 54, 4, 42, 4, 7, 182, 0, 126]
abbrev dktX6_good_0 : List UInt8 := dkwX6_good_0 ++ dktX6_good_1
theorem dksX6_good_0 : cX6_good.data.toList.drop 0 = dktX6_good_0 := by decide +kernel
theorem dksX6_good_1 : cX6_good.data.toList.drop 24 = dktX6_good_1 := dk_seg dksX6_good_0 24 rfl rfl
theorem dksX6_good_2 : cX6_good.data.toList.drop 48 = dktX6_good_2 := dk_seg dksX6_good_1 24 rfl rfl
theorem dX6_good_0 : decode cX6_good 0 = .ok (.aload_n 0, 1) := dk_42 (dk_at dksX6_good_0 0 rfl rfl)
theorem dX6_good_1 : decode cX6_good 1 = .ok (.iconst 1, 1) := dk_4 (dk_at dksX6_good_0 1 rfl rfl)
theorem dX6_good_2 : decode cX6_good 2 = .ok (.sipush 999, 3) := dk_17 3 231 (dk_at dksX6_good_0 2 rfl rfl)
theorem dX6_good_5 : decode cX6_good 5 = .ok (.invokevirtual 126, 3) := dk_182 0 126 (dk_at dksX6_good_0 5 rfl rfl)
theorem dX6_good_8 : decode cX6_good 8 = .ok (.istore_n 3, 1) := dk_62 (dk_at dksX6_good_0 8 rfl rfl)
theorem dX6_good_9 : decode cX6_good 9 = .ok (.aload_n 0, 1) := dk_42 (dk_at dksX6_good_0 9 rfl rfl)
theorem dX6_good_10 : decode cX6_good 10 = .ok (.iconst 0, 1) := dk_3 (dk_at dksX6_good_0 10 rfl rfl)
theorem dX6_good_11 : decode cX6_good 11 = .ok (.bipush 9, 2) := dk_16 9 (dk_at dksX6_good_0 11 rfl rfl)
theorem dX6_good_13 : decode cX6_good 13 = .ok (.invokevirtual 126, 3) := dk_182 0 126 (dk_at dksX6_good_0 13 rfl rfl)
theorem dX6_good_16 : decode cX6_good 16 = .ok (.istore 4, 2) := dk_54 4 (dk_at dksX6_good_0 16 rfl rfl)
theorem dX6_good_18 : decode cX6_good 18 = .ok (.aload_n 0, 1) := dk_42 (dk_at dksX6_good_0 18 rfl rfl)
theorem dX6_good_19 : decode cX6_good 19 = .ok (.iconst 1, 1) := dk_4 (dk_at dksX6_good_0 19 rfl rfl)
theorem dX6_good_20 : decode cX6_good 20 = .ok (.iconst 4, 1) := dk_7 (dk_at dksX6_good_0 20 rfl rfl)
theorem dX6_good_21 : decode cX6_good 21 = .ok (.invokevirtual 126, 3) := dk_182 0 126 (dk_at dksX6_good_0 21 rfl rfl)
theorem dX6_good_24 : decode cX6_good 24 = .ok (.istore 5, 2) := dk_54 5 (dk_at dksX6_good_1 0 rfl rfl)
theorem dX6_good_26 : decode cX6_good 26 = .ok (.new 160, 3) := dk_187 0 160 (dk_at dksX6_good_1 2 rfl rfl)
theorem dX6_good_29 : decode cX6_good 29 = .ok (.dup, 1) := dk_89 (dk_at dksX6_good_1 5 rfl rfl)
theorem dX6_good_30 : decode cX6_good 30 = .ok (.iload_n 1, 1) := dk_27 (dk_at dksX6_good_1 6 rfl rfl)
theorem dX6_good_31 : decode cX6_good 31 = .ok (.aload_n 2, 1) := dk_44 (dk_at dksX6_good_1 7 rfl rfl)
theorem dX6_good_32 : decode cX6_good 32 = .ok (.iload_n 3, 1) := dk_29 (dk_at dksX6_good_1 8 rfl rfl)
theorem dX6_good_33 : decode cX6_good 33 = .ok (.iload 4, 2) := dk_21 4 (dk_at dksX6_good_1 9 rfl rfl)
theorem dX6_good_35 : decode cX6_good 35 = .ok (.iload 5, 2) := dk_21 5 (dk_at dksX6_good_1 11 rfl rfl)
theorem dX6_good_37 : decode cX6_good 37 = .ok (.aload_n 0, 1) := dk_42 (dk_at dksX6_good_1 13 rfl rfl)
theorem dX6_good_38 : decode cX6_good 38 = .ok (.ldc 162, 2) := dk_18 162 (dk_at dksX6_good_1 14 rfl rfl)
theorem dX6_good_40 : decode cX6_good 40 = .ok (.invokevirtual 122, 3) := dk_182 0 122 (dk_at dksX6_good_1 16 rfl rfl)
theorem dX6_good_43 : decode cX6_good 43 = .ok (.ifCond .eq 12, 3) := dk_153 0 12 (dk_at dksX6_good_1 19 rfl rfl)
theorem dX6_good_46 : decode cX6_good 46 = .ok (.aload_n 0, 1) := dk_42 (dk_at dksX6_good_1 22 rfl rfl)
theorem dX6_good_47 : decode cX6_good 47 = .ok (.iconst 1, 1) := dk_4 (dk_at dksX6_good_1 23 rfl rfl)
theorem dX6_good_48 : decode cX6_good 48 = .ok (.iconst 5, 1) := dk_8 (dk_at dksX6_good_2 0 rfl rfl)
theorem dX6_good_49 : decode cX6_good 49 = .ok (.invokevirtual 126, 3) := dk_182 0 126 (dk_at dksX6_good_2 1 rfl rfl)
theorem dX6_good_52 : decode cX6_good 52 = .ok (.goto 4, 3) := dk_167 0 4 (dk_at dksX6_good_2 4 rfl rfl)
theorem dX6_good_55 : decode cX6_good 55 = .ok (.iconst 0, 1) := dk_3 (dk_at dksX6_good_2 7 rfl rfl)
theorem dX6_good_56 : decode cX6_good 56 = .ok (.invokespecial 164, 3) := dk_183 0 164 (dk_at dksX6_good_2 8 rfl rfl)
theorem dX6_good_59 : decode cX6_good 59 = .ok (.areturn, 1) := dk_176 (dk_at dksX6_good_2 11 rfl rfl)
abbrev cX6_script : ByteArray := prog_11_method_14_code
def yX6_script : MethodName := ⟨RX6, "script", "()[LWreckShares$Deed;"⟩
def dkwX6_script_3 : List UInt8 := [96, 181, 0, 172, 42, 182, 0, 134, 167, 255, 184, 43, 176]
abbrev dktX6_script_3 : List UInt8 := dkwX6_script_3 ++ []
def dkwX6_script_2 : List UInt8 := [182, 0, 109, 42, 182, 0, 26, 43, 42, 180, 0, 172, 42, 44, 182, 0, 175, 83, 42, 89, 180, 0, 172, 4]
abbrev dktX6_script_2 : List UInt8 := dkwX6_script_2 ++ dktX6_script_3
def dkwX6_script_1 : List UInt8 := [184, 0, 169, 4, 182, 0, 109, 42, 42, 180, 0, 172, 16, 20, 162, 0, 7, 4, 167, 0, 4, 3, 7]
abbrev dktX6_script_1 : List UInt8 := dkwX6_script_1 ++ dktX6_script_2
def dkwX6_script_0 : List UInt8 := [16, 20, 189, 0, 167, 76, 42, 180, 0, 53, 178, 0, 47, 165, 0, 68, 42, 182, 0, 100, 77, 42, 44]
abbrev dktX6_script_0 : List UInt8 := dkwX6_script_0 ++ dktX6_script_1
theorem dksX6_script_0 : cX6_script.data.toList.drop 0 = dktX6_script_0 := by decide +kernel
theorem dksX6_script_1 : cX6_script.data.toList.drop 23 = dktX6_script_1 := dk_seg dksX6_script_0 23 rfl rfl
theorem dksX6_script_2 : cX6_script.data.toList.drop 46 = dktX6_script_2 := dk_seg dksX6_script_1 23 rfl rfl
theorem dksX6_script_3 : cX6_script.data.toList.drop 70 = dktX6_script_3 := dk_seg dksX6_script_2 24 rfl rfl
theorem dX6_script_0 : decode cX6_script 0 = .ok (.bipush 20, 2) := dk_16 20 (dk_at dksX6_script_0 0 rfl rfl)
theorem dX6_script_2 : decode cX6_script 2 = .ok (.anewarray 167, 3) := dk_189 0 167 (dk_at dksX6_script_0 2 rfl rfl)
theorem dX6_script_5 : decode cX6_script 5 = .ok (.astore_n 1, 1) := dk_76 (dk_at dksX6_script_0 5 rfl rfl)
theorem dX6_script_6 : decode cX6_script 6 = .ok (.aload_n 0, 1) := dk_42 (dk_at dksX6_script_0 6 rfl rfl)
theorem dX6_script_7 : decode cX6_script 7 = .ok (.getfield 53, 3) := dk_180 0 53 (dk_at dksX6_script_0 7 rfl rfl)
theorem dX6_script_10 : decode cX6_script 10 = .ok (.getstatic 47, 3) := dk_178 0 47 (dk_at dksX6_script_0 10 rfl rfl)
theorem dX6_script_13 : decode cX6_script 13 = .ok (.if_acmp .eq 68, 3) := dk_165 0 68 (dk_at dksX6_script_0 13 rfl rfl)
theorem dX6_script_16 : decode cX6_script 16 = .ok (.aload_n 0, 1) := dk_42 (dk_at dksX6_script_0 16 rfl rfl)
theorem dX6_script_17 : decode cX6_script 17 = .ok (.invokevirtual 100, 3) := dk_182 0 100 (dk_at dksX6_script_0 17 rfl rfl)
theorem dX6_script_20 : decode cX6_script 20 = .ok (.astore_n 2, 1) := dk_77 (dk_at dksX6_script_0 20 rfl rfl)
theorem dX6_script_21 : decode cX6_script 21 = .ok (.aload_n 0, 1) := dk_42 (dk_at dksX6_script_0 21 rfl rfl)
theorem dX6_script_22 : decode cX6_script 22 = .ok (.aload_n 2, 1) := dk_44 (dk_at dksX6_script_0 22 rfl rfl)
theorem dX6_script_23 : decode cX6_script 23 = .ok (.invokestatic 169, 3) := dk_184 0 169 (dk_at dksX6_script_1 0 rfl rfl)
theorem dX6_script_26 : decode cX6_script 26 = .ok (.iconst 1, 1) := dk_4 (dk_at dksX6_script_1 3 rfl rfl)
theorem dX6_script_27 : decode cX6_script 27 = .ok (.invokevirtual 109, 3) := dk_182 0 109 (dk_at dksX6_script_1 4 rfl rfl)
theorem dX6_script_30 : decode cX6_script 30 = .ok (.aload_n 0, 1) := dk_42 (dk_at dksX6_script_1 7 rfl rfl)
theorem dX6_script_31 : decode cX6_script 31 = .ok (.aload_n 0, 1) := dk_42 (dk_at dksX6_script_1 8 rfl rfl)
theorem dX6_script_32 : decode cX6_script 32 = .ok (.getfield 172, 3) := dk_180 0 172 (dk_at dksX6_script_1 9 rfl rfl)
theorem dX6_script_35 : decode cX6_script 35 = .ok (.bipush 20, 2) := dk_16 20 (dk_at dksX6_script_1 12 rfl rfl)
theorem dX6_script_37 : decode cX6_script 37 = .ok (.if_icmp .ge 7, 3) := dk_162 0 7 (dk_at dksX6_script_1 14 rfl rfl)
theorem dX6_script_40 : decode cX6_script 40 = .ok (.iconst 1, 1) := dk_4 (dk_at dksX6_script_1 17 rfl rfl)
theorem dX6_script_41 : decode cX6_script 41 = .ok (.goto 4, 3) := dk_167 0 4 (dk_at dksX6_script_1 18 rfl rfl)
theorem dX6_script_44 : decode cX6_script 44 = .ok (.iconst 0, 1) := dk_3 (dk_at dksX6_script_1 21 rfl rfl)
theorem dX6_script_45 : decode cX6_script 45 = .ok (.iconst 4, 1) := dk_7 (dk_at dksX6_script_1 22 rfl rfl)
theorem dX6_script_46 : decode cX6_script 46 = .ok (.invokevirtual 109, 3) := dk_182 0 109 (dk_at dksX6_script_2 0 rfl rfl)
theorem dX6_script_49 : decode cX6_script 49 = .ok (.aload_n 0, 1) := dk_42 (dk_at dksX6_script_2 3 rfl rfl)
theorem dX6_script_50 : decode cX6_script 50 = .ok (.invokevirtual 26, 3) := dk_182 0 26 (dk_at dksX6_script_2 4 rfl rfl)
theorem dX6_script_53 : decode cX6_script 53 = .ok (.aload_n 1, 1) := dk_43 (dk_at dksX6_script_2 7 rfl rfl)
theorem dX6_script_54 : decode cX6_script 54 = .ok (.aload_n 0, 1) := dk_42 (dk_at dksX6_script_2 8 rfl rfl)
theorem dX6_script_55 : decode cX6_script 55 = .ok (.getfield 172, 3) := dk_180 0 172 (dk_at dksX6_script_2 9 rfl rfl)
theorem dX6_script_58 : decode cX6_script 58 = .ok (.aload_n 0, 1) := dk_42 (dk_at dksX6_script_2 12 rfl rfl)
theorem dX6_script_59 : decode cX6_script 59 = .ok (.aload_n 2, 1) := dk_44 (dk_at dksX6_script_2 13 rfl rfl)
theorem dX6_script_60 : decode cX6_script 60 = .ok (.invokevirtual 175, 3) := dk_182 0 175 (dk_at dksX6_script_2 14 rfl rfl)
theorem dX6_script_63 : decode cX6_script 63 = .ok (.aastore, 1) := dk_83 (dk_at dksX6_script_2 17 rfl rfl)
theorem dX6_script_64 : decode cX6_script 64 = .ok (.aload_n 0, 1) := dk_42 (dk_at dksX6_script_2 18 rfl rfl)
theorem dX6_script_65 : decode cX6_script 65 = .ok (.dup, 1) := dk_89 (dk_at dksX6_script_2 19 rfl rfl)
theorem dX6_script_66 : decode cX6_script 66 = .ok (.getfield 172, 3) := dk_180 0 172 (dk_at dksX6_script_2 20 rfl rfl)
theorem dX6_script_69 : decode cX6_script 69 = .ok (.iconst 1, 1) := dk_4 (dk_at dksX6_script_2 23 rfl rfl)
theorem dX6_script_70 : decode cX6_script 70 = .ok (.iadd, 1) := dk_96 (dk_at dksX6_script_3 0 rfl rfl)
theorem dX6_script_71 : decode cX6_script 71 = .ok (.putfield 172, 3) := dk_181 0 172 (dk_at dksX6_script_3 1 rfl rfl)
theorem dX6_script_74 : decode cX6_script 74 = .ok (.aload_n 0, 1) := dk_42 (dk_at dksX6_script_3 4 rfl rfl)
theorem dX6_script_75 : decode cX6_script 75 = .ok (.invokevirtual 134, 3) := dk_182 0 134 (dk_at dksX6_script_3 5 rfl rfl)
theorem dX6_script_78 : decode cX6_script 78 = .ok (.goto (-72), 3) := dk_167 255 184 (dk_at dksX6_script_3 8 rfl rfl)
theorem dX6_script_81 : decode cX6_script 81 = .ok (.aload_n 1, 1) := dk_43 (dk_at dksX6_script_3 11 rfl rfl)
theorem dX6_script_82 : decode cX6_script 82 = .ok (.areturn, 1) := dk_176 (dk_at dksX6_script_3 12 rfl rfl)
abbrev cX6_isOrder : ByteArray := prog_11_method_15_code
def yX6_isOrder : MethodName := ⟨RX6, "isOrder", "(Ljava/lang/String;)Z"⟩
def dkwX6_isOrder_8 : List UInt8 := [4, 167, 0, 4, 3, 172]
abbrev dktX6_isOrder_8 : List UInt8 := dkwX6_isOrder_8 ++ []
def dkwX6_isOrder_7 : List UInt8 := [170, 0, 0, 0, 0, 0, 47, 0, 0, 0, 0, 0, 0, 0, 6, 0, 0, 0, 43, 0, 0, 0, 43, 0, 0, 0, 43, 0, 0, 0, 43, 0, 0, 0, 43, 0, 0, 0, 43, 0, 0, 0, 43]
abbrev dktX6_isOrder_7 : List UInt8 := dkwX6_isOrder_7 ++ dktX6_isOrder_8
def dkwX6_isOrder_6 : List UInt8 := [61, 28]
abbrev dktX6_isOrder_6 : List UInt8 := dkwX6_isOrder_6 ++ dktX6_isOrder_7
def dkwX6_isOrder_5 : List UInt8 := [18, 192, 182, 0, 103, 153, 0, 20, 8, 61, 167, 0, 15, 43, 18, 194, 182, 0, 103, 153, 0, 6, 16, 6]
abbrev dktX6_isOrder_5 : List UInt8 := dkwX6_isOrder_5 ++ dktX6_isOrder_6
def dkwX6_isOrder_4 : List UInt8 := [153, 0, 48, 6, 61, 167, 0, 43, 43, 18, 190, 182, 0, 103, 153, 0, 34, 7, 61, 167, 0, 29, 43]
abbrev dktX6_isOrder_4 : List UInt8 := dkwX6_isOrder_4 ++ dktX6_isOrder_5
def dkwX6_isOrder_3 : List UInt8 := [61, 167, 0, 71, 43, 18, 186, 182, 0, 103, 153, 0, 62, 5, 61, 167, 0, 57, 43, 18, 188, 182, 0, 103]
abbrev dktX6_isOrder_3 : List UInt8 := dkwX6_isOrder_3 ++ dktX6_isOrder_4
def dkwX6_isOrder_2 : List UInt8 := [43, 18, 182, 182, 0, 103, 153, 0, 90, 3, 61, 167, 0, 85, 43, 18, 184, 182, 0, 103, 153, 0, 76, 4]
abbrev dktX6_isOrder_2 : List UInt8 := dkwX6_isOrder_2 ++ dktX6_isOrder_3
def dkwX6_isOrder_1 : List UInt8 := [171, 0, 0, 0, 0, 0, 0, 164, 0, 0, 0, 7, 176, 163, 124, 121, 0, 0, 0, 124, 0, 1, 173, 111, 0, 0, 0, 82, 0, 1, 176, 168, 0, 0, 0, 152, 0, 48, 193, 80, 0, 0, 0, 96, 0, 53, 128, 242, 0, 0, 0, 68, 0, 54, 81, 157, 0, 0, 0, 138, 5, 165, 168, 60, 0, 0, 0, 110]
abbrev dktX6_isOrder_1 : List UInt8 := dkwX6_isOrder_1 ++ dktX6_isOrder_2
def dkwX6_isOrder_0 : List UInt8 := [42, 76, 2, 61, 43, 182, 0, 179]
abbrev dktX6_isOrder_0 : List UInt8 := dkwX6_isOrder_0 ++ dktX6_isOrder_1
theorem dksX6_isOrder_0 : cX6_isOrder.data.toList.drop 0 = dktX6_isOrder_0 := by decide +kernel
theorem dksX6_isOrder_1 : cX6_isOrder.data.toList.drop 8 = dktX6_isOrder_1 := dk_seg dksX6_isOrder_0 8 rfl rfl
theorem dksX6_isOrder_2 : cX6_isOrder.data.toList.drop 76 = dktX6_isOrder_2 := dk_seg dksX6_isOrder_1 68 rfl rfl
theorem dksX6_isOrder_3 : cX6_isOrder.data.toList.drop 100 = dktX6_isOrder_3 := dk_seg dksX6_isOrder_2 24 rfl rfl
theorem dksX6_isOrder_4 : cX6_isOrder.data.toList.drop 124 = dktX6_isOrder_4 := dk_seg dksX6_isOrder_3 24 rfl rfl
theorem dksX6_isOrder_5 : cX6_isOrder.data.toList.drop 147 = dktX6_isOrder_5 := dk_seg dksX6_isOrder_4 23 rfl rfl
theorem dksX6_isOrder_6 : cX6_isOrder.data.toList.drop 171 = dktX6_isOrder_6 := dk_seg dksX6_isOrder_5 24 rfl rfl
theorem dksX6_isOrder_7 : cX6_isOrder.data.toList.drop 173 = dktX6_isOrder_7 := dk_seg dksX6_isOrder_6 2 rfl rfl
theorem dksX6_isOrder_8 : cX6_isOrder.data.toList.drop 216 = dktX6_isOrder_8 := dk_seg dksX6_isOrder_7 43 rfl rfl
theorem dX6_isOrder_0 : decode cX6_isOrder 0 = .ok (.aload_n 0, 1) := dk_42 (dk_at dksX6_isOrder_0 0 rfl rfl)
theorem dX6_isOrder_1 : decode cX6_isOrder 1 = .ok (.astore_n 1, 1) := dk_76 (dk_at dksX6_isOrder_0 1 rfl rfl)
theorem dX6_isOrder_2 : decode cX6_isOrder 2 = .ok (.iconst (-1), 1) := dk_2 (dk_at dksX6_isOrder_0 2 rfl rfl)
theorem dX6_isOrder_3 : decode cX6_isOrder 3 = .ok (.istore_n 2, 1) := dk_61 (dk_at dksX6_isOrder_0 3 rfl rfl)
theorem dX6_isOrder_4 : decode cX6_isOrder 4 = .ok (.aload_n 1, 1) := dk_43 (dk_at dksX6_isOrder_0 4 rfl rfl)
theorem dX6_isOrder_5 : decode cX6_isOrder 5 = .ok (.invokevirtual 179, 3) := dk_182 0 179 (dk_at dksX6_isOrder_0 5 rfl rfl)
theorem dX6_isOrder_8 : decode cX6_isOrder 8 = .ok (.lookupswitch 164 #[(-1331463047, 124), (109935, 82), (110760, 152), (3195216, 96), (3506418, 68), (3559837, 138), (94742588, 110)], 68) := by decide +kernel
theorem dX6_isOrder_76 : decode cX6_isOrder 76 = .ok (.aload_n 1, 1) := dk_43 (dk_at dksX6_isOrder_2 0 rfl rfl)
theorem dX6_isOrder_77 : decode cX6_isOrder 77 = .ok (.ldc 182, 2) := dk_18 182 (dk_at dksX6_isOrder_2 1 rfl rfl)
theorem dX6_isOrder_79 : decode cX6_isOrder 79 = .ok (.invokevirtual 103, 3) := dk_182 0 103 (dk_at dksX6_isOrder_2 3 rfl rfl)
theorem dX6_isOrder_82 : decode cX6_isOrder 82 = .ok (.ifCond .eq 90, 3) := dk_153 0 90 (dk_at dksX6_isOrder_2 6 rfl rfl)
theorem dX6_isOrder_85 : decode cX6_isOrder 85 = .ok (.iconst 0, 1) := dk_3 (dk_at dksX6_isOrder_2 9 rfl rfl)
theorem dX6_isOrder_86 : decode cX6_isOrder 86 = .ok (.istore_n 2, 1) := dk_61 (dk_at dksX6_isOrder_2 10 rfl rfl)
theorem dX6_isOrder_87 : decode cX6_isOrder 87 = .ok (.goto 85, 3) := dk_167 0 85 (dk_at dksX6_isOrder_2 11 rfl rfl)
theorem dX6_isOrder_90 : decode cX6_isOrder 90 = .ok (.aload_n 1, 1) := dk_43 (dk_at dksX6_isOrder_2 14 rfl rfl)
theorem dX6_isOrder_91 : decode cX6_isOrder 91 = .ok (.ldc 184, 2) := dk_18 184 (dk_at dksX6_isOrder_2 15 rfl rfl)
theorem dX6_isOrder_93 : decode cX6_isOrder 93 = .ok (.invokevirtual 103, 3) := dk_182 0 103 (dk_at dksX6_isOrder_2 17 rfl rfl)
theorem dX6_isOrder_96 : decode cX6_isOrder 96 = .ok (.ifCond .eq 76, 3) := dk_153 0 76 (dk_at dksX6_isOrder_2 20 rfl rfl)
theorem dX6_isOrder_99 : decode cX6_isOrder 99 = .ok (.iconst 1, 1) := dk_4 (dk_at dksX6_isOrder_2 23 rfl rfl)
theorem dX6_isOrder_100 : decode cX6_isOrder 100 = .ok (.istore_n 2, 1) := dk_61 (dk_at dksX6_isOrder_3 0 rfl rfl)
theorem dX6_isOrder_101 : decode cX6_isOrder 101 = .ok (.goto 71, 3) := dk_167 0 71 (dk_at dksX6_isOrder_3 1 rfl rfl)
theorem dX6_isOrder_104 : decode cX6_isOrder 104 = .ok (.aload_n 1, 1) := dk_43 (dk_at dksX6_isOrder_3 4 rfl rfl)
theorem dX6_isOrder_105 : decode cX6_isOrder 105 = .ok (.ldc 186, 2) := dk_18 186 (dk_at dksX6_isOrder_3 5 rfl rfl)
theorem dX6_isOrder_107 : decode cX6_isOrder 107 = .ok (.invokevirtual 103, 3) := dk_182 0 103 (dk_at dksX6_isOrder_3 7 rfl rfl)
theorem dX6_isOrder_110 : decode cX6_isOrder 110 = .ok (.ifCond .eq 62, 3) := dk_153 0 62 (dk_at dksX6_isOrder_3 10 rfl rfl)
theorem dX6_isOrder_113 : decode cX6_isOrder 113 = .ok (.iconst 2, 1) := dk_5 (dk_at dksX6_isOrder_3 13 rfl rfl)
theorem dX6_isOrder_114 : decode cX6_isOrder 114 = .ok (.istore_n 2, 1) := dk_61 (dk_at dksX6_isOrder_3 14 rfl rfl)
theorem dX6_isOrder_115 : decode cX6_isOrder 115 = .ok (.goto 57, 3) := dk_167 0 57 (dk_at dksX6_isOrder_3 15 rfl rfl)
theorem dX6_isOrder_118 : decode cX6_isOrder 118 = .ok (.aload_n 1, 1) := dk_43 (dk_at dksX6_isOrder_3 18 rfl rfl)
theorem dX6_isOrder_119 : decode cX6_isOrder 119 = .ok (.ldc 188, 2) := dk_18 188 (dk_at dksX6_isOrder_3 19 rfl rfl)
theorem dX6_isOrder_121 : decode cX6_isOrder 121 = .ok (.invokevirtual 103, 3) := dk_182 0 103 (dk_at dksX6_isOrder_3 21 rfl rfl)
theorem dX6_isOrder_124 : decode cX6_isOrder 124 = .ok (.ifCond .eq 48, 3) := dk_153 0 48 (dk_at dksX6_isOrder_4 0 rfl rfl)
theorem dX6_isOrder_127 : decode cX6_isOrder 127 = .ok (.iconst 3, 1) := dk_6 (dk_at dksX6_isOrder_4 3 rfl rfl)
theorem dX6_isOrder_128 : decode cX6_isOrder 128 = .ok (.istore_n 2, 1) := dk_61 (dk_at dksX6_isOrder_4 4 rfl rfl)
theorem dX6_isOrder_129 : decode cX6_isOrder 129 = .ok (.goto 43, 3) := dk_167 0 43 (dk_at dksX6_isOrder_4 5 rfl rfl)
theorem dX6_isOrder_132 : decode cX6_isOrder 132 = .ok (.aload_n 1, 1) := dk_43 (dk_at dksX6_isOrder_4 8 rfl rfl)
theorem dX6_isOrder_133 : decode cX6_isOrder 133 = .ok (.ldc 190, 2) := dk_18 190 (dk_at dksX6_isOrder_4 9 rfl rfl)
theorem dX6_isOrder_135 : decode cX6_isOrder 135 = .ok (.invokevirtual 103, 3) := dk_182 0 103 (dk_at dksX6_isOrder_4 11 rfl rfl)
theorem dX6_isOrder_138 : decode cX6_isOrder 138 = .ok (.ifCond .eq 34, 3) := dk_153 0 34 (dk_at dksX6_isOrder_4 14 rfl rfl)
theorem dX6_isOrder_141 : decode cX6_isOrder 141 = .ok (.iconst 4, 1) := dk_7 (dk_at dksX6_isOrder_4 17 rfl rfl)
theorem dX6_isOrder_142 : decode cX6_isOrder 142 = .ok (.istore_n 2, 1) := dk_61 (dk_at dksX6_isOrder_4 18 rfl rfl)
theorem dX6_isOrder_143 : decode cX6_isOrder 143 = .ok (.goto 29, 3) := dk_167 0 29 (dk_at dksX6_isOrder_4 19 rfl rfl)
theorem dX6_isOrder_146 : decode cX6_isOrder 146 = .ok (.aload_n 1, 1) := dk_43 (dk_at dksX6_isOrder_4 22 rfl rfl)
theorem dX6_isOrder_147 : decode cX6_isOrder 147 = .ok (.ldc 192, 2) := dk_18 192 (dk_at dksX6_isOrder_5 0 rfl rfl)
theorem dX6_isOrder_149 : decode cX6_isOrder 149 = .ok (.invokevirtual 103, 3) := dk_182 0 103 (dk_at dksX6_isOrder_5 2 rfl rfl)
theorem dX6_isOrder_152 : decode cX6_isOrder 152 = .ok (.ifCond .eq 20, 3) := dk_153 0 20 (dk_at dksX6_isOrder_5 5 rfl rfl)
theorem dX6_isOrder_155 : decode cX6_isOrder 155 = .ok (.iconst 5, 1) := dk_8 (dk_at dksX6_isOrder_5 8 rfl rfl)
theorem dX6_isOrder_156 : decode cX6_isOrder 156 = .ok (.istore_n 2, 1) := dk_61 (dk_at dksX6_isOrder_5 9 rfl rfl)
theorem dX6_isOrder_157 : decode cX6_isOrder 157 = .ok (.goto 15, 3) := dk_167 0 15 (dk_at dksX6_isOrder_5 10 rfl rfl)
theorem dX6_isOrder_160 : decode cX6_isOrder 160 = .ok (.aload_n 1, 1) := dk_43 (dk_at dksX6_isOrder_5 13 rfl rfl)
theorem dX6_isOrder_161 : decode cX6_isOrder 161 = .ok (.ldc 194, 2) := dk_18 194 (dk_at dksX6_isOrder_5 14 rfl rfl)
theorem dX6_isOrder_163 : decode cX6_isOrder 163 = .ok (.invokevirtual 103, 3) := dk_182 0 103 (dk_at dksX6_isOrder_5 16 rfl rfl)
theorem dX6_isOrder_166 : decode cX6_isOrder 166 = .ok (.ifCond .eq 6, 3) := dk_153 0 6 (dk_at dksX6_isOrder_5 19 rfl rfl)
theorem dX6_isOrder_169 : decode cX6_isOrder 169 = .ok (.bipush 6, 2) := dk_16 6 (dk_at dksX6_isOrder_5 22 rfl rfl)
theorem dX6_isOrder_171 : decode cX6_isOrder 171 = .ok (.istore_n 2, 1) := dk_61 (dk_at dksX6_isOrder_6 0 rfl rfl)
theorem dX6_isOrder_172 : decode cX6_isOrder 172 = .ok (.iload_n 2, 1) := dk_28 (dk_at dksX6_isOrder_6 1 rfl rfl)
theorem dX6_isOrder_173 : decode cX6_isOrder 173 = .ok (.tableswitch 47 0 6 #[43, 43, 43, 43, 43, 43, 43], 43) := by decide +kernel
theorem dX6_isOrder_216 : decode cX6_isOrder 216 = .ok (.iconst 1, 1) := dk_4 (dk_at dksX6_isOrder_8 0 rfl rfl)
theorem dX6_isOrder_217 : decode cX6_isOrder 217 = .ok (.goto 4, 3) := dk_167 0 4 (dk_at dksX6_isOrder_8 1 rfl rfl)
theorem dX6_isOrder_220 : decode cX6_isOrder 220 = .ok (.iconst 0, 1) := dk_3 (dk_at dksX6_isOrder_8 4 rfl rfl)
theorem dX6_isOrder_221 : decode cX6_isOrder 221 = .ok (.ireturn, 1) := dk_172 (dk_at dksX6_isOrder_8 5 rfl rfl)
abbrev cX6_order : ByteArray := prog_11_method_18_code
def yX6_order : MethodName := ⟨RX6, "order", "(Ljava/lang/String;)LWreckShares$Deed;"⟩
def dkwX6_order_10 : List UInt8 := [182, 0, 126, 184, 0, 223, 176]
abbrev dktX6_order_10 : List UInt8 := dkwX6_order_10 ++ []
def dkwX6_order_9 : List UInt8 := [42, 4, 8, 182, 0, 126, 184, 0, 217, 176, 42, 182, 0, 199, 184, 0, 220, 176, 42, 4, 17, 0, 200]
abbrev dktX6_order_9 : List UInt8 := dkwX6_order_9 ++ dktX6_order_10
def dkwX6_order_8 : List UInt8 := [184, 0, 210, 176, 42, 182, 0, 196, 42, 182, 0, 196, 42, 4, 17, 3, 231, 182, 0, 126, 184, 0, 213, 176]
abbrev dktX6_order_8 : List UInt8 := dkwX6_order_8 ++ dktX6_order_9
def dkwX6_order_7 : List UInt8 := [42, 182, 0, 196, 42, 182, 0, 199, 184, 0, 202, 176, 42, 182, 0, 196, 184, 0, 206, 176, 42, 182, 0, 199]
abbrev dktX6_order_7 : List UInt8 := dkwX6_order_7 ++ dktX6_order_8
def dkwX6_order_6 : List UInt8 := [170, 0, 0, 0, 0, 104, 0, 0, 0, 0, 0, 0, 0, 5, 0, 0, 0, 38, 0, 0, 0, 50, 0, 0, 0, 58, 0, 0, 0, 66, 0, 0, 0, 86, 0, 0, 0, 96]
abbrev dktX6_order_6 : List UInt8 := dkwX6_order_6 ++ dktX6_order_7
def dkwX6_order_5 : List UInt8 := [18, 190, 182, 0, 103, 153, 0, 5, 8, 62, 29]
abbrev dktX6_order_5 : List UInt8 := dkwX6_order_5 ++ dktX6_order_6
def dkwX6_order_4 : List UInt8 := [153, 0, 33, 6, 62, 167, 0, 28, 44, 18, 188, 182, 0, 103, 153, 0, 19, 7, 62, 167, 0, 14, 44]
abbrev dktX6_order_4 : List UInt8 := dkwX6_order_4 ++ dktX6_order_5
def dkwX6_order_3 : List UInt8 := [62, 167, 0, 56, 44, 18, 186, 182, 0, 103, 153, 0, 47, 5, 62, 167, 0, 42, 44, 18, 194, 182, 0, 103]
abbrev dktX6_order_3 : List UInt8 := dkwX6_order_3 ++ dktX6_order_4
def dkwX6_order_2 : List UInt8 := [44, 18, 182, 182, 0, 103, 153, 0, 75, 3, 62, 167, 0, 70, 44, 18, 184, 182, 0, 103, 153, 0, 61, 4]
abbrev dktX6_order_2 : List UInt8 := dkwX6_order_2 ++ dktX6_order_3
def dkwX6_order_1 : List UInt8 := [171, 0, 0, 0, 0, 0, 0, 141, 0, 0, 0, 6, 176, 163, 124, 121, 0, 0, 0, 130, 0, 1, 173, 111, 0, 0, 0, 74, 0, 1, 176, 168, 0, 0, 0, 102, 0, 48, 193, 80, 0, 0, 0, 88, 0, 53, 128, 242, 0, 0, 0, 60, 5, 165, 168, 60, 0, 0, 0, 116]
abbrev dktX6_order_1 : List UInt8 := dkwX6_order_1 ++ dktX6_order_2
def dkwX6_order_0 : List UInt8 := [43, 77, 2, 62, 44, 182, 0, 179]
abbrev dktX6_order_0 : List UInt8 := dkwX6_order_0 ++ dktX6_order_1
theorem dksX6_order_0 : cX6_order.data.toList.drop 0 = dktX6_order_0 := by decide +kernel
theorem dksX6_order_1 : cX6_order.data.toList.drop 8 = dktX6_order_1 := dk_seg dksX6_order_0 8 rfl rfl
theorem dksX6_order_2 : cX6_order.data.toList.drop 68 = dktX6_order_2 := dk_seg dksX6_order_1 60 rfl rfl
theorem dksX6_order_3 : cX6_order.data.toList.drop 92 = dktX6_order_3 := dk_seg dksX6_order_2 24 rfl rfl
theorem dksX6_order_4 : cX6_order.data.toList.drop 116 = dktX6_order_4 := dk_seg dksX6_order_3 24 rfl rfl
theorem dksX6_order_5 : cX6_order.data.toList.drop 139 = dktX6_order_5 := dk_seg dksX6_order_4 23 rfl rfl
theorem dksX6_order_6 : cX6_order.data.toList.drop 150 = dktX6_order_6 := dk_seg dksX6_order_5 11 rfl rfl
theorem dksX6_order_7 : cX6_order.data.toList.drop 188 = dktX6_order_7 := dk_seg dksX6_order_6 38 rfl rfl
theorem dksX6_order_8 : cX6_order.data.toList.drop 212 = dktX6_order_8 := dk_seg dksX6_order_7 24 rfl rfl
theorem dksX6_order_9 : cX6_order.data.toList.drop 236 = dktX6_order_9 := dk_seg dksX6_order_8 24 rfl rfl
theorem dksX6_order_10 : cX6_order.data.toList.drop 259 = dktX6_order_10 := dk_seg dksX6_order_9 23 rfl rfl
theorem dX6_order_0 : decode cX6_order 0 = .ok (.aload_n 1, 1) := dk_43 (dk_at dksX6_order_0 0 rfl rfl)
theorem dX6_order_1 : decode cX6_order 1 = .ok (.astore_n 2, 1) := dk_77 (dk_at dksX6_order_0 1 rfl rfl)
theorem dX6_order_2 : decode cX6_order 2 = .ok (.iconst (-1), 1) := dk_2 (dk_at dksX6_order_0 2 rfl rfl)
theorem dX6_order_3 : decode cX6_order 3 = .ok (.istore_n 3, 1) := dk_62 (dk_at dksX6_order_0 3 rfl rfl)
theorem dX6_order_4 : decode cX6_order 4 = .ok (.aload_n 2, 1) := dk_44 (dk_at dksX6_order_0 4 rfl rfl)
theorem dX6_order_5 : decode cX6_order 5 = .ok (.invokevirtual 179, 3) := dk_182 0 179 (dk_at dksX6_order_0 5 rfl rfl)
theorem dX6_order_8 : decode cX6_order 8 = .ok (.lookupswitch 141 #[(-1331463047, 130), (109935, 74), (110760, 102), (3195216, 88), (3506418, 60), (94742588, 116)], 60) := by decide +kernel
theorem dX6_order_68 : decode cX6_order 68 = .ok (.aload_n 2, 1) := dk_44 (dk_at dksX6_order_2 0 rfl rfl)
theorem dX6_order_69 : decode cX6_order 69 = .ok (.ldc 182, 2) := dk_18 182 (dk_at dksX6_order_2 1 rfl rfl)
theorem dX6_order_71 : decode cX6_order 71 = .ok (.invokevirtual 103, 3) := dk_182 0 103 (dk_at dksX6_order_2 3 rfl rfl)
theorem dX6_order_74 : decode cX6_order 74 = .ok (.ifCond .eq 75, 3) := dk_153 0 75 (dk_at dksX6_order_2 6 rfl rfl)
theorem dX6_order_77 : decode cX6_order 77 = .ok (.iconst 0, 1) := dk_3 (dk_at dksX6_order_2 9 rfl rfl)
theorem dX6_order_78 : decode cX6_order 78 = .ok (.istore_n 3, 1) := dk_62 (dk_at dksX6_order_2 10 rfl rfl)
theorem dX6_order_79 : decode cX6_order 79 = .ok (.goto 70, 3) := dk_167 0 70 (dk_at dksX6_order_2 11 rfl rfl)
theorem dX6_order_82 : decode cX6_order 82 = .ok (.aload_n 2, 1) := dk_44 (dk_at dksX6_order_2 14 rfl rfl)
theorem dX6_order_83 : decode cX6_order 83 = .ok (.ldc 184, 2) := dk_18 184 (dk_at dksX6_order_2 15 rfl rfl)
theorem dX6_order_85 : decode cX6_order 85 = .ok (.invokevirtual 103, 3) := dk_182 0 103 (dk_at dksX6_order_2 17 rfl rfl)
theorem dX6_order_88 : decode cX6_order 88 = .ok (.ifCond .eq 61, 3) := dk_153 0 61 (dk_at dksX6_order_2 20 rfl rfl)
theorem dX6_order_91 : decode cX6_order 91 = .ok (.iconst 1, 1) := dk_4 (dk_at dksX6_order_2 23 rfl rfl)
theorem dX6_order_92 : decode cX6_order 92 = .ok (.istore_n 3, 1) := dk_62 (dk_at dksX6_order_3 0 rfl rfl)
theorem dX6_order_93 : decode cX6_order 93 = .ok (.goto 56, 3) := dk_167 0 56 (dk_at dksX6_order_3 1 rfl rfl)
theorem dX6_order_96 : decode cX6_order 96 = .ok (.aload_n 2, 1) := dk_44 (dk_at dksX6_order_3 4 rfl rfl)
theorem dX6_order_97 : decode cX6_order 97 = .ok (.ldc 186, 2) := dk_18 186 (dk_at dksX6_order_3 5 rfl rfl)
theorem dX6_order_99 : decode cX6_order 99 = .ok (.invokevirtual 103, 3) := dk_182 0 103 (dk_at dksX6_order_3 7 rfl rfl)
theorem dX6_order_102 : decode cX6_order 102 = .ok (.ifCond .eq 47, 3) := dk_153 0 47 (dk_at dksX6_order_3 10 rfl rfl)
theorem dX6_order_105 : decode cX6_order 105 = .ok (.iconst 2, 1) := dk_5 (dk_at dksX6_order_3 13 rfl rfl)
theorem dX6_order_106 : decode cX6_order 106 = .ok (.istore_n 3, 1) := dk_62 (dk_at dksX6_order_3 14 rfl rfl)
theorem dX6_order_107 : decode cX6_order 107 = .ok (.goto 42, 3) := dk_167 0 42 (dk_at dksX6_order_3 15 rfl rfl)
theorem dX6_order_110 : decode cX6_order 110 = .ok (.aload_n 2, 1) := dk_44 (dk_at dksX6_order_3 18 rfl rfl)
theorem dX6_order_111 : decode cX6_order 111 = .ok (.ldc 194, 2) := dk_18 194 (dk_at dksX6_order_3 19 rfl rfl)
theorem dX6_order_113 : decode cX6_order 113 = .ok (.invokevirtual 103, 3) := dk_182 0 103 (dk_at dksX6_order_3 21 rfl rfl)
theorem dX6_order_116 : decode cX6_order 116 = .ok (.ifCond .eq 33, 3) := dk_153 0 33 (dk_at dksX6_order_4 0 rfl rfl)
theorem dX6_order_119 : decode cX6_order 119 = .ok (.iconst 3, 1) := dk_6 (dk_at dksX6_order_4 3 rfl rfl)
theorem dX6_order_120 : decode cX6_order 120 = .ok (.istore_n 3, 1) := dk_62 (dk_at dksX6_order_4 4 rfl rfl)
theorem dX6_order_121 : decode cX6_order 121 = .ok (.goto 28, 3) := dk_167 0 28 (dk_at dksX6_order_4 5 rfl rfl)
theorem dX6_order_124 : decode cX6_order 124 = .ok (.aload_n 2, 1) := dk_44 (dk_at dksX6_order_4 8 rfl rfl)
theorem dX6_order_125 : decode cX6_order 125 = .ok (.ldc 188, 2) := dk_18 188 (dk_at dksX6_order_4 9 rfl rfl)
theorem dX6_order_127 : decode cX6_order 127 = .ok (.invokevirtual 103, 3) := dk_182 0 103 (dk_at dksX6_order_4 11 rfl rfl)
theorem dX6_order_130 : decode cX6_order 130 = .ok (.ifCond .eq 19, 3) := dk_153 0 19 (dk_at dksX6_order_4 14 rfl rfl)
theorem dX6_order_133 : decode cX6_order 133 = .ok (.iconst 4, 1) := dk_7 (dk_at dksX6_order_4 17 rfl rfl)
theorem dX6_order_134 : decode cX6_order 134 = .ok (.istore_n 3, 1) := dk_62 (dk_at dksX6_order_4 18 rfl rfl)
theorem dX6_order_135 : decode cX6_order 135 = .ok (.goto 14, 3) := dk_167 0 14 (dk_at dksX6_order_4 19 rfl rfl)
theorem dX6_order_138 : decode cX6_order 138 = .ok (.aload_n 2, 1) := dk_44 (dk_at dksX6_order_4 22 rfl rfl)
theorem dX6_order_139 : decode cX6_order 139 = .ok (.ldc 190, 2) := dk_18 190 (dk_at dksX6_order_5 0 rfl rfl)
theorem dX6_order_141 : decode cX6_order 141 = .ok (.invokevirtual 103, 3) := dk_182 0 103 (dk_at dksX6_order_5 2 rfl rfl)
theorem dX6_order_144 : decode cX6_order 144 = .ok (.ifCond .eq 5, 3) := dk_153 0 5 (dk_at dksX6_order_5 5 rfl rfl)
theorem dX6_order_147 : decode cX6_order 147 = .ok (.iconst 5, 1) := dk_8 (dk_at dksX6_order_5 8 rfl rfl)
theorem dX6_order_148 : decode cX6_order 148 = .ok (.istore_n 3, 1) := dk_62 (dk_at dksX6_order_5 9 rfl rfl)
theorem dX6_order_149 : decode cX6_order 149 = .ok (.iload_n 3, 1) := dk_29 (dk_at dksX6_order_5 10 rfl rfl)
theorem dX6_order_150 : decode cX6_order 150 = .ok (.tableswitch 104 0 5 #[38, 50, 58, 66, 86, 96], 38) := by decide +kernel
theorem dX6_order_188 : decode cX6_order 188 = .ok (.aload_n 0, 1) := dk_42 (dk_at dksX6_order_7 0 rfl rfl)
theorem dX6_order_189 : decode cX6_order 189 = .ok (.invokevirtual 196, 3) := dk_182 0 196 (dk_at dksX6_order_7 1 rfl rfl)
theorem dX6_order_192 : decode cX6_order 192 = .ok (.aload_n 0, 1) := dk_42 (dk_at dksX6_order_7 4 rfl rfl)
theorem dX6_order_193 : decode cX6_order 193 = .ok (.invokevirtual 199, 3) := dk_182 0 199 (dk_at dksX6_order_7 5 rfl rfl)
theorem dX6_order_196 : decode cX6_order 196 = .ok (.invokestatic 202, 3) := dk_184 0 202 (dk_at dksX6_order_7 8 rfl rfl)
theorem dX6_order_199 : decode cX6_order 199 = .ok (.areturn, 1) := dk_176 (dk_at dksX6_order_7 11 rfl rfl)
theorem dX6_order_200 : decode cX6_order 200 = .ok (.aload_n 0, 1) := dk_42 (dk_at dksX6_order_7 12 rfl rfl)
theorem dX6_order_201 : decode cX6_order 201 = .ok (.invokevirtual 196, 3) := dk_182 0 196 (dk_at dksX6_order_7 13 rfl rfl)
theorem dX6_order_204 : decode cX6_order 204 = .ok (.invokestatic 206, 3) := dk_184 0 206 (dk_at dksX6_order_7 16 rfl rfl)
theorem dX6_order_207 : decode cX6_order 207 = .ok (.areturn, 1) := dk_176 (dk_at dksX6_order_7 19 rfl rfl)
theorem dX6_order_208 : decode cX6_order 208 = .ok (.aload_n 0, 1) := dk_42 (dk_at dksX6_order_7 20 rfl rfl)
theorem dX6_order_209 : decode cX6_order 209 = .ok (.invokevirtual 199, 3) := dk_182 0 199 (dk_at dksX6_order_7 21 rfl rfl)
theorem dX6_order_212 : decode cX6_order 212 = .ok (.invokestatic 210, 3) := dk_184 0 210 (dk_at dksX6_order_8 0 rfl rfl)
theorem dX6_order_215 : decode cX6_order 215 = .ok (.areturn, 1) := dk_176 (dk_at dksX6_order_8 3 rfl rfl)
theorem dX6_order_216 : decode cX6_order 216 = .ok (.aload_n 0, 1) := dk_42 (dk_at dksX6_order_8 4 rfl rfl)
theorem dX6_order_217 : decode cX6_order 217 = .ok (.invokevirtual 196, 3) := dk_182 0 196 (dk_at dksX6_order_8 5 rfl rfl)
theorem dX6_order_220 : decode cX6_order 220 = .ok (.aload_n 0, 1) := dk_42 (dk_at dksX6_order_8 8 rfl rfl)
theorem dX6_order_221 : decode cX6_order 221 = .ok (.invokevirtual 196, 3) := dk_182 0 196 (dk_at dksX6_order_8 9 rfl rfl)
theorem dX6_order_224 : decode cX6_order 224 = .ok (.aload_n 0, 1) := dk_42 (dk_at dksX6_order_8 12 rfl rfl)
theorem dX6_order_225 : decode cX6_order 225 = .ok (.iconst 1, 1) := dk_4 (dk_at dksX6_order_8 13 rfl rfl)
theorem dX6_order_226 : decode cX6_order 226 = .ok (.sipush 999, 3) := dk_17 3 231 (dk_at dksX6_order_8 14 rfl rfl)
theorem dX6_order_229 : decode cX6_order 229 = .ok (.invokevirtual 126, 3) := dk_182 0 126 (dk_at dksX6_order_8 17 rfl rfl)
theorem dX6_order_232 : decode cX6_order 232 = .ok (.invokestatic 213, 3) := dk_184 0 213 (dk_at dksX6_order_8 20 rfl rfl)
theorem dX6_order_235 : decode cX6_order 235 = .ok (.areturn, 1) := dk_176 (dk_at dksX6_order_8 23 rfl rfl)
theorem dX6_order_236 : decode cX6_order 236 = .ok (.aload_n 0, 1) := dk_42 (dk_at dksX6_order_9 0 rfl rfl)
theorem dX6_order_237 : decode cX6_order 237 = .ok (.iconst 1, 1) := dk_4 (dk_at dksX6_order_9 1 rfl rfl)
theorem dX6_order_238 : decode cX6_order 238 = .ok (.iconst 5, 1) := dk_8 (dk_at dksX6_order_9 2 rfl rfl)
theorem dX6_order_239 : decode cX6_order 239 = .ok (.invokevirtual 126, 3) := dk_182 0 126 (dk_at dksX6_order_9 3 rfl rfl)
theorem dX6_order_242 : decode cX6_order 242 = .ok (.invokestatic 217, 3) := dk_184 0 217 (dk_at dksX6_order_9 6 rfl rfl)
theorem dX6_order_245 : decode cX6_order 245 = .ok (.areturn, 1) := dk_176 (dk_at dksX6_order_9 9 rfl rfl)
theorem dX6_order_246 : decode cX6_order 246 = .ok (.aload_n 0, 1) := dk_42 (dk_at dksX6_order_9 10 rfl rfl)
theorem dX6_order_247 : decode cX6_order 247 = .ok (.invokevirtual 199, 3) := dk_182 0 199 (dk_at dksX6_order_9 11 rfl rfl)
theorem dX6_order_250 : decode cX6_order 250 = .ok (.invokestatic 220, 3) := dk_184 0 220 (dk_at dksX6_order_9 14 rfl rfl)
theorem dX6_order_253 : decode cX6_order 253 = .ok (.areturn, 1) := dk_176 (dk_at dksX6_order_9 17 rfl rfl)
theorem dX6_order_254 : decode cX6_order 254 = .ok (.aload_n 0, 1) := dk_42 (dk_at dksX6_order_9 18 rfl rfl)
theorem dX6_order_255 : decode cX6_order 255 = .ok (.iconst 1, 1) := dk_4 (dk_at dksX6_order_9 19 rfl rfl)
theorem dX6_order_256 : decode cX6_order 256 = .ok (.sipush 200, 3) := dk_17 0 200 (dk_at dksX6_order_9 20 rfl rfl)
theorem dX6_order_259 : decode cX6_order 259 = .ok (.invokevirtual 126, 3) := dk_182 0 126 (dk_at dksX6_order_10 0 rfl rfl)
theorem dX6_order_262 : decode cX6_order 262 = .ok (.invokestatic 223, 3) := dk_184 0 223 (dk_at dksX6_order_10 3 rfl rfl)
theorem dX6_order_265 : decode cX6_order 265 = .ok (.areturn, 1) := dk_176 (dk_at dksX6_order_10 6 rfl rfl)
abbrev cX6_finderHere : ByteArray := prog_11_method_16_code
def yX6_finderHere : MethodName := ⟨RX6, "finderHere", "()I"⟩
def dkwX6_finderHere_0 : List UInt8 := [42, 3, 16, 7, 182, 0, 126, 172]
abbrev dktX6_finderHere_0 : List UInt8 := dkwX6_finderHere_0 ++ []
theorem dksX6_finderHere_0 : cX6_finderHere.data.toList.drop 0 = dktX6_finderHere_0 := by decide +kernel
theorem dX6_finderHere_0 : decode cX6_finderHere 0 = .ok (.aload_n 0, 1) := dk_42 (dk_at dksX6_finderHere_0 0 rfl rfl)
theorem dX6_finderHere_1 : decode cX6_finderHere 1 = .ok (.iconst 0, 1) := dk_3 (dk_at dksX6_finderHere_0 1 rfl rfl)
theorem dX6_finderHere_2 : decode cX6_finderHere 2 = .ok (.bipush 7, 2) := dk_16 7 (dk_at dksX6_finderHere_0 2 rfl rfl)
theorem dX6_finderHere_4 : decode cX6_finderHere 4 = .ok (.invokevirtual 126, 3) := dk_182 0 126 (dk_at dksX6_finderHere_0 4 rfl rfl)
theorem dX6_finderHere_7 : decode cX6_finderHere 7 = .ok (.ireturn, 1) := dk_172 (dk_at dksX6_finderHere_0 7 rfl rfl)
abbrev cX6_goodHere : ByteArray := prog_11_method_17_code
def yX6_goodHere : MethodName := ⟨RX6, "goodHere", "()I"⟩
def dkwX6_goodHere_0 : List UInt8 := [42, 3, 16, 23, 182, 0, 126, 172]
abbrev dktX6_goodHere_0 : List UInt8 := dkwX6_goodHere_0 ++ []
theorem dksX6_goodHere_0 : cX6_goodHere.data.toList.drop 0 = dktX6_goodHere_0 := by decide +kernel
theorem dX6_goodHere_0 : decode cX6_goodHere 0 = .ok (.aload_n 0, 1) := dk_42 (dk_at dksX6_goodHere_0 0 rfl rfl)
theorem dX6_goodHere_1 : decode cX6_goodHere 1 = .ok (.iconst 0, 1) := dk_3 (dk_at dksX6_goodHere_0 1 rfl rfl)
theorem dX6_goodHere_2 : decode cX6_goodHere 2 = .ok (.bipush 23, 2) := dk_16 23 (dk_at dksX6_goodHere_0 2 rfl rfl)
theorem dX6_goodHere_4 : decode cX6_goodHere 4 = .ok (.invokevirtual 126, 3) := dk_182 0 126 (dk_at dksX6_goodHere_0 4 rfl rfl)
theorem dX6_goodHere_7 : decode cX6_goodHere 7 = .ok (.ireturn, 1) := dk_172 (dk_at dksX6_goodHere_0 7 rfl rfl)
theorem q154 : (Jvm.Cond.initialized "WreckShares$Parser") ∈ lw_all := lw_g (lw_at lw_m1 30 rfl) rfl
theorem q553 : (Jvm.Cond.fieldLinkNest "WreckShares$Parser" (143 : Nat) "WreckShares$Shore" "goods" "Ljava/util/List;" "WreckShares") ∈ lw_tbl := lw_at lw_m2 189 rfl
theorem q722 : (Jvm.Cond.selects "WreckShares$Parser" ({ cls := "java/lang/Object", name := "getClass", desc := "()Ljava/lang/Class;" } : Jvm.MethodName) ({ cls := "java/lang/Object", name := "getClass", desc := "()Ljava/lang/Class;" } : Jvm.MethodName)) ∈ lw_all := lw_g (lw_at lw_m3 118 rfl) rfl
theorem q801 : (Jvm.Cond.fieldLinkNest "WreckShares$Parser" (29 : Nat) "WreckShares" "buffer" "[B" "WreckShares") ∈ lw_tbl := lw_at lw_m3 197 rfl
theorem q1377 : (Jvm.Cond.selects "WreckShares$Parser" ({ cls := "java/lang/Object", name := "equals", desc := "(Ljava/lang/Object;)Z" } : Jvm.MethodName) ({ cls := "java/lang/Object", name := "equals", desc := "(Ljava/lang/Object;)Z" } : Jvm.MethodName)) ∈ lw_all := lw_g (lw_at lw_m6 53 rfl) rfl
theorem q1769 : (Jvm.Cond.instantiable "WreckShares$Parser" (9 : Nat)) ∈ lw_all := lw_g (lw_at lw_m7 205 rfl) rfl
theorem q1771 : (Jvm.Cond.instanceMethod ({ cls := "WreckShares$Parser", name := "<init>", desc := "(LWreckShares;I)V" } : Jvm.MethodName)) ∈ lw_all := lw_g (lw_at lw_m7 207 rfl) rfl
theorem q1772 : (Jvm.Cond.code ({ cls := "WreckShares$Parser", name := "<init>", desc := "(LWreckShares;I)V" } : Jvm.MethodName) prog_11_method_1_code (3 : Nat) (Option.none : Option Jvm.ClassFile.FieldType)) ∈ lw_all := lw_g (lw_at lw_m7 208 rfl) rfl
theorem q1773 : (Jvm.Cond.methodLink "WreckShares$Parser" (9 : Nat) ({ cls := "java/lang/Object", name := "<init>", desc := "()V" } : Jvm.MethodName)) ∈ lw_all := lw_g (lw_at lw_m7 209 rfl) rfl
theorem q1774 : (Jvm.Cond.classLink "WreckShares$Parser" (15 : Nat) "java/lang/StringBuilder") ∈ lw_all := lw_g (lw_at lw_m7 210 rfl) rfl
theorem q1775 : (Jvm.Cond.methodLink "WreckShares$Parser" (17 : Nat) ({ cls := "java/lang/StringBuilder", name := "<init>", desc := "()V" } : Jvm.MethodName)) ∈ lw_all := lw_g (lw_at lw_m7 211 rfl) rfl
theorem q1776 : (Jvm.Cond.methodLink "WreckShares$Parser" (26 : Nat) ({ cls := "WreckShares$Parser", name := "next", desc := "()V" } : Jvm.MethodName)) ∈ lw_all := lw_g (lw_at lw_m7 212 rfl) rfl
theorem q1777 : (Jvm.Cond.privateMethod ({ cls := "WreckShares$Parser", name := "next", desc := "()V" } : Jvm.MethodName)) ∈ lw_tbl := lw_at lw_m7 213 rfl
theorem q1778 : (Jvm.Cond.instanceMethod ({ cls := "WreckShares$Parser", name := "next", desc := "()V" } : Jvm.MethodName)) ∈ lw_all := lw_g (lw_at lw_m7 214 rfl) rfl
theorem q1779 : (Jvm.Cond.code ({ cls := "WreckShares$Parser", name := "next", desc := "()V" } : Jvm.MethodName) prog_11_method_5_code (2 : Nat) (Option.none : Option Jvm.ClassFile.FieldType)) ∈ lw_all := lw_g (lw_at lw_m7 215 rfl) rfl
theorem q1780 : (Jvm.Cond.methodLink "WreckShares$Parser" (36 : Nat) ({ cls := "WreckShares$Parser", name := "byteAt", desc := "(I)I" } : Jvm.MethodName)) ∈ lw_all := lw_g (lw_at lw_m7 216 rfl) rfl
theorem q1781 : (Jvm.Cond.privateMethod ({ cls := "WreckShares$Parser", name := "byteAt", desc := "(I)I" } : Jvm.MethodName)) ∈ lw_tbl := lw_at lw_m7 217 rfl
theorem q1782 : (Jvm.Cond.instanceMethod ({ cls := "WreckShares$Parser", name := "byteAt", desc := "(I)I" } : Jvm.MethodName)) ∈ lw_all := lw_g (lw_at lw_m7 218 rfl) rfl
theorem q1783 : (Jvm.Cond.code ({ cls := "WreckShares$Parser", name := "byteAt", desc := "(I)I" } : Jvm.MethodName) prog_11_method_2_code (2 : Nat) (Option.some Jvm.ClassFile.FieldType.int)) ∈ lw_all := lw_g (lw_at lw_m7 219 rfl) rfl
theorem q1784 : (Jvm.Cond.methodLink "WreckShares$Parser" (43 : Nat) ({ cls := "java/lang/StringBuilder", name := "setLength", desc := "(I)V" } : Jvm.MethodName)) ∈ lw_all := lw_g (lw_at lw_m7 220 rfl) rfl
theorem q1807 : (Jvm.Cond.fieldLink "WreckShares$Parser" (47 : Nat) "WreckShares$Token" "END" "LWreckShares$Token;") ∈ lw_all := lw_g (lw_at lw_m8 3 rfl) rfl
theorem q1809 : (Jvm.Cond.methodLink "WreckShares$Parser" (56 : Nat) ({ cls := "WreckShares$Parser", name := "isLetter", desc := "(I)Z" } : Jvm.MethodName)) ∈ lw_all := lw_g (lw_at lw_m8 5 rfl) rfl
theorem q1810 : (Jvm.Cond.static ({ cls := "WreckShares$Parser", name := "isLetter", desc := "(I)Z" } : Jvm.MethodName)) ∈ lw_all := lw_g (lw_at lw_m8 6 rfl) rfl
theorem q1811 : (Jvm.Cond.code ({ cls := "WreckShares$Parser", name := "isLetter", desc := "(I)Z" } : Jvm.MethodName) prog_11_method_3_code (1 : Nat) (Option.some Jvm.ClassFile.FieldType.boolean)) ∈ lw_all := lw_g (lw_at lw_m8 7 rfl) rfl
theorem q1812 : (Jvm.Cond.methodLink "WreckShares$Parser" (60 : Nat) ({ cls := "java/lang/StringBuilder", name := "append", desc := "(C)Ljava/lang/StringBuilder;" } : Jvm.MethodName)) ∈ lw_all := lw_g (lw_at lw_m8 8 rfl) rfl
theorem q1825 : (Jvm.Cond.fieldLink "WreckShares$Parser" (64 : Nat) "WreckShares$Token" "WORD" "LWreckShares$Token;") ∈ lw_all := lw_g (lw_at lw_m8 21 rfl) rfl
theorem q1827 : (Jvm.Cond.methodLink "WreckShares$Parser" (67 : Nat) ({ cls := "WreckShares$Parser", name := "isDigit", desc := "(I)Z" } : Jvm.MethodName)) ∈ lw_all := lw_g (lw_at lw_m8 23 rfl) rfl
theorem q1828 : (Jvm.Cond.static ({ cls := "WreckShares$Parser", name := "isDigit", desc := "(I)Z" } : Jvm.MethodName)) ∈ lw_all := lw_g (lw_at lw_m8 24 rfl) rfl
theorem q1829 : (Jvm.Cond.code ({ cls := "WreckShares$Parser", name := "isDigit", desc := "(I)Z" } : Jvm.MethodName) prog_11_method_4_code (1 : Nat) (Option.some Jvm.ClassFile.FieldType.boolean)) ∈ lw_all := lw_g (lw_at lw_m8 25 rfl) rfl
theorem q1830 : (Jvm.Cond.constant "WreckShares$Parser" (73 : Nat) (1000000 : Int32)) ∈ lw_all := lw_g (lw_at lw_m8 26 rfl) rfl
theorem q1831 : (Jvm.Cond.methodLink "WreckShares$Parser" (74 : Nat) ({ cls := "java/lang/Math", name := "min", desc := "(II)I" } : Jvm.MethodName)) ∈ lw_all := lw_g (lw_at lw_m8 27 rfl) rfl
theorem q1832 : (Jvm.Cond.fieldLink "WreckShares$Parser" (80 : Nat) "WreckShares$Token" "NUMBER" "LWreckShares$Token;") ∈ lw_all := lw_g (lw_at lw_m8 28 rfl) rfl
theorem q1834 : (Jvm.Cond.fieldLink "WreckShares$Parser" (86 : Nat) "WreckShares$Token" "SIGN" "LWreckShares$Token;") ∈ lw_all := lw_g (lw_at lw_m8 30 rfl) rfl
theorem q1836 : (Jvm.Cond.fieldLink "WreckShares$Parser" (18 : Nat) "WreckShares$Parser" "word" "Ljava/lang/StringBuilder;") ∈ lw_all := lw_g (lw_at lw_m8 32 rfl) rfl
theorem q1837 : (Jvm.Cond.fieldLink "WreckShares$Parser" (22 : Nat) "WreckShares$Parser" "end" "I") ∈ lw_all := lw_g (lw_at lw_m8 33 rfl) rfl
theorem q1838 : (Jvm.Cond.fieldLink "WreckShares$Parser" (33 : Nat) "WreckShares$Parser" "at" "I") ∈ lw_all := lw_g (lw_at lw_m8 34 rfl) rfl
theorem q1839 : (Jvm.Cond.fieldLink "WreckShares$Parser" (40 : Nat) "WreckShares$Parser" "begin" "I") ∈ lw_all := lw_g (lw_at lw_m8 35 rfl) rfl
theorem q1840 : (Jvm.Cond.fieldLink "WreckShares$Parser" (70 : Nat) "WreckShares$Parser" "value" "I") ∈ lw_all := lw_g (lw_at lw_m8 36 rfl) rfl
theorem q1841 : (Jvm.Cond.fieldLink "WreckShares$Parser" (83 : Nat) "WreckShares$Parser" "sign" "I") ∈ lw_all := lw_g (lw_at lw_m8 37 rfl) rfl
theorem q1842 : (Jvm.Cond.fieldLink "WreckShares$Parser" (172 : Nat) "WreckShares$Parser" "many" "I") ∈ lw_all := lw_g (lw_at lw_m8 38 rfl) rfl
theorem q1844 : (Jvm.Cond.fieldLink "WreckShares$Parser" (53 : Nat) "WreckShares$Parser" "token" "LWreckShares$Token;") ∈ lw_all := lw_g (lw_at lw_m8 40 rfl) rfl
theorem q1845 : (Jvm.Cond.fieldLink "WreckShares$Parser" (3 : Nat) "WreckShares$Parser" "this$0" "LWreckShares;") ∈ lw_all := lw_g (lw_at lw_m8 41 rfl) rfl
theorem q1846 : (Jvm.Cond.laysFinal "WreckShares$Parser" "WreckShares$Parser" "word" "Ljava/lang/StringBuilder;") ∈ lw_all := lw_g (lw_at lw_m8 42 rfl) rfl
theorem q1847 : (Jvm.Cond.soleField "WreckShares$Parser" "word") ∈ lw_all := lw_g (lw_at lw_m8 43 rfl) rfl
theorem q1848 : (Jvm.Cond.laysFinal "WreckShares$Parser" "WreckShares$Parser" "end" "I") ∈ lw_all := lw_g (lw_at lw_m8 44 rfl) rfl
theorem q1849 : (Jvm.Cond.soleField "WreckShares$Parser" "end") ∈ lw_all := lw_g (lw_at lw_m8 45 rfl) rfl
theorem q1850 : (Jvm.Cond.lays "WreckShares$Parser" "WreckShares$Parser" "at" "I") ∈ lw_all := lw_g (lw_at lw_m8 46 rfl) rfl
theorem q1851 : (Jvm.Cond.soleField "WreckShares$Parser" "at") ∈ lw_all := lw_g (lw_at lw_m8 47 rfl) rfl
theorem q1852 : (Jvm.Cond.lays "WreckShares$Parser" "WreckShares$Parser" "begin" "I") ∈ lw_all := lw_g (lw_at lw_m8 48 rfl) rfl
theorem q1853 : (Jvm.Cond.soleField "WreckShares$Parser" "begin") ∈ lw_all := lw_g (lw_at lw_m8 49 rfl) rfl
theorem q1854 : (Jvm.Cond.lays "WreckShares$Parser" "WreckShares$Parser" "value" "I") ∈ lw_all := lw_g (lw_at lw_m8 50 rfl) rfl
theorem q1855 : (Jvm.Cond.soleField "WreckShares$Parser" "value") ∈ lw_all := lw_g (lw_at lw_m8 51 rfl) rfl
theorem q1856 : (Jvm.Cond.lays "WreckShares$Parser" "WreckShares$Parser" "sign" "I") ∈ lw_all := lw_g (lw_at lw_m8 52 rfl) rfl
theorem q1857 : (Jvm.Cond.soleField "WreckShares$Parser" "sign") ∈ lw_all := lw_g (lw_at lw_m8 53 rfl) rfl
theorem q1858 : (Jvm.Cond.lays "WreckShares$Parser" "WreckShares$Parser" "many" "I") ∈ lw_all := lw_g (lw_at lw_m8 54 rfl) rfl
theorem q1859 : (Jvm.Cond.soleField "WreckShares$Parser" "many") ∈ lw_all := lw_g (lw_at lw_m8 55 rfl) rfl
theorem q1860 : (Jvm.Cond.lays "WreckShares$Parser" "WreckShares$Parser" "token" "LWreckShares$Token;") ∈ lw_all := lw_g (lw_at lw_m8 56 rfl) rfl
theorem q1861 : (Jvm.Cond.soleField "WreckShares$Parser" "token") ∈ lw_all := lw_g (lw_at lw_m8 57 rfl) rfl
theorem q1862 : (Jvm.Cond.laysFinal "WreckShares$Parser" "WreckShares$Parser" "this$0" "LWreckShares;") ∈ lw_all := lw_g (lw_at lw_m8 58 rfl) rfl
theorem q1863 : (Jvm.Cond.soleField "WreckShares$Parser" "this$0") ∈ lw_all := lw_g (lw_at lw_m8 59 rfl) rfl
theorem q1864 : (Jvm.Cond.superclass "WreckShares$Parser" "java/lang/Object") ∈ lw_all := lw_g (lw_at lw_m8 60 rfl) rfl
theorem q1866 : (Jvm.Cond.instanceMethod ({ cls := "WreckShares$Parser", name := "text", desc := "()LWreckShares$Shore;" } : Jvm.MethodName)) ∈ lw_all := lw_g (lw_at lw_m8 62 rfl) rfl
theorem q1867 : (Jvm.Cond.selects "WreckShares$Parser" ({ cls := "WreckShares$Parser", name := "text", desc := "()LWreckShares$Shore;" } : Jvm.MethodName) ({ cls := "WreckShares$Parser", name := "text", desc := "()LWreckShares$Shore;" } : Jvm.MethodName)) ∈ lw_all := lw_g (lw_at lw_m8 63 rfl) rfl
theorem q1868 : (Jvm.Cond.code ({ cls := "WreckShares$Parser", name := "text", desc := "()LWreckShares$Shore;" } : Jvm.MethodName) prog_11_method_12_code (7 : Nat) (Option.some (Jvm.ClassFile.FieldType.object "WreckShares$Shore"))) ∈ lw_all := lw_g (lw_at lw_m8 64 rfl) rfl
theorem q1869 : (Jvm.Cond.stringRef "WreckShares$Parser" (120 : Nat) "wreck") ∈ lw_tbl := lw_at lw_m8 65 rfl
theorem q1870 : (Jvm.Cond.methodLink "WreckShares$Parser" (122 : Nat) ({ cls := "WreckShares$Parser", name := "accept", desc := "(Ljava/lang/String;)Z" } : Jvm.MethodName)) ∈ lw_all := lw_g (lw_at lw_m8 66 rfl) rfl
theorem q1871 : (Jvm.Cond.privateMethod ({ cls := "WreckShares$Parser", name := "accept", desc := "(Ljava/lang/String;)Z" } : Jvm.MethodName)) ∈ lw_tbl := lw_at lw_m8 67 rfl
theorem q1872 : (Jvm.Cond.instanceMethod ({ cls := "WreckShares$Parser", name := "accept", desc := "(Ljava/lang/String;)Z" } : Jvm.MethodName)) ∈ lw_all := lw_g (lw_at lw_m8 68 rfl) rfl
theorem q1873 : (Jvm.Cond.code ({ cls := "WreckShares$Parser", name := "accept", desc := "(Ljava/lang/String;)Z" } : Jvm.MethodName) prog_11_method_8_code (3 : Nat) (Option.some Jvm.ClassFile.FieldType.boolean)) ∈ lw_all := lw_g (lw_at lw_m8 69 rfl) rfl
theorem q1874 : (Jvm.Cond.methodLink "WreckShares$Parser" (100 : Nat) ({ cls := "WreckShares$Parser", name := "keyword", desc := "()Ljava/lang/String;" } : Jvm.MethodName)) ∈ lw_all := lw_g (lw_at lw_m8 70 rfl) rfl
theorem q1875 : (Jvm.Cond.privateMethod ({ cls := "WreckShares$Parser", name := "keyword", desc := "()Ljava/lang/String;" } : Jvm.MethodName)) ∈ lw_tbl := lw_at lw_m8 71 rfl
theorem q1876 : (Jvm.Cond.instanceMethod ({ cls := "WreckShares$Parser", name := "keyword", desc := "()Ljava/lang/String;" } : Jvm.MethodName)) ∈ lw_all := lw_g (lw_at lw_m8 72 rfl) rfl
theorem q1877 : (Jvm.Cond.code ({ cls := "WreckShares$Parser", name := "keyword", desc := "()Ljava/lang/String;" } : Jvm.MethodName) prog_11_method_7_code (1 : Nat) (Option.some (Jvm.ClassFile.FieldType.object "java/lang/String"))) ∈ lw_all := lw_g (lw_at lw_m8 73 rfl) rfl
theorem q1878 : (Jvm.Cond.methodLink "WreckShares$Parser" (94 : Nat) ({ cls := "java/lang/StringBuilder", name := "toString", desc := "()Ljava/lang/String;" } : Jvm.MethodName)) ∈ lw_all := lw_g (lw_at lw_m8 74 rfl) rfl
theorem q1879 : (Jvm.Cond.stringRef "WreckShares$Parser" (98 : Nat) "") ∈ lw_tbl := lw_at lw_m8 75 rfl
theorem q1880 : (Jvm.Cond.methodLink "WreckShares$Parser" (103 : Nat) ({ cls := "java/lang/String", name := "equals", desc := "(Ljava/lang/Object;)Z" } : Jvm.MethodName)) ∈ lw_all := lw_g (lw_at lw_m8 76 rfl) rfl
theorem q1881 : (Jvm.Cond.methodLink "WreckShares$Parser" (109 : Nat) ({ cls := "WreckShares$Parser", name := "check", desc := "(ZI)V" } : Jvm.MethodName)) ∈ lw_all := lw_g (lw_at lw_m8 77 rfl) rfl
theorem q1882 : (Jvm.Cond.privateMethod ({ cls := "WreckShares$Parser", name := "check", desc := "(ZI)V" } : Jvm.MethodName)) ∈ lw_tbl := lw_at lw_m8 78 rfl
theorem q1883 : (Jvm.Cond.instanceMethod ({ cls := "WreckShares$Parser", name := "check", desc := "(ZI)V" } : Jvm.MethodName)) ∈ lw_all := lw_g (lw_at lw_m8 79 rfl) rfl
theorem q1884 : (Jvm.Cond.code ({ cls := "WreckShares$Parser", name := "check", desc := "(ZI)V" } : Jvm.MethodName) prog_11_method_6_code (3 : Nat) (Option.none : Option Jvm.ClassFile.FieldType)) ∈ lw_all := lw_g (lw_at lw_m8 80 rfl) rfl
theorem q1885 : (Jvm.Cond.classLink "WreckShares$Parser" (89 : Nat) "WreckShares$TextError") ∈ lw_all := lw_g (lw_at lw_m8 81 rfl) rfl
theorem q1894 : (Jvm.Cond.methodLink "WreckShares$Parser" (91 : Nat) ({ cls := "WreckShares$TextError", name := "<init>", desc := "(II)V" } : Jvm.MethodName)) ∈ lw_all := lw_g (lw_at lw_m8 90 rfl) rfl
theorem q1913 : (Jvm.Cond.methodLink "WreckShares$Parser" (117 : Nat) ({ cls := "WreckShares$Parser", name := "look", desc := "(II)I" } : Jvm.MethodName)) ∈ lw_all := lw_g (lw_at lw_m8 109 rfl) rfl
theorem q1914 : (Jvm.Cond.privateMethod ({ cls := "WreckShares$Parser", name := "look", desc := "(II)I" } : Jvm.MethodName)) ∈ lw_tbl := lw_at lw_m8 110 rfl
theorem q1915 : (Jvm.Cond.instanceMethod ({ cls := "WreckShares$Parser", name := "look", desc := "(II)I" } : Jvm.MethodName)) ∈ lw_all := lw_g (lw_at lw_m8 111 rfl) rfl
theorem q1916 : (Jvm.Cond.code ({ cls := "WreckShares$Parser", name := "look", desc := "(II)I" } : Jvm.MethodName) prog_11_method_10_code (3 : Nat) (Option.some Jvm.ClassFile.FieldType.int)) ∈ lw_all := lw_g (lw_at lw_m8 112 rfl) rfl
theorem q1917 : (Jvm.Cond.methodLinkNest "WreckShares$Parser" (113 : Nat) ({ cls := "WreckShares", name := "isIn", desc := "(III)Z" } : Jvm.MethodName) "WreckShares") ∈ lw_tbl := lw_at lw_m8 113 rfl
theorem q1918 : (Jvm.Cond.methodLink "WreckShares$Parser" (126 : Nat) ({ cls := "WreckShares$Parser", name := "number", desc := "(II)I" } : Jvm.MethodName)) ∈ lw_all := lw_g (lw_at lw_m8 114 rfl) rfl
theorem q1919 : (Jvm.Cond.privateMethod ({ cls := "WreckShares$Parser", name := "number", desc := "(II)I" } : Jvm.MethodName)) ∈ lw_tbl := lw_at lw_m8 115 rfl
theorem q1920 : (Jvm.Cond.instanceMethod ({ cls := "WreckShares$Parser", name := "number", desc := "(II)I" } : Jvm.MethodName)) ∈ lw_all := lw_g (lw_at lw_m8 116 rfl) rfl
theorem q1921 : (Jvm.Cond.code ({ cls := "WreckShares$Parser", name := "number", desc := "(II)I" } : Jvm.MethodName) prog_11_method_11_code (4 : Nat) (Option.some Jvm.ClassFile.FieldType.int)) ∈ lw_all := lw_g (lw_at lw_m8 117 rfl) rfl
theorem q1922 : (Jvm.Cond.classLink "WreckShares$Parser" (129 : Nat) "WreckShares$Shore") ∈ lw_all := lw_g (lw_at lw_m8 118 rfl) rfl
theorem q1923 : (Jvm.Cond.methodLink "WreckShares$Parser" (131 : Nat) ({ cls := "WreckShares$Shore", name := "<init>", desc := "(IIII)V" } : Jvm.MethodName)) ∈ lw_all := lw_g (lw_at lw_m8 119 rfl) rfl
theorem q1924 : (Jvm.Cond.methodLink "WreckShares$Parser" (134 : Nat) ({ cls := "WreckShares$Parser", name := "ends", desc := "()V" } : Jvm.MethodName)) ∈ lw_all := lw_g (lw_at lw_m8 120 rfl) rfl
theorem q1925 : (Jvm.Cond.privateMethod ({ cls := "WreckShares$Parser", name := "ends", desc := "()V" } : Jvm.MethodName)) ∈ lw_tbl := lw_at lw_m8 121 rfl
theorem q1926 : (Jvm.Cond.instanceMethod ({ cls := "WreckShares$Parser", name := "ends", desc := "()V" } : Jvm.MethodName)) ∈ lw_all := lw_g (lw_at lw_m8 122 rfl) rfl
theorem q1927 : (Jvm.Cond.code ({ cls := "WreckShares$Parser", name := "ends", desc := "()V" } : Jvm.MethodName) prog_11_method_9_code (1 : Nat) (Option.none : Option Jvm.ClassFile.FieldType)) ∈ lw_all := lw_g (lw_at lw_m8 123 rfl) rfl
theorem q1928 : (Jvm.Cond.methodLink "WreckShares$Parser" (137 : Nat) ({ cls := "WreckShares$Kind", name := "named", desc := "(Ljava/lang/String;)LWreckShares$Kind;" } : Jvm.MethodName)) ∈ lw_all := lw_g (lw_at lw_m8 124 rfl) rfl
theorem q1993 : (Jvm.Cond.interfaceEntry "WreckShares$Parser" (147 : Nat)) ∈ lw_tbl := lw_at lw_m8 189 rfl
theorem q1994 : (Jvm.Cond.methodLink "WreckShares$Parser" (147 : Nat) ({ cls := "java/util/List", name := "size", desc := "()I" } : Jvm.MethodName)) ∈ lw_all := lw_g (lw_at lw_m8 190 rfl) rfl
theorem q1995 : (Jvm.Cond.methodLink "WreckShares$Parser" (153 : Nat) ({ cls := "WreckShares$Parser", name := "good", desc := "(ILWreckShares$Kind;)LWreckShares$Good;" } : Jvm.MethodName)) ∈ lw_all := lw_g (lw_at lw_m8 191 rfl) rfl
theorem q1996 : (Jvm.Cond.privateMethod ({ cls := "WreckShares$Parser", name := "good", desc := "(ILWreckShares$Kind;)LWreckShares$Good;" } : Jvm.MethodName)) ∈ lw_tbl := lw_at lw_m8 192 rfl
theorem q1997 : (Jvm.Cond.instanceMethod ({ cls := "WreckShares$Parser", name := "good", desc := "(ILWreckShares$Kind;)LWreckShares$Good;" } : Jvm.MethodName)) ∈ lw_all := lw_g (lw_at lw_m8 193 rfl) rfl
theorem q1998 : (Jvm.Cond.code ({ cls := "WreckShares$Parser", name := "good", desc := "(ILWreckShares$Kind;)LWreckShares$Good;" } : Jvm.MethodName) prog_11_method_13_code (6 : Nat) (Option.some (Jvm.ClassFile.FieldType.object "WreckShares$Good"))) ∈ lw_all := lw_g (lw_at lw_m8 194 rfl) rfl
theorem q1999 : (Jvm.Cond.classLink "WreckShares$Parser" (160 : Nat) "WreckShares$Good") ∈ lw_all := lw_g (lw_at lw_m8 195 rfl) rfl
theorem q2000 : (Jvm.Cond.stringRef "WreckShares$Parser" (162 : Nat) "mark") ∈ lw_tbl := lw_at lw_m8 196 rfl
theorem q2001 : (Jvm.Cond.methodLink "WreckShares$Parser" (164 : Nat) ({ cls := "WreckShares$Good", name := "<init>", desc := "(ILWreckShares$Kind;IIII)V" } : Jvm.MethodName)) ∈ lw_all := lw_g (lw_at lw_m8 197 rfl) rfl
theorem q2002 : (Jvm.Cond.interfaceEntry "WreckShares$Parser" (157 : Nat)) ∈ lw_tbl := lw_at lw_m8 198 rfl
theorem q2003 : (Jvm.Cond.methodLink "WreckShares$Parser" (157 : Nat) ({ cls := "java/util/List", name := "add", desc := "(Ljava/lang/Object;)Z" } : Jvm.MethodName)) ∈ lw_all := lw_g (lw_at lw_m8 199 rfl) rfl
theorem q2423 : (Jvm.Cond.instanceMethod ({ cls := "WreckShares$Parser", name := "script", desc := "()[LWreckShares$Deed;" } : Jvm.MethodName)) ∈ lw_all := lw_g (lw_at lw_m10 139 rfl) rfl
theorem q2424 : (Jvm.Cond.selects "WreckShares$Parser" ({ cls := "WreckShares$Parser", name := "script", desc := "()[LWreckShares$Deed;" } : Jvm.MethodName) ({ cls := "WreckShares$Parser", name := "script", desc := "()[LWreckShares$Deed;" } : Jvm.MethodName)) ∈ lw_all := lw_g (lw_at lw_m10 140 rfl) rfl
theorem q2425 : (Jvm.Cond.code ({ cls := "WreckShares$Parser", name := "script", desc := "()[LWreckShares$Deed;" } : Jvm.MethodName) prog_11_method_14_code (3 : Nat) (Option.some (Jvm.ClassFile.FieldType.array (Jvm.ClassFile.FieldType.object "WreckShares$Deed")))) ∈ lw_all := lw_g (lw_at lw_m10 141 rfl) rfl
theorem q2426 : (Jvm.Cond.classLink "WreckShares$Parser" (167 : Nat) "WreckShares$Deed") ∈ lw_all := lw_g (lw_at lw_m10 142 rfl) rfl
theorem q2428 : (Jvm.Cond.methodLink "WreckShares$Parser" (169 : Nat) ({ cls := "WreckShares$Parser", name := "isOrder", desc := "(Ljava/lang/String;)Z" } : Jvm.MethodName)) ∈ lw_all := lw_g (lw_at lw_m10 144 rfl) rfl
theorem q2429 : (Jvm.Cond.static ({ cls := "WreckShares$Parser", name := "isOrder", desc := "(Ljava/lang/String;)Z" } : Jvm.MethodName)) ∈ lw_all := lw_g (lw_at lw_m10 145 rfl) rfl
theorem q2430 : (Jvm.Cond.code ({ cls := "WreckShares$Parser", name := "isOrder", desc := "(Ljava/lang/String;)Z" } : Jvm.MethodName) prog_11_method_15_code (3 : Nat) (Option.some Jvm.ClassFile.FieldType.boolean)) ∈ lw_all := lw_g (lw_at lw_m10 146 rfl) rfl
theorem q2431 : (Jvm.Cond.methodLink "WreckShares$Parser" (179 : Nat) ({ cls := "java/lang/String", name := "hashCode", desc := "()I" } : Jvm.MethodName)) ∈ lw_all := lw_g (lw_at lw_m10 147 rfl) rfl
theorem q2432 : (Jvm.Cond.stringRef "WreckShares$Parser" (182 : Nat) "rope") ∈ lw_tbl := lw_at lw_m10 148 rfl
theorem q2433 : (Jvm.Cond.stringRef "WreckShares$Parser" (184 : Nat) "off") ∈ lw_tbl := lw_at lw_m10 149 rfl
theorem q2434 : (Jvm.Cond.stringRef "WreckShares$Parser" (186 : Nat) "haul") ∈ lw_tbl := lw_at lw_m10 150 rfl
theorem q2435 : (Jvm.Cond.stringRef "WreckShares$Parser" (188 : Nat) "claim") ∈ lw_tbl := lw_at lw_m10 151 rfl
theorem q2436 : (Jvm.Cond.stringRef "WreckShares$Parser" (190 : Nat) "divide") ∈ lw_tbl := lw_at lw_m10 152 rfl
theorem q2437 : (Jvm.Cond.stringRef "WreckShares$Parser" (192 : Nat) "tick") ∈ lw_tbl := lw_at lw_m10 153 rfl
theorem q2438 : (Jvm.Cond.stringRef "WreckShares$Parser" (194 : Nat) "pay") ∈ lw_tbl := lw_at lw_m10 154 rfl
theorem q2439 : (Jvm.Cond.methodLink "WreckShares$Parser" (175 : Nat) ({ cls := "WreckShares$Parser", name := "order", desc := "(Ljava/lang/String;)LWreckShares$Deed;" } : Jvm.MethodName)) ∈ lw_all := lw_g (lw_at lw_m10 155 rfl) rfl
theorem q2440 : (Jvm.Cond.privateMethod ({ cls := "WreckShares$Parser", name := "order", desc := "(Ljava/lang/String;)LWreckShares$Deed;" } : Jvm.MethodName)) ∈ lw_tbl := lw_at lw_m10 156 rfl
theorem q2441 : (Jvm.Cond.instanceMethod ({ cls := "WreckShares$Parser", name := "order", desc := "(Ljava/lang/String;)LWreckShares$Deed;" } : Jvm.MethodName)) ∈ lw_all := lw_g (lw_at lw_m10 157 rfl) rfl
theorem q2442 : (Jvm.Cond.code ({ cls := "WreckShares$Parser", name := "order", desc := "(Ljava/lang/String;)LWreckShares$Deed;" } : Jvm.MethodName) prog_11_method_18_code (4 : Nat) (Option.some (Jvm.ClassFile.FieldType.object "WreckShares$Deed"))) ∈ lw_all := lw_g (lw_at lw_m10 158 rfl) rfl
theorem q2443 : (Jvm.Cond.methodLink "WreckShares$Parser" (196 : Nat) ({ cls := "WreckShares$Parser", name := "finderHere", desc := "()I" } : Jvm.MethodName)) ∈ lw_all := lw_g (lw_at lw_m10 159 rfl) rfl
theorem q2444 : (Jvm.Cond.privateMethod ({ cls := "WreckShares$Parser", name := "finderHere", desc := "()I" } : Jvm.MethodName)) ∈ lw_tbl := lw_at lw_m10 160 rfl
theorem q2445 : (Jvm.Cond.instanceMethod ({ cls := "WreckShares$Parser", name := "finderHere", desc := "()I" } : Jvm.MethodName)) ∈ lw_all := lw_g (lw_at lw_m10 161 rfl) rfl
theorem q2446 : (Jvm.Cond.code ({ cls := "WreckShares$Parser", name := "finderHere", desc := "()I" } : Jvm.MethodName) prog_11_method_16_code (1 : Nat) (Option.some Jvm.ClassFile.FieldType.int)) ∈ lw_all := lw_g (lw_at lw_m10 162 rfl) rfl
theorem q2447 : (Jvm.Cond.methodLink "WreckShares$Parser" (199 : Nat) ({ cls := "WreckShares$Parser", name := "goodHere", desc := "()I" } : Jvm.MethodName)) ∈ lw_all := lw_g (lw_at lw_m10 163 rfl) rfl
theorem q2448 : (Jvm.Cond.privateMethod ({ cls := "WreckShares$Parser", name := "goodHere", desc := "()I" } : Jvm.MethodName)) ∈ lw_tbl := lw_at lw_m10 164 rfl
theorem q2449 : (Jvm.Cond.instanceMethod ({ cls := "WreckShares$Parser", name := "goodHere", desc := "()I" } : Jvm.MethodName)) ∈ lw_all := lw_g (lw_at lw_m10 165 rfl) rfl
theorem q2450 : (Jvm.Cond.code ({ cls := "WreckShares$Parser", name := "goodHere", desc := "()I" } : Jvm.MethodName) prog_11_method_17_code (1 : Nat) (Option.some Jvm.ClassFile.FieldType.int)) ∈ lw_all := lw_g (lw_at lw_m10 166 rfl) rfl
theorem q2451 : (Jvm.Cond.methodLinkNest "WreckShares$Parser" (202 : Nat) ({ cls := "WreckShares", name := "roping", desc := "(II)LWreckShares$Deed;" } : Jvm.MethodName) "WreckShares") ∈ lw_tbl := lw_at lw_m10 167 rfl
theorem q2452 : (Jvm.Cond.methodLinkNest "WreckShares$Parser" (206 : Nat) ({ cls := "WreckShares", name := "letting", desc := "(I)LWreckShares$Deed;" } : Jvm.MethodName) "WreckShares") ∈ lw_tbl := lw_at lw_m10 168 rfl
theorem q2453 : (Jvm.Cond.methodLinkNest "WreckShares$Parser" (210 : Nat) ({ cls := "WreckShares", name := "hauling", desc := "(I)LWreckShares$Deed;" } : Jvm.MethodName) "WreckShares") ∈ lw_tbl := lw_at lw_m10 169 rfl
theorem q2454 : (Jvm.Cond.methodLinkNest "WreckShares$Parser" (213 : Nat) ({ cls := "WreckShares", name := "paying", desc := "(III)LWreckShares$Deed;" } : Jvm.MethodName) "WreckShares") ∈ lw_tbl := lw_at lw_m10 170 rfl
theorem q2455 : (Jvm.Cond.methodLinkNest "WreckShares$Parser" (217 : Nat) ({ cls := "WreckShares", name := "claiming", desc := "(I)LWreckShares$Deed;" } : Jvm.MethodName) "WreckShares") ∈ lw_tbl := lw_at lw_m10 171 rfl
theorem q2456 : (Jvm.Cond.methodLinkNest "WreckShares$Parser" (220 : Nat) ({ cls := "WreckShares", name := "dividing", desc := "(I)LWreckShares$Deed;" } : Jvm.MethodName) "WreckShares") ∈ lw_tbl := lw_at lw_m10 172 rfl
theorem q2457 : (Jvm.Cond.methodLinkNest "WreckShares$Parser" (223 : Nat) ({ cls := "WreckShares", name := "passing", desc := "(I)LWreckShares$Deed;" } : Jvm.MethodName) "WreckShares") ∈ lw_tbl := lw_at lw_m10 173 rfl
theorem q3172 : (Jvm.Cond.castable "WreckShares$Parser" "java/lang/Object") ∈ lw_tbl := lw_at lw_m13 168 rfl
theorem in_X6 : ∀ w ∈ wsX60, w ∈ lw_all := lw_in wsX60 [1846, 1848, 1850, 1852, 1854, 1856, 1858, 1860, 1862] (by decide +kernel) (by decide +kernel)

/-! WreckShares$TextError -/
def RX7 : String := "WreckShares$TextError"
def TX7 : u_T := fun k => match k with
  | 0 => ("java/lang/Throwable", "cause", "Ljava/lang/Throwable;", false)
  | 1 => ("java/lang/Throwable", "stackTrace", "[Ljava/lang/StackTraceElement;", false)
  | 2 => ("java/lang/Throwable", "suppressedExceptions", "Ljava/util/List;", false)
  | 3 => ("java/lang/Throwable", "detailMessage", "Ljava/lang/String;", false)
  | 4 => ("java/lang/Throwable", "backtrace", "Ljava/lang/Object;", false)
  | 5 => ("java/lang/Throwable", "depth", "I", false)
  | 6 => ("WreckShares$TextError", "code", "I", true)
  | _ => ("WreckShares$TextError", "position", "I", true)
def tyX7 : Nat → FieldType := fun k => match k with
  | 0 => .object "java/lang/Throwable"
  | 1 => .array (.object "java/lang/StackTraceElement")
  | 2 => .object "java/util/List"
  | 3 => .object "java/lang/String"
  | 4 => .object "java/lang/Object"
  | 5 => .int
  | 6 => .int
  | _ => .int
abbrev wsX70 : List Cond := u_ws RX7 TX7 8
theorem nmX7 : ∀ a, a < 8 → ∀ b, b < 8 → a ≠ b → (TX7 a).2.1 ≠ (TX7 b).2.1 := by decide +kernel
theorem tyX7_ok : ∀ k, k < 8 → parseFieldDescriptor (TX7 k).2.2.1 = some (tyX7 k) := by decide +kernel
abbrev cX7_init : ByteArray := prog_15_method_1_code
def yX7_init : MethodName := ⟨RX7, "<init>", "(II)V"⟩
def dkwX7_init_0 : List UInt8 := [42, 1, 1, 3, 3, 183, 0, 1, 42, 27, 181, 0, 7, 42, 28, 181, 0, 13, 177]
abbrev dktX7_init_0 : List UInt8 := dkwX7_init_0 ++ []
theorem dksX7_init_0 : cX7_init.data.toList.drop 0 = dktX7_init_0 := by decide +kernel
theorem dX7_init_0 : decode cX7_init 0 = .ok (.aload_n 0, 1) := dk_42 (dk_at dksX7_init_0 0 rfl rfl)
theorem dX7_init_1 : decode cX7_init 1 = .ok (.aconst_null, 1) := dk_1 (dk_at dksX7_init_0 1 rfl rfl)
theorem dX7_init_2 : decode cX7_init 2 = .ok (.aconst_null, 1) := dk_1 (dk_at dksX7_init_0 2 rfl rfl)
theorem dX7_init_3 : decode cX7_init 3 = .ok (.iconst 0, 1) := dk_3 (dk_at dksX7_init_0 3 rfl rfl)
theorem dX7_init_4 : decode cX7_init 4 = .ok (.iconst 0, 1) := dk_3 (dk_at dksX7_init_0 4 rfl rfl)
theorem dX7_init_5 : decode cX7_init 5 = .ok (.invokespecial 1, 3) := dk_183 0 1 (dk_at dksX7_init_0 5 rfl rfl)
theorem dX7_init_8 : decode cX7_init 8 = .ok (.aload_n 0, 1) := dk_42 (dk_at dksX7_init_0 8 rfl rfl)
theorem dX7_init_9 : decode cX7_init 9 = .ok (.iload_n 1, 1) := dk_27 (dk_at dksX7_init_0 9 rfl rfl)
theorem dX7_init_10 : decode cX7_init 10 = .ok (.putfield 7, 3) := dk_181 0 7 (dk_at dksX7_init_0 10 rfl rfl)
theorem dX7_init_13 : decode cX7_init 13 = .ok (.aload_n 0, 1) := dk_42 (dk_at dksX7_init_0 13 rfl rfl)
theorem dX7_init_14 : decode cX7_init 14 = .ok (.iload_n 2, 1) := dk_28 (dk_at dksX7_init_0 14 rfl rfl)
theorem dX7_init_15 : decode cX7_init 15 = .ok (.putfield 13, 3) := dk_181 0 13 (dk_at dksX7_init_0 15 rfl rfl)
theorem dX7_init_18 : decode cX7_init 18 = .ok (.return_, 1) := dk_177 (dk_at dksX7_init_0 18 rfl rfl)
theorem q156 : (Jvm.Cond.initialized "WreckShares$TextError") ∈ lw_all := lw_g (lw_at lw_m1 32 rfl) rfl
theorem q242 : (Jvm.Cond.selects "WreckShares$TextError" ({ cls := "java/lang/Throwable", name := "fillInStackTrace", desc := "()Ljava/lang/Throwable;" } : Jvm.MethodName) ({ cls := "java/lang/Throwable", name := "fillInStackTrace", desc := "()Ljava/lang/Throwable;" } : Jvm.MethodName)) ∈ lw_all := lw_g (lw_at lw_m1 118 rfl) rfl
theorem q724 : (Jvm.Cond.selects "WreckShares$TextError" ({ cls := "java/lang/Object", name := "getClass", desc := "()Ljava/lang/Class;" } : Jvm.MethodName) ({ cls := "java/lang/Object", name := "getClass", desc := "()Ljava/lang/Class;" } : Jvm.MethodName)) ∈ lw_all := lw_g (lw_at lw_m3 120 rfl) rfl
theorem q1128 : (Jvm.Cond.selects "WreckShares$TextError" ({ cls := "java/lang/Throwable", name := "toString", desc := "()Ljava/lang/String;" } : Jvm.MethodName) ({ cls := "java/lang/Throwable", name := "toString", desc := "()Ljava/lang/String;" } : Jvm.MethodName)) ∈ lw_all := lw_g (lw_at lw_m5 44 rfl) rfl
theorem q1136 : (Jvm.Cond.selects "WreckShares$TextError" ({ cls := "java/lang/Throwable", name := "getLocalizedMessage", desc := "()Ljava/lang/String;" } : Jvm.MethodName) ({ cls := "java/lang/Throwable", name := "getLocalizedMessage", desc := "()Ljava/lang/String;" } : Jvm.MethodName)) ∈ lw_all := lw_g (lw_at lw_m5 52 rfl) rfl
theorem q1143 : (Jvm.Cond.selects "WreckShares$TextError" ({ cls := "java/lang/Throwable", name := "getMessage", desc := "()Ljava/lang/String;" } : Jvm.MethodName) ({ cls := "java/lang/Throwable", name := "getMessage", desc := "()Ljava/lang/String;" } : Jvm.MethodName)) ∈ lw_all := lw_g (lw_at lw_m5 59 rfl) rfl
theorem q1379 : (Jvm.Cond.selects "WreckShares$TextError" ({ cls := "java/lang/Object", name := "equals", desc := "(Ljava/lang/Object;)Z" } : Jvm.MethodName) ({ cls := "java/lang/Object", name := "equals", desc := "(Ljava/lang/Object;)Z" } : Jvm.MethodName)) ∈ lw_all := lw_g (lw_at lw_m6 55 rfl) rfl
theorem q1886 : (Jvm.Cond.instantiable "WreckShares$TextError" (8 : Nat)) ∈ lw_all := lw_g (lw_at lw_m8 82 rfl) rfl
theorem q1887 : (Jvm.Cond.castable "WreckShares$TextError" "WreckShares$TextError") ∈ lw_tbl := lw_at lw_m8 83 rfl
theorem q1888 : (Jvm.Cond.selects "WreckShares$TextError" ({ cls := "java/lang/Throwable", name := "fillInStackTrace", desc := "(I)Ljava/lang/Throwable;" } : Jvm.MethodName) ({ cls := "java/lang/Throwable", name := "fillInStackTrace", desc := "(I)Ljava/lang/Throwable;" } : Jvm.MethodName)) ∈ lw_all := lw_g (lw_at lw_m8 84 rfl) rfl
theorem q1889 : (Jvm.Cond.lays "WreckShares$TextError" "java/lang/Throwable" "cause" "Ljava/lang/Throwable;") ∈ lw_all := lw_g (lw_at lw_m8 85 rfl) rfl
theorem q1890 : (Jvm.Cond.lays "WreckShares$TextError" "java/lang/Throwable" "stackTrace" "[Ljava/lang/StackTraceElement;") ∈ lw_all := lw_g (lw_at lw_m8 86 rfl) rfl
theorem q1891 : (Jvm.Cond.lays "WreckShares$TextError" "java/lang/Throwable" "suppressedExceptions" "Ljava/util/List;") ∈ lw_all := lw_g (lw_at lw_m8 87 rfl) rfl
theorem q1892 : (Jvm.Cond.lays "WreckShares$TextError" "java/lang/Throwable" "detailMessage" "Ljava/lang/String;") ∈ lw_all := lw_g (lw_at lw_m8 88 rfl) rfl
theorem q1893 : (Jvm.Cond.lays "WreckShares$TextError" "java/lang/Throwable" "backtrace" "Ljava/lang/Object;") ∈ lw_all := lw_g (lw_at lw_m8 89 rfl) rfl
theorem q1895 : (Jvm.Cond.instanceMethod ({ cls := "WreckShares$TextError", name := "<init>", desc := "(II)V" } : Jvm.MethodName)) ∈ lw_all := lw_g (lw_at lw_m8 91 rfl) rfl
theorem q1896 : (Jvm.Cond.code ({ cls := "WreckShares$TextError", name := "<init>", desc := "(II)V" } : Jvm.MethodName) prog_15_method_1_code (3 : Nat) (Option.none : Option Jvm.ClassFile.FieldType)) ∈ lw_all := lw_g (lw_at lw_m8 92 rfl) rfl
theorem q1897 : (Jvm.Cond.methodLink "WreckShares$TextError" (1 : Nat) ({ cls := "java/lang/Exception", name := "<init>", desc := "(Ljava/lang/String;Ljava/lang/Throwable;ZZ)V" } : Jvm.MethodName)) ∈ lw_all := lw_g (lw_at lw_m8 93 rfl) rfl
theorem q1903 : (Jvm.Cond.fieldLink "WreckShares$TextError" (7 : Nat) "WreckShares$TextError" "code" "I") ∈ lw_all := lw_g (lw_at lw_m8 99 rfl) rfl
theorem q1905 : (Jvm.Cond.fieldLink "WreckShares$TextError" (13 : Nat) "WreckShares$TextError" "position" "I") ∈ lw_all := lw_g (lw_at lw_m8 101 rfl) rfl
theorem q1907 : (Jvm.Cond.laysFinal "WreckShares$TextError" "WreckShares$TextError" "code" "I") ∈ lw_all := lw_g (lw_at lw_m8 103 rfl) rfl
theorem q1908 : (Jvm.Cond.soleField "WreckShares$TextError" "code") ∈ lw_all := lw_g (lw_at lw_m8 104 rfl) rfl
theorem q1909 : (Jvm.Cond.laysFinal "WreckShares$TextError" "WreckShares$TextError" "position" "I") ∈ lw_all := lw_g (lw_at lw_m8 105 rfl) rfl
theorem q1910 : (Jvm.Cond.soleField "WreckShares$TextError" "position") ∈ lw_all := lw_g (lw_at lw_m8 106 rfl) rfl
theorem q1911 : (Jvm.Cond.lays "WreckShares$TextError" "java/lang/Throwable" "depth" "I") ∈ lw_all := lw_g (lw_at lw_m8 107 rfl) rfl
theorem q1912 : (Jvm.Cond.superclass "WreckShares$TextError" "java/lang/Exception") ∈ lw_all := lw_g (lw_at lw_m8 108 rfl) rfl
theorem q3174 : (Jvm.Cond.castable "WreckShares$TextError" "java/lang/Object") ∈ lw_tbl := lw_at lw_m13 170 rfl
theorem in_X7 : ∀ w ∈ wsX70, w ∈ lw_all := lw_in wsX70 [1889, 1890, 1891, 1892, 1893, 1911, 1907, 1909] (by decide +kernel) (by decide +kernel)

/-! WreckShares$ToCrown -/
def RX8 : String := "WreckShares$ToCrown"
def TX8 : u_T := fun k => match k with
  | _ => ("WreckShares$ToCrown", "amount", "I", true)
def tyX8 : Nat → FieldType := fun k => match k with
  | _ => .int
abbrev wsX80 : List Cond := u_ws RX8 TX8 1
theorem nmX8 : ∀ a, a < 1 → ∀ b, b < 1 → a ≠ b → (TX8 a).2.1 ≠ (TX8 b).2.1 := by decide +kernel
theorem tyX8_ok : ∀ k, k < 1 → parseFieldDescriptor (TX8 k).2.2.1 = some (tyX8 k) := by decide +kernel
abbrev cX8_init : ByteArray := prog_16_method_1_code
def yX8_init : MethodName := ⟨RX8, "<init>", "(I)V"⟩
def dkwX8_init_0 : List UInt8 := [42, 183, 0, 1, 42, 27, 181, 0, 7, 177]
abbrev dktX8_init_0 : List UInt8 := dkwX8_init_0 ++ []
theorem dksX8_init_0 : cX8_init.data.toList.drop 0 = dktX8_init_0 := by decide +kernel
theorem dX8_init_0 : decode cX8_init 0 = .ok (.aload_n 0, 1) := dk_42 (dk_at dksX8_init_0 0 rfl rfl)
theorem dX8_init_1 : decode cX8_init 1 = .ok (.invokespecial 1, 3) := dk_183 0 1 (dk_at dksX8_init_0 1 rfl rfl)
theorem dX8_init_4 : decode cX8_init 4 = .ok (.aload_n 0, 1) := dk_42 (dk_at dksX8_init_0 4 rfl rfl)
theorem dX8_init_5 : decode cX8_init 5 = .ok (.iload_n 1, 1) := dk_27 (dk_at dksX8_init_0 5 rfl rfl)
theorem dX8_init_6 : decode cX8_init 6 = .ok (.putfield 7, 3) := dk_181 0 7 (dk_at dksX8_init_0 6 rfl rfl)
theorem dX8_init_9 : decode cX8_init 9 = .ok (.return_, 1) := dk_177 (dk_at dksX8_init_0 9 rfl rfl)
abbrev cX8_amount : ByteArray := prog_16_method_5_code
def yX8_amount : MethodName := ⟨RX8, "amount", "()I"⟩
theorem dX8_amount_0 : decode cX8_amount 0 = .ok (.aload_n 0, 1) := by decide +kernel
theorem dX8_amount_1 : decode cX8_amount 1 = .ok (.getfield 7, 3) := by decide +kernel
theorem dX8_amount_4 : decode cX8_amount 4 = .ok (.ireturn, 1) := by decide +kernel
theorem q168 : (Jvm.Cond.initialized "WreckShares$ToCrown") ∈ lw_all := lw_g (lw_at lw_m1 44 rfl) rfl
theorem q725 : (Jvm.Cond.selects "WreckShares$ToCrown" ({ cls := "java/lang/Object", name := "getClass", desc := "()Ljava/lang/Class;" } : Jvm.MethodName) ({ cls := "java/lang/Object", name := "getClass", desc := "()Ljava/lang/Class;" } : Jvm.MethodName)) ∈ lw_all := lw_g (lw_at lw_m3 121 rfl) rfl
theorem q1380 : (Jvm.Cond.selects "WreckShares$ToCrown" ({ cls := "java/lang/Object", name := "equals", desc := "(Ljava/lang/Object;)Z" } : Jvm.MethodName) ({ cls := "WreckShares$ToCrown", name := "equals", desc := "(Ljava/lang/Object;)Z" } : Jvm.MethodName)) ∈ lw_all := lw_g (lw_at lw_m6 56 rfl) rfl
theorem q1381 : (Jvm.Cond.instanceMethod ({ cls := "WreckShares$ToCrown", name := "equals", desc := "(Ljava/lang/Object;)Z" } : Jvm.MethodName)) ∈ lw_all := lw_g (lw_at lw_m6 57 rfl) rfl
theorem q1382 : (Jvm.Cond.code ({ cls := "WreckShares$ToCrown", name := "equals", desc := "(Ljava/lang/Object;)Z" } : Jvm.MethodName) prog_16_method_4_code (2 : Nat) (Option.some Jvm.ClassFile.FieldType.boolean)) ∈ lw_all := lw_g (lw_at lw_m6 58 rfl) rfl
theorem q1567 : (Jvm.Cond.instantiable "WreckShares$ToCrown" (1 : Nat)) ∈ lw_all := lw_g (lw_at lw_m7 3 rfl) rfl
theorem q1592 : (Jvm.Cond.instanceMethod ({ cls := "WreckShares$ToCrown", name := "<init>", desc := "(I)V" } : Jvm.MethodName)) ∈ lw_all := lw_g (lw_at lw_m7 28 rfl) rfl
theorem q1593 : (Jvm.Cond.code ({ cls := "WreckShares$ToCrown", name := "<init>", desc := "(I)V" } : Jvm.MethodName) prog_16_method_1_code (2 : Nat) (Option.none : Option Jvm.ClassFile.FieldType)) ∈ lw_all := lw_g (lw_at lw_m7 29 rfl) rfl
theorem q1594 : (Jvm.Cond.methodLink "WreckShares$ToCrown" (1 : Nat) ({ cls := "java/lang/Record", name := "<init>", desc := "()V" } : Jvm.MethodName)) ∈ lw_all := lw_g (lw_at lw_m7 30 rfl) rfl
theorem q1598 : (Jvm.Cond.fieldLink "WreckShares$ToCrown" (7 : Nat) "WreckShares$ToCrown" "amount" "I") ∈ lw_all := lw_g (lw_at lw_m7 34 rfl) rfl
theorem q1599 : (Jvm.Cond.laysFinal "WreckShares$ToCrown" "WreckShares$ToCrown" "amount" "I") ∈ lw_all := lw_g (lw_at lw_m7 35 rfl) rfl
theorem q1600 : (Jvm.Cond.soleField "WreckShares$ToCrown" "amount") ∈ lw_all := lw_g (lw_at lw_m7 36 rfl) rfl
theorem q1601 : (Jvm.Cond.superclass "WreckShares$ToCrown" "java/lang/Record") ∈ lw_all := lw_g (lw_at lw_m7 37 rfl) rfl
theorem q1665 : (Jvm.Cond.instanceMethod ({ cls := "WreckShares$ToCrown", name := "amount", desc := "()I" } : Jvm.MethodName)) ∈ lw_all := lw_g (lw_at lw_m7 101 rfl) rfl
theorem q1666 : (Jvm.Cond.selects "WreckShares$ToCrown" ({ cls := "WreckShares$ToCrown", name := "amount", desc := "()I" } : Jvm.MethodName) ({ cls := "WreckShares$ToCrown", name := "amount", desc := "()I" } : Jvm.MethodName)) ∈ lw_all := lw_g (lw_at lw_m7 102 rfl) rfl
theorem q1667 : (Jvm.Cond.code ({ cls := "WreckShares$ToCrown", name := "amount", desc := "()I" } : Jvm.MethodName) prog_16_method_5_code (1 : Nat) (Option.some Jvm.ClassFile.FieldType.int)) ∈ lw_all := lw_g (lw_at lw_m7 103 rfl) rfl
theorem q2153 : (Jvm.Cond.castable "WreckShares$ToCrown" "WreckShares$Part") ∈ lw_tbl := lw_at lw_m9 109 rfl
theorem q2154 : (Jvm.Cond.selects "WreckShares$ToCrown" ({ cls := "WreckShares$Part", name := "amount", desc := "()I" } : Jvm.MethodName) ({ cls := "WreckShares$ToCrown", name := "amount", desc := "()I" } : Jvm.MethodName)) ∈ lw_all := lw_g (lw_at lw_m9 110 rfl) rfl
theorem q2155 : (Jvm.Cond.unhidden "WreckShares$ToCrown" "amount" "()I") ∈ lw_tbl := lw_at lw_m9 111 rfl
theorem q2156 : (Jvm.Cond.publicMethod ({ cls := "WreckShares$ToCrown", name := "amount", desc := "()I" } : Jvm.MethodName)) ∈ lw_tbl := lw_at lw_m9 112 rfl
theorem q3182 : (Jvm.Cond.castable "WreckShares$ToCrown" "java/lang/Object") ∈ lw_tbl := lw_at lw_m13 178 rfl
theorem in_X8 : ∀ w ∈ wsX80, w ∈ lw_all := lw_in wsX80 [1599] (by decide +kernel) (by decide +kernel)

/-! WreckShares$ToOwner -/
def RX9 : String := "WreckShares$ToOwner"
def TX9 : u_T := fun k => match k with
  | 0 => ("WreckShares$ToOwner", "owner", "I", true)
  | _ => ("WreckShares$ToOwner", "amount", "I", true)
def tyX9 : Nat → FieldType := fun k => match k with
  | 0 => .int
  | _ => .int
abbrev wsX90 : List Cond := u_ws RX9 TX9 2
theorem nmX9 : ∀ a, a < 2 → ∀ b, b < 2 → a ≠ b → (TX9 a).2.1 ≠ (TX9 b).2.1 := by decide +kernel
theorem tyX9_ok : ∀ k, k < 2 → parseFieldDescriptor (TX9 k).2.2.1 = some (tyX9 k) := by decide +kernel
abbrev cX9_init : ByteArray := prog_18_method_1_code
def yX9_init : MethodName := ⟨RX9, "<init>", "(II)V"⟩
def dkwX9_init_0 : List UInt8 := [42, 183, 0, 1, 42, 27, 181, 0, 7, 42, 28, 181, 0, 13, 177]
abbrev dktX9_init_0 : List UInt8 := dkwX9_init_0 ++ []
theorem dksX9_init_0 : cX9_init.data.toList.drop 0 = dktX9_init_0 := by decide +kernel
theorem dX9_init_0 : decode cX9_init 0 = .ok (.aload_n 0, 1) := dk_42 (dk_at dksX9_init_0 0 rfl rfl)
theorem dX9_init_1 : decode cX9_init 1 = .ok (.invokespecial 1, 3) := dk_183 0 1 (dk_at dksX9_init_0 1 rfl rfl)
theorem dX9_init_4 : decode cX9_init 4 = .ok (.aload_n 0, 1) := dk_42 (dk_at dksX9_init_0 4 rfl rfl)
theorem dX9_init_5 : decode cX9_init 5 = .ok (.iload_n 1, 1) := dk_27 (dk_at dksX9_init_0 5 rfl rfl)
theorem dX9_init_6 : decode cX9_init 6 = .ok (.putfield 7, 3) := dk_181 0 7 (dk_at dksX9_init_0 6 rfl rfl)
theorem dX9_init_9 : decode cX9_init 9 = .ok (.aload_n 0, 1) := dk_42 (dk_at dksX9_init_0 9 rfl rfl)
theorem dX9_init_10 : decode cX9_init 10 = .ok (.iload_n 2, 1) := dk_28 (dk_at dksX9_init_0 10 rfl rfl)
theorem dX9_init_11 : decode cX9_init 11 = .ok (.putfield 13, 3) := dk_181 0 13 (dk_at dksX9_init_0 11 rfl rfl)
theorem dX9_init_14 : decode cX9_init 14 = .ok (.return_, 1) := dk_177 (dk_at dksX9_init_0 14 rfl rfl)
abbrev cX9_owner : ByteArray := prog_18_method_5_code
def yX9_owner : MethodName := ⟨RX9, "owner", "()I"⟩
theorem dX9_owner_0 : decode cX9_owner 0 = .ok (.aload_n 0, 1) := by decide +kernel
theorem dX9_owner_1 : decode cX9_owner 1 = .ok (.getfield 7, 3) := by decide +kernel
theorem dX9_owner_4 : decode cX9_owner 4 = .ok (.ireturn, 1) := by decide +kernel
abbrev cX9_amount : ByteArray := prog_18_method_6_code
def yX9_amount : MethodName := ⟨RX9, "amount", "()I"⟩
theorem dX9_amount_0 : decode cX9_amount 0 = .ok (.aload_n 0, 1) := by decide +kernel
theorem dX9_amount_1 : decode cX9_amount 1 = .ok (.getfield 13, 3) := by decide +kernel
theorem dX9_amount_4 : decode cX9_amount 4 = .ok (.ireturn, 1) := by decide +kernel
theorem q169 : (Jvm.Cond.initialized "WreckShares$ToOwner") ∈ lw_all := lw_g (lw_at lw_m1 45 rfl) rfl
theorem q727 : (Jvm.Cond.selects "WreckShares$ToOwner" ({ cls := "java/lang/Object", name := "getClass", desc := "()Ljava/lang/Class;" } : Jvm.MethodName) ({ cls := "java/lang/Object", name := "getClass", desc := "()Ljava/lang/Class;" } : Jvm.MethodName)) ∈ lw_all := lw_g (lw_at lw_m3 123 rfl) rfl
theorem q1386 : (Jvm.Cond.selects "WreckShares$ToOwner" ({ cls := "java/lang/Object", name := "equals", desc := "(Ljava/lang/Object;)Z" } : Jvm.MethodName) ({ cls := "WreckShares$ToOwner", name := "equals", desc := "(Ljava/lang/Object;)Z" } : Jvm.MethodName)) ∈ lw_all := lw_g (lw_at lw_m6 62 rfl) rfl
theorem q1387 : (Jvm.Cond.instanceMethod ({ cls := "WreckShares$ToOwner", name := "equals", desc := "(Ljava/lang/Object;)Z" } : Jvm.MethodName)) ∈ lw_all := lw_g (lw_at lw_m6 63 rfl) rfl
theorem q1388 : (Jvm.Cond.code ({ cls := "WreckShares$ToOwner", name := "equals", desc := "(Ljava/lang/Object;)Z" } : Jvm.MethodName) prog_18_method_4_code (2 : Nat) (Option.some Jvm.ClassFile.FieldType.boolean)) ∈ lw_all := lw_g (lw_at lw_m6 64 rfl) rfl
theorem q1605 : (Jvm.Cond.instantiable "WreckShares$ToOwner" (2 : Nat)) ∈ lw_all := lw_g (lw_at lw_m7 41 rfl) rfl
theorem q1611 : (Jvm.Cond.instanceMethod ({ cls := "WreckShares$ToOwner", name := "<init>", desc := "(II)V" } : Jvm.MethodName)) ∈ lw_all := lw_g (lw_at lw_m7 47 rfl) rfl
theorem q1612 : (Jvm.Cond.code ({ cls := "WreckShares$ToOwner", name := "<init>", desc := "(II)V" } : Jvm.MethodName) prog_18_method_1_code (3 : Nat) (Option.none : Option Jvm.ClassFile.FieldType)) ∈ lw_all := lw_g (lw_at lw_m7 48 rfl) rfl
theorem q1613 : (Jvm.Cond.methodLink "WreckShares$ToOwner" (1 : Nat) ({ cls := "java/lang/Record", name := "<init>", desc := "()V" } : Jvm.MethodName)) ∈ lw_all := lw_g (lw_at lw_m7 49 rfl) rfl
theorem q1614 : (Jvm.Cond.fieldLink "WreckShares$ToOwner" (7 : Nat) "WreckShares$ToOwner" "owner" "I") ∈ lw_all := lw_g (lw_at lw_m7 50 rfl) rfl
theorem q1615 : (Jvm.Cond.fieldLink "WreckShares$ToOwner" (13 : Nat) "WreckShares$ToOwner" "amount" "I") ∈ lw_all := lw_g (lw_at lw_m7 51 rfl) rfl
theorem q1616 : (Jvm.Cond.laysFinal "WreckShares$ToOwner" "WreckShares$ToOwner" "owner" "I") ∈ lw_all := lw_g (lw_at lw_m7 52 rfl) rfl
theorem q1617 : (Jvm.Cond.soleField "WreckShares$ToOwner" "owner") ∈ lw_all := lw_g (lw_at lw_m7 53 rfl) rfl
theorem q1618 : (Jvm.Cond.laysFinal "WreckShares$ToOwner" "WreckShares$ToOwner" "amount" "I") ∈ lw_all := lw_g (lw_at lw_m7 54 rfl) rfl
theorem q1619 : (Jvm.Cond.soleField "WreckShares$ToOwner" "amount") ∈ lw_all := lw_g (lw_at lw_m7 55 rfl) rfl
theorem q1620 : (Jvm.Cond.superclass "WreckShares$ToOwner" "java/lang/Record") ∈ lw_all := lw_g (lw_at lw_m7 56 rfl) rfl
theorem q1656 : (Jvm.Cond.instanceMethod ({ cls := "WreckShares$ToOwner", name := "owner", desc := "()I" } : Jvm.MethodName)) ∈ lw_all := lw_g (lw_at lw_m7 92 rfl) rfl
theorem q1657 : (Jvm.Cond.selects "WreckShares$ToOwner" ({ cls := "WreckShares$ToOwner", name := "owner", desc := "()I" } : Jvm.MethodName) ({ cls := "WreckShares$ToOwner", name := "owner", desc := "()I" } : Jvm.MethodName)) ∈ lw_all := lw_g (lw_at lw_m7 93 rfl) rfl
theorem q1658 : (Jvm.Cond.code ({ cls := "WreckShares$ToOwner", name := "owner", desc := "()I" } : Jvm.MethodName) prog_18_method_5_code (1 : Nat) (Option.some Jvm.ClassFile.FieldType.int)) ∈ lw_all := lw_g (lw_at lw_m7 94 rfl) rfl
theorem q1660 : (Jvm.Cond.instanceMethod ({ cls := "WreckShares$ToOwner", name := "amount", desc := "()I" } : Jvm.MethodName)) ∈ lw_all := lw_g (lw_at lw_m7 96 rfl) rfl
theorem q1661 : (Jvm.Cond.selects "WreckShares$ToOwner" ({ cls := "WreckShares$ToOwner", name := "amount", desc := "()I" } : Jvm.MethodName) ({ cls := "WreckShares$ToOwner", name := "amount", desc := "()I" } : Jvm.MethodName)) ∈ lw_all := lw_g (lw_at lw_m7 97 rfl) rfl
theorem q1662 : (Jvm.Cond.code ({ cls := "WreckShares$ToOwner", name := "amount", desc := "()I" } : Jvm.MethodName) prog_18_method_6_code (1 : Nat) (Option.some Jvm.ClassFile.FieldType.int)) ∈ lw_all := lw_g (lw_at lw_m7 98 rfl) rfl
theorem q2161 : (Jvm.Cond.castable "WreckShares$ToOwner" "WreckShares$Part") ∈ lw_tbl := lw_at lw_m9 117 rfl
theorem q2162 : (Jvm.Cond.selects "WreckShares$ToOwner" ({ cls := "WreckShares$Part", name := "amount", desc := "()I" } : Jvm.MethodName) ({ cls := "WreckShares$ToOwner", name := "amount", desc := "()I" } : Jvm.MethodName)) ∈ lw_all := lw_g (lw_at lw_m9 118 rfl) rfl
theorem q2163 : (Jvm.Cond.unhidden "WreckShares$ToOwner" "amount" "()I") ∈ lw_tbl := lw_at lw_m9 119 rfl
theorem q2164 : (Jvm.Cond.publicMethod ({ cls := "WreckShares$ToOwner", name := "amount", desc := "()I" } : Jvm.MethodName)) ∈ lw_tbl := lw_at lw_m9 120 rfl
theorem q3183 : (Jvm.Cond.castable "WreckShares$ToOwner" "java/lang/Object") ∈ lw_tbl := lw_at lw_m13 179 rfl
theorem in_X9 : ∀ w ∈ wsX90, w ∈ lw_all := lw_in wsX90 [1616, 1618] (by decide +kernel) (by decide +kernel)

/-! WreckShares$ToFinder -/
def RX10 : String := "WreckShares$ToFinder"
def TX10 : u_T := fun k => match k with
  | 0 => ("WreckShares$ToFinder", "finder", "I", true)
  | _ => ("WreckShares$ToFinder", "amount", "I", true)
def tyX10 : Nat → FieldType := fun k => match k with
  | 0 => .int
  | _ => .int
abbrev wsX100 : List Cond := u_ws RX10 TX10 2
theorem nmX10 : ∀ a, a < 2 → ∀ b, b < 2 → a ≠ b → (TX10 a).2.1 ≠ (TX10 b).2.1 := by decide +kernel
theorem tyX10_ok : ∀ k, k < 2 → parseFieldDescriptor (TX10 k).2.2.1 = some (tyX10 k) := by decide +kernel
abbrev cX10_init : ByteArray := prog_17_method_1_code
def yX10_init : MethodName := ⟨RX10, "<init>", "(II)V"⟩
def dkwX10_init_0 : List UInt8 := [42, 183, 0, 1, 42, 27, 181, 0, 7, 42, 28, 181, 0, 13, 177]
abbrev dktX10_init_0 : List UInt8 := dkwX10_init_0 ++ []
theorem dksX10_init_0 : cX10_init.data.toList.drop 0 = dktX10_init_0 := by decide +kernel
theorem dX10_init_0 : decode cX10_init 0 = .ok (.aload_n 0, 1) := dk_42 (dk_at dksX10_init_0 0 rfl rfl)
theorem dX10_init_1 : decode cX10_init 1 = .ok (.invokespecial 1, 3) := dk_183 0 1 (dk_at dksX10_init_0 1 rfl rfl)
theorem dX10_init_4 : decode cX10_init 4 = .ok (.aload_n 0, 1) := dk_42 (dk_at dksX10_init_0 4 rfl rfl)
theorem dX10_init_5 : decode cX10_init 5 = .ok (.iload_n 1, 1) := dk_27 (dk_at dksX10_init_0 5 rfl rfl)
theorem dX10_init_6 : decode cX10_init 6 = .ok (.putfield 7, 3) := dk_181 0 7 (dk_at dksX10_init_0 6 rfl rfl)
theorem dX10_init_9 : decode cX10_init 9 = .ok (.aload_n 0, 1) := dk_42 (dk_at dksX10_init_0 9 rfl rfl)
theorem dX10_init_10 : decode cX10_init 10 = .ok (.iload_n 2, 1) := dk_28 (dk_at dksX10_init_0 10 rfl rfl)
theorem dX10_init_11 : decode cX10_init 11 = .ok (.putfield 13, 3) := dk_181 0 13 (dk_at dksX10_init_0 11 rfl rfl)
theorem dX10_init_14 : decode cX10_init 14 = .ok (.return_, 1) := dk_177 (dk_at dksX10_init_0 14 rfl rfl)
abbrev cX10_finder : ByteArray := prog_17_method_5_code
def yX10_finder : MethodName := ⟨RX10, "finder", "()I"⟩
theorem dX10_finder_0 : decode cX10_finder 0 = .ok (.aload_n 0, 1) := by decide +kernel
theorem dX10_finder_1 : decode cX10_finder 1 = .ok (.getfield 7, 3) := by decide +kernel
theorem dX10_finder_4 : decode cX10_finder 4 = .ok (.ireturn, 1) := by decide +kernel
abbrev cX10_amount : ByteArray := prog_17_method_6_code
def yX10_amount : MethodName := ⟨RX10, "amount", "()I"⟩
theorem dX10_amount_0 : decode cX10_amount 0 = .ok (.aload_n 0, 1) := by decide +kernel
theorem dX10_amount_1 : decode cX10_amount 1 = .ok (.getfield 13, 3) := by decide +kernel
theorem dX10_amount_4 : decode cX10_amount 4 = .ok (.ireturn, 1) := by decide +kernel
theorem q170 : (Jvm.Cond.initialized "WreckShares$ToFinder") ∈ lw_all := lw_g (lw_at lw_m1 46 rfl) rfl
theorem q726 : (Jvm.Cond.selects "WreckShares$ToFinder" ({ cls := "java/lang/Object", name := "getClass", desc := "()Ljava/lang/Class;" } : Jvm.MethodName) ({ cls := "java/lang/Object", name := "getClass", desc := "()Ljava/lang/Class;" } : Jvm.MethodName)) ∈ lw_all := lw_g (lw_at lw_m3 122 rfl) rfl
theorem q1383 : (Jvm.Cond.selects "WreckShares$ToFinder" ({ cls := "java/lang/Object", name := "equals", desc := "(Ljava/lang/Object;)Z" } : Jvm.MethodName) ({ cls := "WreckShares$ToFinder", name := "equals", desc := "(Ljava/lang/Object;)Z" } : Jvm.MethodName)) ∈ lw_all := lw_g (lw_at lw_m6 59 rfl) rfl
theorem q1384 : (Jvm.Cond.instanceMethod ({ cls := "WreckShares$ToFinder", name := "equals", desc := "(Ljava/lang/Object;)Z" } : Jvm.MethodName)) ∈ lw_all := lw_g (lw_at lw_m6 60 rfl) rfl
theorem q1385 : (Jvm.Cond.code ({ cls := "WreckShares$ToFinder", name := "equals", desc := "(Ljava/lang/Object;)Z" } : Jvm.MethodName) prog_17_method_4_code (2 : Nat) (Option.some Jvm.ClassFile.FieldType.boolean)) ∈ lw_all := lw_g (lw_at lw_m6 61 rfl) rfl
theorem q1630 : (Jvm.Cond.instantiable "WreckShares$ToFinder" (2 : Nat)) ∈ lw_all := lw_g (lw_at lw_m7 66 rfl) rfl
theorem q1633 : (Jvm.Cond.instanceMethod ({ cls := "WreckShares$ToFinder", name := "<init>", desc := "(II)V" } : Jvm.MethodName)) ∈ lw_all := lw_g (lw_at lw_m7 69 rfl) rfl
theorem q1634 : (Jvm.Cond.code ({ cls := "WreckShares$ToFinder", name := "<init>", desc := "(II)V" } : Jvm.MethodName) prog_17_method_1_code (3 : Nat) (Option.none : Option Jvm.ClassFile.FieldType)) ∈ lw_all := lw_g (lw_at lw_m7 70 rfl) rfl
theorem q1635 : (Jvm.Cond.methodLink "WreckShares$ToFinder" (1 : Nat) ({ cls := "java/lang/Record", name := "<init>", desc := "()V" } : Jvm.MethodName)) ∈ lw_all := lw_g (lw_at lw_m7 71 rfl) rfl
theorem q1636 : (Jvm.Cond.fieldLink "WreckShares$ToFinder" (7 : Nat) "WreckShares$ToFinder" "finder" "I") ∈ lw_all := lw_g (lw_at lw_m7 72 rfl) rfl
theorem q1637 : (Jvm.Cond.fieldLink "WreckShares$ToFinder" (13 : Nat) "WreckShares$ToFinder" "amount" "I") ∈ lw_all := lw_g (lw_at lw_m7 73 rfl) rfl
theorem q1638 : (Jvm.Cond.laysFinal "WreckShares$ToFinder" "WreckShares$ToFinder" "finder" "I") ∈ lw_all := lw_g (lw_at lw_m7 74 rfl) rfl
theorem q1639 : (Jvm.Cond.soleField "WreckShares$ToFinder" "finder") ∈ lw_all := lw_g (lw_at lw_m7 75 rfl) rfl
theorem q1640 : (Jvm.Cond.laysFinal "WreckShares$ToFinder" "WreckShares$ToFinder" "amount" "I") ∈ lw_all := lw_g (lw_at lw_m7 76 rfl) rfl
theorem q1641 : (Jvm.Cond.soleField "WreckShares$ToFinder" "amount") ∈ lw_all := lw_g (lw_at lw_m7 77 rfl) rfl
theorem q1642 : (Jvm.Cond.superclass "WreckShares$ToFinder" "java/lang/Record") ∈ lw_all := lw_g (lw_at lw_m7 78 rfl) rfl
theorem q1670 : (Jvm.Cond.instanceMethod ({ cls := "WreckShares$ToFinder", name := "finder", desc := "()I" } : Jvm.MethodName)) ∈ lw_all := lw_g (lw_at lw_m7 106 rfl) rfl
theorem q1671 : (Jvm.Cond.selects "WreckShares$ToFinder" ({ cls := "WreckShares$ToFinder", name := "finder", desc := "()I" } : Jvm.MethodName) ({ cls := "WreckShares$ToFinder", name := "finder", desc := "()I" } : Jvm.MethodName)) ∈ lw_all := lw_g (lw_at lw_m7 107 rfl) rfl
theorem q1672 : (Jvm.Cond.code ({ cls := "WreckShares$ToFinder", name := "finder", desc := "()I" } : Jvm.MethodName) prog_17_method_5_code (1 : Nat) (Option.some Jvm.ClassFile.FieldType.int)) ∈ lw_all := lw_g (lw_at lw_m7 108 rfl) rfl
theorem q1674 : (Jvm.Cond.instanceMethod ({ cls := "WreckShares$ToFinder", name := "amount", desc := "()I" } : Jvm.MethodName)) ∈ lw_all := lw_g (lw_at lw_m7 110 rfl) rfl
theorem q1675 : (Jvm.Cond.selects "WreckShares$ToFinder" ({ cls := "WreckShares$ToFinder", name := "amount", desc := "()I" } : Jvm.MethodName) ({ cls := "WreckShares$ToFinder", name := "amount", desc := "()I" } : Jvm.MethodName)) ∈ lw_all := lw_g (lw_at lw_m7 111 rfl) rfl
theorem q1676 : (Jvm.Cond.code ({ cls := "WreckShares$ToFinder", name := "amount", desc := "()I" } : Jvm.MethodName) prog_17_method_6_code (1 : Nat) (Option.some Jvm.ClassFile.FieldType.int)) ∈ lw_all := lw_g (lw_at lw_m7 112 rfl) rfl
theorem q2157 : (Jvm.Cond.castable "WreckShares$ToFinder" "WreckShares$Part") ∈ lw_tbl := lw_at lw_m9 113 rfl
theorem q2158 : (Jvm.Cond.selects "WreckShares$ToFinder" ({ cls := "WreckShares$Part", name := "amount", desc := "()I" } : Jvm.MethodName) ({ cls := "WreckShares$ToFinder", name := "amount", desc := "()I" } : Jvm.MethodName)) ∈ lw_all := lw_g (lw_at lw_m9 114 rfl) rfl
theorem q2159 : (Jvm.Cond.unhidden "WreckShares$ToFinder" "amount" "()I") ∈ lw_tbl := lw_at lw_m9 115 rfl
theorem q2160 : (Jvm.Cond.publicMethod ({ cls := "WreckShares$ToFinder", name := "amount", desc := "()I" } : Jvm.MethodName)) ∈ lw_tbl := lw_at lw_m9 116 rfl
theorem q3184 : (Jvm.Cond.castable "WreckShares$ToFinder" "java/lang/Object") ∈ lw_tbl := lw_at lw_m13 180 rfl
theorem in_X10 : ∀ w ∈ wsX100, w ∈ lw_all := lw_in wsX100 [1638, 1640] (by decide +kernel) (by decide +kernel)

/-! WreckShares$Lying -/
def RX11 : String := "WreckShares$Lying"
def TX11 : u_T := fun k => match k with
  | 0 => ("WreckShares$Lying", "all", "Ljava/util/BitSet;", true)
  | _ => ("WreckShares$Lying", "this$0", "LWreckShares;", true)
def tyX11 : Nat → FieldType := fun k => match k with
  | 0 => .object "java/util/BitSet"
  | _ => .object "WreckShares"
abbrev wsX110 : List Cond := u_ws RX11 TX11 2
theorem nmX11 : ∀ a, a < 2 → ∀ b, b < 2 → a ≠ b → (TX11 a).2.1 ≠ (TX11 b).2.1 := by decide +kernel
theorem tyX11_ok : ∀ k, k < 2 → parseFieldDescriptor (TX11 k).2.2.1 = some (tyX11 k) := by decide +kernel
abbrev cX11_init : ByteArray := prog_9_method_1_code
def yX11_init : MethodName := ⟨RX11, "<init>", "(LWreckShares;)V"⟩
def dkwX11_init_3 : List UInt8 := [4, 167, 0, 4, 3, 182, 0, 59, 167, 255, 214, 177]
abbrev dktX11_init_3 : List UInt8 := dkwX11_init_3 ++ []
def dkwX11_init_2 : List UInt8 := [185, 0, 46, 1, 0, 192, 0, 50, 78, 42, 180, 0, 20, 45, 180, 0, 52, 45, 180, 0, 56, 154, 0, 7]
abbrev dktX11_init_2 : List UInt8 := dkwX11_init_2 ++ dktX11_init_3
def dkwX11_init_1 : List UInt8 := [180, 0, 24, 180, 0, 28, 185, 0, 34, 1, 0, 77, 44, 185, 0, 40, 1, 0, 153, 0, 39, 44]
abbrev dktX11_init_1 : List UInt8 := dkwX11_init_1 ++ dktX11_init_2
def dkwX11_init_0 : List UInt8 := [42, 43, 181, 0, 3, 42, 183, 0, 9, 42, 187, 0, 15, 89, 16, 24, 183, 0, 17, 181, 0, 20, 43]
abbrev dktX11_init_0 : List UInt8 := dkwX11_init_0 ++ dktX11_init_1
theorem dksX11_init_0 : cX11_init.data.toList.drop 0 = dktX11_init_0 := by decide +kernel
theorem dksX11_init_1 : cX11_init.data.toList.drop 23 = dktX11_init_1 := dk_seg dksX11_init_0 23 rfl rfl
theorem dksX11_init_2 : cX11_init.data.toList.drop 45 = dktX11_init_2 := dk_seg dksX11_init_1 22 rfl rfl
theorem dksX11_init_3 : cX11_init.data.toList.drop 69 = dktX11_init_3 := dk_seg dksX11_init_2 24 rfl rfl
theorem dX11_init_0 : decode cX11_init 0 = .ok (.aload_n 0, 1) := dk_42 (dk_at dksX11_init_0 0 rfl rfl)
theorem dX11_init_1 : decode cX11_init 1 = .ok (.aload_n 1, 1) := dk_43 (dk_at dksX11_init_0 1 rfl rfl)
theorem dX11_init_2 : decode cX11_init 2 = .ok (.putfield 3, 3) := dk_181 0 3 (dk_at dksX11_init_0 2 rfl rfl)
theorem dX11_init_5 : decode cX11_init 5 = .ok (.aload_n 0, 1) := dk_42 (dk_at dksX11_init_0 5 rfl rfl)
theorem dX11_init_6 : decode cX11_init 6 = .ok (.invokespecial 9, 3) := dk_183 0 9 (dk_at dksX11_init_0 6 rfl rfl)
theorem dX11_init_9 : decode cX11_init 9 = .ok (.aload_n 0, 1) := dk_42 (dk_at dksX11_init_0 9 rfl rfl)
theorem dX11_init_10 : decode cX11_init 10 = .ok (.new 15, 3) := dk_187 0 15 (dk_at dksX11_init_0 10 rfl rfl)
theorem dX11_init_13 : decode cX11_init 13 = .ok (.dup, 1) := dk_89 (dk_at dksX11_init_0 13 rfl rfl)
theorem dX11_init_14 : decode cX11_init 14 = .ok (.bipush 24, 2) := dk_16 24 (dk_at dksX11_init_0 14 rfl rfl)
theorem dX11_init_16 : decode cX11_init 16 = .ok (.invokespecial 17, 3) := dk_183 0 17 (dk_at dksX11_init_0 16 rfl rfl)
theorem dX11_init_19 : decode cX11_init 19 = .ok (.putfield 20, 3) := dk_181 0 20 (dk_at dksX11_init_0 19 rfl rfl)
theorem dX11_init_22 : decode cX11_init 22 = .ok (.aload_n 1, 1) := dk_43 (dk_at dksX11_init_0 22 rfl rfl)
theorem dX11_init_23 : decode cX11_init 23 = .ok (.getfield 24, 3) := dk_180 0 24 (dk_at dksX11_init_1 0 rfl rfl)
theorem dX11_init_26 : decode cX11_init 26 = .ok (.getfield 28, 3) := dk_180 0 28 (dk_at dksX11_init_1 3 rfl rfl)
theorem dX11_init_29 : decode cX11_init 29 = .ok (.invokeinterface 34 1, 5) := by decide +kernel
theorem dX11_init_34 : decode cX11_init 34 = .ok (.astore_n 2, 1) := dk_77 (dk_at dksX11_init_1 11 rfl rfl)
theorem dX11_init_35 : decode cX11_init 35 = .ok (.aload_n 2, 1) := dk_44 (dk_at dksX11_init_1 12 rfl rfl)
theorem dX11_init_36 : decode cX11_init 36 = .ok (.invokeinterface 40 1, 5) := by decide +kernel
theorem dX11_init_41 : decode cX11_init 41 = .ok (.ifCond .eq 39, 3) := dk_153 0 39 (dk_at dksX11_init_1 18 rfl rfl)
theorem dX11_init_44 : decode cX11_init 44 = .ok (.aload_n 2, 1) := dk_44 (dk_at dksX11_init_1 21 rfl rfl)
theorem dX11_init_45 : decode cX11_init 45 = .ok (.invokeinterface 46 1, 5) := by decide +kernel
theorem dX11_init_50 : decode cX11_init 50 = .ok (.checkcast 50, 3) := dk_192 0 50 (dk_at dksX11_init_2 5 rfl rfl)
theorem dX11_init_53 : decode cX11_init 53 = .ok (.astore_n 3, 1) := dk_78 (dk_at dksX11_init_2 8 rfl rfl)
theorem dX11_init_54 : decode cX11_init 54 = .ok (.aload_n 0, 1) := dk_42 (dk_at dksX11_init_2 9 rfl rfl)
theorem dX11_init_55 : decode cX11_init 55 = .ok (.getfield 20, 3) := dk_180 0 20 (dk_at dksX11_init_2 10 rfl rfl)
theorem dX11_init_58 : decode cX11_init 58 = .ok (.aload_n 3, 1) := dk_45 (dk_at dksX11_init_2 13 rfl rfl)
theorem dX11_init_59 : decode cX11_init 59 = .ok (.getfield 52, 3) := dk_180 0 52 (dk_at dksX11_init_2 14 rfl rfl)
theorem dX11_init_62 : decode cX11_init 62 = .ok (.aload_n 3, 1) := dk_45 (dk_at dksX11_init_2 17 rfl rfl)
theorem dX11_init_63 : decode cX11_init 63 = .ok (.getfield 56, 3) := dk_180 0 56 (dk_at dksX11_init_2 18 rfl rfl)
theorem dX11_init_66 : decode cX11_init 66 = .ok (.ifCond .ne 7, 3) := dk_154 0 7 (dk_at dksX11_init_2 21 rfl rfl)
theorem dX11_init_69 : decode cX11_init 69 = .ok (.iconst 1, 1) := dk_4 (dk_at dksX11_init_3 0 rfl rfl)
theorem dX11_init_70 : decode cX11_init 70 = .ok (.goto 4, 3) := dk_167 0 4 (dk_at dksX11_init_3 1 rfl rfl)
theorem dX11_init_73 : decode cX11_init 73 = .ok (.iconst 0, 1) := dk_3 (dk_at dksX11_init_3 4 rfl rfl)
theorem dX11_init_74 : decode cX11_init 74 = .ok (.invokevirtual 59, 3) := dk_182 0 59 (dk_at dksX11_init_3 5 rfl rfl)
theorem dX11_init_77 : decode cX11_init 77 = .ok (.goto (-42), 3) := dk_167 255 214 (dk_at dksX11_init_3 8 rfl rfl)
theorem dX11_init_80 : decode cX11_init 80 = .ok (.return_, 1) := dk_177 (dk_at dksX11_init_3 11 rfl rfl)
abbrev cX11_iterator : ByteArray := prog_9_method_2_code
def yX11_iterator : MethodName := ⟨RX11, "iterator", "()Ljava/util/Iterator;"⟩
def dkwX11_iterator_0 : List UInt8 := [187, 0, 63, 89, 42, 183, 0, 65, 176]
abbrev dktX11_iterator_0 : List UInt8 := dkwX11_iterator_0 ++ []
theorem dksX11_iterator_0 : cX11_iterator.data.toList.drop 0 = dktX11_iterator_0 := by decide +kernel
theorem dX11_iterator_0 : decode cX11_iterator 0 = .ok (.new 63, 3) := dk_187 0 63 (dk_at dksX11_iterator_0 0 rfl rfl)
theorem dX11_iterator_3 : decode cX11_iterator 3 = .ok (.dup, 1) := dk_89 (dk_at dksX11_iterator_0 3 rfl rfl)
theorem dX11_iterator_4 : decode cX11_iterator 4 = .ok (.aload_n 0, 1) := dk_42 (dk_at dksX11_iterator_0 4 rfl rfl)
theorem dX11_iterator_5 : decode cX11_iterator 5 = .ok (.invokespecial 65, 3) := dk_183 0 65 (dk_at dksX11_iterator_0 5 rfl rfl)
theorem dX11_iterator_8 : decode cX11_iterator 8 = .ok (.areturn, 1) := dk_176 (dk_at dksX11_iterator_0 8 rfl rfl)
theorem q171 : (Jvm.Cond.initialized "WreckShares$Lying") ∈ lw_all := lw_g (lw_at lw_m1 47 rfl) rfl
theorem q550 : (Jvm.Cond.fieldLinkNest "WreckShares$Lying" (28 : Nat) "WreckShares$Shore" "goods" "Ljava/util/List;" "WreckShares") ∈ lw_tbl := lw_at lw_m2 186 rfl
theorem q622 : (Jvm.Cond.fieldLinkNest "WreckShares$Lying" (52 : Nat) "WreckShares$Good" "number" "I" "WreckShares") ∈ lw_tbl := lw_at lw_m3 18 rfl
theorem q645 : (Jvm.Cond.fieldLinkNest "WreckShares$Lying" (56 : Nat) "WreckShares$Good" "state" "I" "WreckShares") ∈ lw_tbl := lw_at lw_m3 41 rfl
theorem q720 : (Jvm.Cond.selects "WreckShares$Lying" ({ cls := "java/lang/Object", name := "getClass", desc := "()Ljava/lang/Class;" } : Jvm.MethodName) ({ cls := "java/lang/Object", name := "getClass", desc := "()Ljava/lang/Class;" } : Jvm.MethodName)) ∈ lw_all := lw_g (lw_at lw_m3 116 rfl) rfl
theorem q805 : (Jvm.Cond.fieldLinkNest "WreckShares$Lying" (24 : Nat) "WreckShares" "now" "LWreckShares$Shore;" "WreckShares") ∈ lw_tbl := lw_at lw_m3 201 rfl
theorem q1181 : (Jvm.Cond.instantiable "WreckShares$Lying" (2 : Nat)) ∈ lw_all := lw_g (lw_at lw_m5 97 rfl) rfl
theorem q1183 : (Jvm.Cond.instanceMethod ({ cls := "WreckShares$Lying", name := "<init>", desc := "(LWreckShares;)V" } : Jvm.MethodName)) ∈ lw_all := lw_g (lw_at lw_m5 99 rfl) rfl
theorem q1184 : (Jvm.Cond.code ({ cls := "WreckShares$Lying", name := "<init>", desc := "(LWreckShares;)V" } : Jvm.MethodName) prog_9_method_1_code (4 : Nat) (Option.none : Option Jvm.ClassFile.FieldType)) ∈ lw_all := lw_g (lw_at lw_m5 100 rfl) rfl
theorem q1185 : (Jvm.Cond.methodLink "WreckShares$Lying" (9 : Nat) ({ cls := "java/lang/Object", name := "<init>", desc := "()V" } : Jvm.MethodName)) ∈ lw_all := lw_g (lw_at lw_m5 101 rfl) rfl
theorem q1186 : (Jvm.Cond.classLink "WreckShares$Lying" (15 : Nat) "java/util/BitSet") ∈ lw_all := lw_g (lw_at lw_m5 102 rfl) rfl
theorem q1187 : (Jvm.Cond.methodLink "WreckShares$Lying" (17 : Nat) ({ cls := "java/util/BitSet", name := "<init>", desc := "(I)V" } : Jvm.MethodName)) ∈ lw_all := lw_g (lw_at lw_m5 103 rfl) rfl
theorem q1206 : (Jvm.Cond.interfaceEntry "WreckShares$Lying" (34 : Nat)) ∈ lw_tbl := lw_at lw_m5 122 rfl
theorem q1207 : (Jvm.Cond.methodLink "WreckShares$Lying" (34 : Nat) ({ cls := "java/util/List", name := "iterator", desc := "()Ljava/util/Iterator;" } : Jvm.MethodName)) ∈ lw_all := lw_g (lw_at lw_m5 123 rfl) rfl
theorem q1208 : (Jvm.Cond.interfaceEntry "WreckShares$Lying" (40 : Nat)) ∈ lw_tbl := lw_at lw_m5 124 rfl
theorem q1209 : (Jvm.Cond.methodLink "WreckShares$Lying" (40 : Nat) ({ cls := "java/util/Iterator", name := "hasNext", desc := "()Z" } : Jvm.MethodName)) ∈ lw_all := lw_g (lw_at lw_m5 125 rfl) rfl
theorem q1210 : (Jvm.Cond.interfaceEntry "WreckShares$Lying" (46 : Nat)) ∈ lw_tbl := lw_at lw_m5 126 rfl
theorem q1211 : (Jvm.Cond.methodLink "WreckShares$Lying" (46 : Nat) ({ cls := "java/util/Iterator", name := "next", desc := "()Ljava/lang/Object;" } : Jvm.MethodName)) ∈ lw_all := lw_g (lw_at lw_m5 127 rfl) rfl
theorem q1212 : (Jvm.Cond.classLink "WreckShares$Lying" (50 : Nat) "WreckShares$Good") ∈ lw_all := lw_g (lw_at lw_m5 128 rfl) rfl
theorem q1213 : (Jvm.Cond.methodLink "WreckShares$Lying" (59 : Nat) ({ cls := "java/util/BitSet", name := "set", desc := "(IZ)V" } : Jvm.MethodName)) ∈ lw_all := lw_g (lw_at lw_m5 129 rfl) rfl
theorem q1247 : (Jvm.Cond.fieldLink "WreckShares$Lying" (20 : Nat) "WreckShares$Lying" "all" "Ljava/util/BitSet;") ∈ lw_all := lw_g (lw_at lw_m5 163 rfl) rfl
theorem q1248 : (Jvm.Cond.fieldLink "WreckShares$Lying" (3 : Nat) "WreckShares$Lying" "this$0" "LWreckShares;") ∈ lw_all := lw_g (lw_at lw_m5 164 rfl) rfl
theorem q1250 : (Jvm.Cond.laysFinal "WreckShares$Lying" "WreckShares$Lying" "all" "Ljava/util/BitSet;") ∈ lw_all := lw_g (lw_at lw_m5 166 rfl) rfl
theorem q1251 : (Jvm.Cond.soleField "WreckShares$Lying" "all") ∈ lw_all := lw_g (lw_at lw_m5 167 rfl) rfl
theorem q1252 : (Jvm.Cond.laysFinal "WreckShares$Lying" "WreckShares$Lying" "this$0" "LWreckShares;") ∈ lw_all := lw_g (lw_at lw_m5 168 rfl) rfl
theorem q1253 : (Jvm.Cond.soleField "WreckShares$Lying" "this$0") ∈ lw_all := lw_g (lw_at lw_m5 169 rfl) rfl
theorem q1254 : (Jvm.Cond.superclass "WreckShares$Lying" "java/lang/Object") ∈ lw_all := lw_g (lw_at lw_m5 170 rfl) rfl
theorem q1256 : (Jvm.Cond.instanceMethod ({ cls := "WreckShares$Lying", name := "iterator", desc := "()Ljava/util/Iterator;" } : Jvm.MethodName)) ∈ lw_all := lw_g (lw_at lw_m5 172 rfl) rfl
theorem q1257 : (Jvm.Cond.selects "WreckShares$Lying" ({ cls := "WreckShares$Lying", name := "iterator", desc := "()Ljava/util/Iterator;" } : Jvm.MethodName) ({ cls := "WreckShares$Lying", name := "iterator", desc := "()Ljava/util/Iterator;" } : Jvm.MethodName)) ∈ lw_all := lw_g (lw_at lw_m5 173 rfl) rfl
theorem q1258 : (Jvm.Cond.code ({ cls := "WreckShares$Lying", name := "iterator", desc := "()Ljava/util/Iterator;" } : Jvm.MethodName) prog_9_method_2_code (1 : Nat) (Option.some (Jvm.ClassFile.FieldType.object "java/util/Iterator"))) ∈ lw_all := lw_g (lw_at lw_m5 174 rfl) rfl
theorem q1259 : (Jvm.Cond.classLink "WreckShares$Lying" (63 : Nat) "WreckShares$Lying$1") ∈ lw_all := lw_g (lw_at lw_m5 175 rfl) rfl
theorem q1261 : (Jvm.Cond.methodLink "WreckShares$Lying" (65 : Nat) ({ cls := "WreckShares$Lying$1", name := "<init>", desc := "(LWreckShares$Lying;)V" } : Jvm.MethodName)) ∈ lw_all := lw_g (lw_at lw_m5 177 rfl) rfl
theorem q1375 : (Jvm.Cond.selects "WreckShares$Lying" ({ cls := "java/lang/Object", name := "equals", desc := "(Ljava/lang/Object;)Z" } : Jvm.MethodName) ({ cls := "java/lang/Object", name := "equals", desc := "(Ljava/lang/Object;)Z" } : Jvm.MethodName)) ∈ lw_all := lw_g (lw_at lw_m6 51 rfl) rfl
theorem q3185 : (Jvm.Cond.castable "WreckShares$Lying" "java/lang/Object") ∈ lw_tbl := lw_at lw_m13 181 rfl
theorem in_X11 : ∀ w ∈ wsX110, w ∈ lw_all := lw_in wsX110 [1250, 1252] (by decide +kernel) (by decide +kernel)

/-! WreckShares$Lying$1 -/
def RX12 : String := "WreckShares$Lying$1"
def TX12 : u_T := fun k => match k with
  | 0 => ("WreckShares$Lying$1", "next", "I", false)
  | _ => ("WreckShares$Lying$1", "this$1", "LWreckShares$Lying;", true)
def tyX12 : Nat → FieldType := fun k => match k with
  | 0 => .int
  | _ => .object "WreckShares$Lying"
abbrev wsX120 : List Cond := u_ws RX12 TX12 2
theorem nmX12 : ∀ a, a < 2 → ∀ b, b < 2 → a ≠ b → (TX12 a).2.1 ≠ (TX12 b).2.1 := by decide +kernel
theorem tyX12_ok : ∀ k, k < 2 → parseFieldDescriptor (TX12 k).2.2.1 = some (tyX12 k) := by decide +kernel
abbrev cX12_hasNext : ByteArray := prog_10_method_2_code
def yX12_hasNext : MethodName := ⟨RX12, "hasNext", "()Z"⟩
def dkwX12_hasNext_0 : List UInt8 := [42, 180, 0, 25, 155, 0, 7, 4, 167, 0, 4, 3, 172]
abbrev dktX12_hasNext_0 : List UInt8 := dkwX12_hasNext_0 ++ []
theorem dksX12_hasNext_0 : cX12_hasNext.data.toList.drop 0 = dktX12_hasNext_0 := by decide +kernel
theorem dX12_hasNext_0 : decode cX12_hasNext 0 = .ok (.aload_n 0, 1) := dk_42 (dk_at dksX12_hasNext_0 0 rfl rfl)
theorem dX12_hasNext_1 : decode cX12_hasNext 1 = .ok (.getfield 25, 3) := dk_180 0 25 (dk_at dksX12_hasNext_0 1 rfl rfl)
theorem dX12_hasNext_4 : decode cX12_hasNext 4 = .ok (.ifCond .lt 7, 3) := dk_155 0 7 (dk_at dksX12_hasNext_0 4 rfl rfl)
theorem dX12_hasNext_7 : decode cX12_hasNext 7 = .ok (.iconst 1, 1) := dk_4 (dk_at dksX12_hasNext_0 7 rfl rfl)
theorem dX12_hasNext_8 : decode cX12_hasNext 8 = .ok (.goto 4, 3) := dk_167 0 4 (dk_at dksX12_hasNext_0 8 rfl rfl)
theorem dX12_hasNext_11 : decode cX12_hasNext 11 = .ok (.iconst 0, 1) := dk_3 (dk_at dksX12_hasNext_0 11 rfl rfl)
theorem dX12_hasNext_12 : decode cX12_hasNext 12 = .ok (.ireturn, 1) := dk_172 (dk_at dksX12_hasNext_0 12 rfl rfl)
abbrev cX12_next : ByteArray := prog_10_method_4_code
def yX12_next : MethodName := ⟨RX12, "next", "()Ljava/lang/Object;"⟩
theorem dX12_next_0 : decode cX12_next 0 = .ok (.aload_n 0, 1) := by decide +kernel
theorem dX12_next_1 : decode cX12_next 1 = .ok (.invokevirtual 48, 3) := by decide +kernel
theorem dX12_next_4 : decode cX12_next 4 = .ok (.areturn, 1) := by decide +kernel
abbrev cX12_next_2 : ByteArray := prog_10_method_3_code
def yX12_next_2 : MethodName := ⟨RX12, "next", "()LWreckShares$Good;"⟩
def dkwX12_next_2_2 : List UInt8 := [96, 182, 0, 19, 181, 0, 25, 43, 176]
abbrev dktX12_next_2_2 : List UInt8 := dkwX12_next_2_2 ++ []
def dkwX12_next_2_1 : List UInt8 := [180, 0, 36, 42, 180, 0, 25, 182, 0, 42, 76, 42, 42, 180, 0, 1, 180, 0, 13, 42, 180, 0, 25, 4]
abbrev dktX12_next_2_1 : List UInt8 := dkwX12_next_2_1 ++ dktX12_next_2_2
def dkwX12_next_2_0 : List UInt8 := [42, 180, 0, 25, 156, 0, 11, 187, 0, 29, 89, 183, 0, 31, 191, 42, 180, 0, 1, 180, 0, 32]
abbrev dktX12_next_2_0 : List UInt8 := dkwX12_next_2_0 ++ dktX12_next_2_1
theorem dksX12_next_2_0 : cX12_next_2.data.toList.drop 0 = dktX12_next_2_0 := by decide +kernel
theorem dksX12_next_2_1 : cX12_next_2.data.toList.drop 22 = dktX12_next_2_1 := dk_seg dksX12_next_2_0 22 rfl rfl
theorem dksX12_next_2_2 : cX12_next_2.data.toList.drop 46 = dktX12_next_2_2 := dk_seg dksX12_next_2_1 24 rfl rfl
theorem dX12_next_2_0 : decode cX12_next_2 0 = .ok (.aload_n 0, 1) := dk_42 (dk_at dksX12_next_2_0 0 rfl rfl)
theorem dX12_next_2_1 : decode cX12_next_2 1 = .ok (.getfield 25, 3) := dk_180 0 25 (dk_at dksX12_next_2_0 1 rfl rfl)
theorem dX12_next_2_4 : decode cX12_next_2 4 = .ok (.ifCond .ge 11, 3) := dk_156 0 11 (dk_at dksX12_next_2_0 4 rfl rfl)
theorem dX12_next_2_7 : decode cX12_next_2 7 = .ok (.new 29, 3) := dk_187 0 29 (dk_at dksX12_next_2_0 7 rfl rfl)
theorem dX12_next_2_10 : decode cX12_next_2 10 = .ok (.dup, 1) := dk_89 (dk_at dksX12_next_2_0 10 rfl rfl)
theorem dX12_next_2_11 : decode cX12_next_2 11 = .ok (.invokespecial 31, 3) := dk_183 0 31 (dk_at dksX12_next_2_0 11 rfl rfl)
theorem dX12_next_2_14 : decode cX12_next_2 14 = .ok (.athrow, 1) := dk_191 (dk_at dksX12_next_2_0 14 rfl rfl)
theorem dX12_next_2_15 : decode cX12_next_2 15 = .ok (.aload_n 0, 1) := dk_42 (dk_at dksX12_next_2_0 15 rfl rfl)
theorem dX12_next_2_16 : decode cX12_next_2 16 = .ok (.getfield 1, 3) := dk_180 0 1 (dk_at dksX12_next_2_0 16 rfl rfl)
theorem dX12_next_2_19 : decode cX12_next_2 19 = .ok (.getfield 32, 3) := dk_180 0 32 (dk_at dksX12_next_2_0 19 rfl rfl)
theorem dX12_next_2_22 : decode cX12_next_2 22 = .ok (.getfield 36, 3) := dk_180 0 36 (dk_at dksX12_next_2_1 0 rfl rfl)
theorem dX12_next_2_25 : decode cX12_next_2 25 = .ok (.aload_n 0, 1) := dk_42 (dk_at dksX12_next_2_1 3 rfl rfl)
theorem dX12_next_2_26 : decode cX12_next_2 26 = .ok (.getfield 25, 3) := dk_180 0 25 (dk_at dksX12_next_2_1 4 rfl rfl)
theorem dX12_next_2_29 : decode cX12_next_2 29 = .ok (.invokevirtual 42, 3) := dk_182 0 42 (dk_at dksX12_next_2_1 7 rfl rfl)
theorem dX12_next_2_32 : decode cX12_next_2 32 = .ok (.astore_n 1, 1) := dk_76 (dk_at dksX12_next_2_1 10 rfl rfl)
theorem dX12_next_2_33 : decode cX12_next_2 33 = .ok (.aload_n 0, 1) := dk_42 (dk_at dksX12_next_2_1 11 rfl rfl)
theorem dX12_next_2_34 : decode cX12_next_2 34 = .ok (.aload_n 0, 1) := dk_42 (dk_at dksX12_next_2_1 12 rfl rfl)
theorem dX12_next_2_35 : decode cX12_next_2 35 = .ok (.getfield 1, 3) := dk_180 0 1 (dk_at dksX12_next_2_1 13 rfl rfl)
theorem dX12_next_2_38 : decode cX12_next_2 38 = .ok (.getfield 13, 3) := dk_180 0 13 (dk_at dksX12_next_2_1 16 rfl rfl)
theorem dX12_next_2_41 : decode cX12_next_2 41 = .ok (.aload_n 0, 1) := dk_42 (dk_at dksX12_next_2_1 19 rfl rfl)
theorem dX12_next_2_42 : decode cX12_next_2 42 = .ok (.getfield 25, 3) := dk_180 0 25 (dk_at dksX12_next_2_1 20 rfl rfl)
theorem dX12_next_2_45 : decode cX12_next_2 45 = .ok (.iconst 1, 1) := dk_4 (dk_at dksX12_next_2_1 23 rfl rfl)
theorem dX12_next_2_46 : decode cX12_next_2 46 = .ok (.iadd, 1) := dk_96 (dk_at dksX12_next_2_2 0 rfl rfl)
theorem dX12_next_2_47 : decode cX12_next_2 47 = .ok (.invokevirtual 19, 3) := dk_182 0 19 (dk_at dksX12_next_2_2 1 rfl rfl)
theorem dX12_next_2_50 : decode cX12_next_2 50 = .ok (.putfield 25, 3) := dk_181 0 25 (dk_at dksX12_next_2_2 4 rfl rfl)
theorem dX12_next_2_53 : decode cX12_next_2 53 = .ok (.aload_n 1, 1) := dk_43 (dk_at dksX12_next_2_2 7 rfl rfl)
theorem dX12_next_2_54 : decode cX12_next_2 54 = .ok (.areturn, 1) := dk_176 (dk_at dksX12_next_2_2 8 rfl rfl)
abbrev cX12_init : ByteArray := prog_10_method_1_code
def yX12_init : MethodName := ⟨RX12, "<init>", "(LWreckShares$Lying;)V"⟩
def dkwX12_init_1 : List UInt8 := [177]
abbrev dktX12_init_1 : List UInt8 := dkwX12_init_1 ++ []
def dkwX12_init_0 : List UInt8 := [42, 43, 181, 0, 1, 42, 183, 0, 7, 42, 42, 180, 0, 1, 180, 0, 13, 3, 182, 0, 19, 181, 0, 25]
abbrev dktX12_init_0 : List UInt8 := dkwX12_init_0 ++ dktX12_init_1
theorem dksX12_init_0 : cX12_init.data.toList.drop 0 = dktX12_init_0 := by decide +kernel
theorem dksX12_init_1 : cX12_init.data.toList.drop 24 = dktX12_init_1 := dk_seg dksX12_init_0 24 rfl rfl
theorem dX12_init_0 : decode cX12_init 0 = .ok (.aload_n 0, 1) := dk_42 (dk_at dksX12_init_0 0 rfl rfl)
theorem dX12_init_1 : decode cX12_init 1 = .ok (.aload_n 1, 1) := dk_43 (dk_at dksX12_init_0 1 rfl rfl)
theorem dX12_init_2 : decode cX12_init 2 = .ok (.putfield 1, 3) := dk_181 0 1 (dk_at dksX12_init_0 2 rfl rfl)
theorem dX12_init_5 : decode cX12_init 5 = .ok (.aload_n 0, 1) := dk_42 (dk_at dksX12_init_0 5 rfl rfl)
theorem dX12_init_6 : decode cX12_init 6 = .ok (.invokespecial 7, 3) := dk_183 0 7 (dk_at dksX12_init_0 6 rfl rfl)
theorem dX12_init_9 : decode cX12_init 9 = .ok (.aload_n 0, 1) := dk_42 (dk_at dksX12_init_0 9 rfl rfl)
theorem dX12_init_10 : decode cX12_init 10 = .ok (.aload_n 0, 1) := dk_42 (dk_at dksX12_init_0 10 rfl rfl)
theorem dX12_init_11 : decode cX12_init 11 = .ok (.getfield 1, 3) := dk_180 0 1 (dk_at dksX12_init_0 11 rfl rfl)
theorem dX12_init_14 : decode cX12_init 14 = .ok (.getfield 13, 3) := dk_180 0 13 (dk_at dksX12_init_0 14 rfl rfl)
theorem dX12_init_17 : decode cX12_init 17 = .ok (.iconst 0, 1) := dk_3 (dk_at dksX12_init_0 17 rfl rfl)
theorem dX12_init_18 : decode cX12_init 18 = .ok (.invokevirtual 19, 3) := dk_182 0 19 (dk_at dksX12_init_0 18 rfl rfl)
theorem dX12_init_21 : decode cX12_init 21 = .ok (.putfield 25, 3) := dk_181 0 25 (dk_at dksX12_init_0 21 rfl rfl)
theorem dX12_init_24 : decode cX12_init 24 = .ok (.return_, 1) := dk_177 (dk_at dksX12_init_1 0 rfl rfl)
theorem q172 : (Jvm.Cond.initialized "WreckShares$Lying$1") ∈ lw_all := lw_g (lw_at lw_m1 48 rfl) rfl
theorem q721 : (Jvm.Cond.selects "WreckShares$Lying$1" ({ cls := "java/lang/Object", name := "getClass", desc := "()Ljava/lang/Class;" } : Jvm.MethodName) ({ cls := "java/lang/Object", name := "getClass", desc := "()Ljava/lang/Class;" } : Jvm.MethodName)) ∈ lw_all := lw_g (lw_at lw_m3 117 rfl) rfl
theorem q806 : (Jvm.Cond.fieldLinkNest "WreckShares$Lying$1" (36 : Nat) "WreckShares" "now" "LWreckShares$Shore;" "WreckShares") ∈ lw_tbl := lw_at lw_m3 202 rfl
theorem q967 : (Jvm.Cond.castable "WreckShares$Lying$1" "java/util/Iterator") ∈ lw_tbl := lw_at lw_m4 123 rfl
theorem q968 : (Jvm.Cond.selects "WreckShares$Lying$1" ({ cls := "java/util/Iterator", name := "hasNext", desc := "()Z" } : Jvm.MethodName) ({ cls := "WreckShares$Lying$1", name := "hasNext", desc := "()Z" } : Jvm.MethodName)) ∈ lw_all := lw_g (lw_at lw_m4 124 rfl) rfl
theorem q969 : (Jvm.Cond.unhidden "WreckShares$Lying$1" "hasNext" "()Z") ∈ lw_tbl := lw_at lw_m4 125 rfl
theorem q970 : (Jvm.Cond.instanceMethod ({ cls := "WreckShares$Lying$1", name := "hasNext", desc := "()Z" } : Jvm.MethodName)) ∈ lw_all := lw_g (lw_at lw_m4 126 rfl) rfl
theorem q971 : (Jvm.Cond.publicMethod ({ cls := "WreckShares$Lying$1", name := "hasNext", desc := "()Z" } : Jvm.MethodName)) ∈ lw_tbl := lw_at lw_m4 127 rfl
theorem q972 : (Jvm.Cond.code ({ cls := "WreckShares$Lying$1", name := "hasNext", desc := "()Z" } : Jvm.MethodName) prog_10_method_2_code (1 : Nat) (Option.some Jvm.ClassFile.FieldType.boolean)) ∈ lw_all := lw_g (lw_at lw_m4 128 rfl) rfl
theorem q1007 : (Jvm.Cond.selects "WreckShares$Lying$1" ({ cls := "java/util/Iterator", name := "next", desc := "()Ljava/lang/Object;" } : Jvm.MethodName) ({ cls := "WreckShares$Lying$1", name := "next", desc := "()Ljava/lang/Object;" } : Jvm.MethodName)) ∈ lw_all := lw_g (lw_at lw_m4 163 rfl) rfl
theorem q1008 : (Jvm.Cond.unhidden "WreckShares$Lying$1" "next" "()Ljava/lang/Object;") ∈ lw_tbl := lw_at lw_m4 164 rfl
theorem q1009 : (Jvm.Cond.instanceMethod ({ cls := "WreckShares$Lying$1", name := "next", desc := "()Ljava/lang/Object;" } : Jvm.MethodName)) ∈ lw_all := lw_g (lw_at lw_m4 165 rfl) rfl
theorem q1010 : (Jvm.Cond.publicMethod ({ cls := "WreckShares$Lying$1", name := "next", desc := "()Ljava/lang/Object;" } : Jvm.MethodName)) ∈ lw_tbl := lw_at lw_m4 166 rfl
theorem q1011 : (Jvm.Cond.code ({ cls := "WreckShares$Lying$1", name := "next", desc := "()Ljava/lang/Object;" } : Jvm.MethodName) prog_10_method_4_code (1 : Nat) (Option.some (Jvm.ClassFile.FieldType.object "java/lang/Object"))) ∈ lw_all := lw_g (lw_at lw_m4 167 rfl) rfl
theorem q1012 : (Jvm.Cond.methodLink "WreckShares$Lying$1" (48 : Nat) ({ cls := "WreckShares$Lying$1", name := "next", desc := "()LWreckShares$Good;" } : Jvm.MethodName)) ∈ lw_all := lw_g (lw_at lw_m4 168 rfl) rfl
theorem q1013 : (Jvm.Cond.instanceMethod ({ cls := "WreckShares$Lying$1", name := "next", desc := "()LWreckShares$Good;" } : Jvm.MethodName)) ∈ lw_all := lw_g (lw_at lw_m4 169 rfl) rfl
theorem q1014 : (Jvm.Cond.selects "WreckShares$Lying$1" ({ cls := "WreckShares$Lying$1", name := "next", desc := "()LWreckShares$Good;" } : Jvm.MethodName) ({ cls := "WreckShares$Lying$1", name := "next", desc := "()LWreckShares$Good;" } : Jvm.MethodName)) ∈ lw_all := lw_g (lw_at lw_m4 170 rfl) rfl
theorem q1015 : (Jvm.Cond.code ({ cls := "WreckShares$Lying$1", name := "next", desc := "()LWreckShares$Good;" } : Jvm.MethodName) prog_10_method_3_code (2 : Nat) (Option.some (Jvm.ClassFile.FieldType.object "WreckShares$Good"))) ∈ lw_all := lw_g (lw_at lw_m4 171 rfl) rfl
theorem q1016 : (Jvm.Cond.classLink "WreckShares$Lying$1" (29 : Nat) "java/util/NoSuchElementException") ∈ lw_all := lw_g (lw_at lw_m4 172 rfl) rfl
theorem q1025 : (Jvm.Cond.methodLink "WreckShares$Lying$1" (31 : Nat) ({ cls := "java/util/NoSuchElementException", name := "<init>", desc := "()V" } : Jvm.MethodName)) ∈ lw_all := lw_g (lw_at lw_m4 181 rfl) rfl
theorem q1037 : (Jvm.Cond.methodLink "WreckShares$Lying$1" (42 : Nat) ({ cls := "WreckShares$Shore", name := "good", desc := "(I)LWreckShares$Good;" } : Jvm.MethodName)) ∈ lw_all := lw_g (lw_at lw_m4 193 rfl) rfl
theorem q1075 : (Jvm.Cond.methodLink "WreckShares$Lying$1" (19 : Nat) ({ cls := "java/util/BitSet", name := "nextSetBit", desc := "(I)I" } : Jvm.MethodName)) ∈ lw_all := lw_g (lw_at lw_m4 231 rfl) rfl
theorem q1246 : (Jvm.Cond.fieldLinkNest "WreckShares$Lying$1" (13 : Nat) "WreckShares$Lying" "all" "Ljava/util/BitSet;" "WreckShares") ∈ lw_tbl := lw_at lw_m5 162 rfl
theorem q1249 : (Jvm.Cond.fieldLink "WreckShares$Lying$1" (32 : Nat) "WreckShares$Lying" "this$0" "LWreckShares;") ∈ lw_all := lw_g (lw_at lw_m5 165 rfl) rfl
theorem q1260 : (Jvm.Cond.instantiable "WreckShares$Lying$1" (2 : Nat)) ∈ lw_all := lw_g (lw_at lw_m5 176 rfl) rfl
theorem q1262 : (Jvm.Cond.instanceMethod ({ cls := "WreckShares$Lying$1", name := "<init>", desc := "(LWreckShares$Lying;)V" } : Jvm.MethodName)) ∈ lw_all := lw_g (lw_at lw_m5 178 rfl) rfl
theorem q1263 : (Jvm.Cond.code ({ cls := "WreckShares$Lying$1", name := "<init>", desc := "(LWreckShares$Lying;)V" } : Jvm.MethodName) prog_10_method_1_code (2 : Nat) (Option.none : Option Jvm.ClassFile.FieldType)) ∈ lw_all := lw_g (lw_at lw_m5 179 rfl) rfl
theorem q1264 : (Jvm.Cond.methodLink "WreckShares$Lying$1" (7 : Nat) ({ cls := "java/lang/Object", name := "<init>", desc := "()V" } : Jvm.MethodName)) ∈ lw_all := lw_g (lw_at lw_m5 180 rfl) rfl
theorem q1265 : (Jvm.Cond.fieldLink "WreckShares$Lying$1" (25 : Nat) "WreckShares$Lying$1" "next" "I") ∈ lw_all := lw_g (lw_at lw_m5 181 rfl) rfl
theorem q1266 : (Jvm.Cond.fieldLink "WreckShares$Lying$1" (1 : Nat) "WreckShares$Lying$1" "this$1" "LWreckShares$Lying;") ∈ lw_all := lw_g (lw_at lw_m5 182 rfl) rfl
theorem q1267 : (Jvm.Cond.lays "WreckShares$Lying$1" "WreckShares$Lying$1" "next" "I") ∈ lw_all := lw_g (lw_at lw_m5 183 rfl) rfl
theorem q1268 : (Jvm.Cond.soleField "WreckShares$Lying$1" "next") ∈ lw_all := lw_g (lw_at lw_m5 184 rfl) rfl
theorem q1269 : (Jvm.Cond.laysFinal "WreckShares$Lying$1" "WreckShares$Lying$1" "this$1" "LWreckShares$Lying;") ∈ lw_all := lw_g (lw_at lw_m5 185 rfl) rfl
theorem q1270 : (Jvm.Cond.soleField "WreckShares$Lying$1" "this$1") ∈ lw_all := lw_g (lw_at lw_m5 186 rfl) rfl
theorem q1271 : (Jvm.Cond.superclass "WreckShares$Lying$1" "java/lang/Object") ∈ lw_all := lw_g (lw_at lw_m5 187 rfl) rfl
theorem q1376 : (Jvm.Cond.selects "WreckShares$Lying$1" ({ cls := "java/lang/Object", name := "equals", desc := "(Ljava/lang/Object;)Z" } : Jvm.MethodName) ({ cls := "java/lang/Object", name := "equals", desc := "(Ljava/lang/Object;)Z" } : Jvm.MethodName)) ∈ lw_all := lw_g (lw_at lw_m6 52 rfl) rfl
theorem q3187 : (Jvm.Cond.castable "WreckShares$Lying$1" "java/lang/Object") ∈ lw_tbl := lw_at lw_m13 183 rfl
theorem in_X12 : ∀ w ∈ wsX120, w ∈ lw_all := lw_in wsX120 [1267, 1269] (by decide +kernel) (by decide +kernel)

/-! WreckShares$Kind$1 -/
def RX13 : String := "WreckShares$Kind$1"
abbrev cX13_rate : ByteArray := prog_5_method_2_code
def yX13_rate : MethodName := ⟨RX13, "rate", "()I"⟩
theorem dX13_rate_0 : decode cX13_rate 0 = .ok (.bipush 30, 2) := by decide +kernel
theorem dX13_rate_2 : decode cX13_rate 2 = .ok (.ireturn, 1) := by decide +kernel
theorem q716 : (Jvm.Cond.selects "WreckShares$Kind$1" ({ cls := "java/lang/Object", name := "getClass", desc := "()Ljava/lang/Class;" } : Jvm.MethodName) ({ cls := "java/lang/Object", name := "getClass", desc := "()Ljava/lang/Class;" } : Jvm.MethodName)) ∈ lw_all := lw_g (lw_at lw_m3 112 rfl) rfl
theorem q1369 : (Jvm.Cond.selects "WreckShares$Kind$1" ({ cls := "java/lang/Object", name := "equals", desc := "(Ljava/lang/Object;)Z" } : Jvm.MethodName) ({ cls := "java/lang/Enum", name := "equals", desc := "(Ljava/lang/Object;)Z" } : Jvm.MethodName)) ∈ lw_all := lw_g (lw_at lw_m6 45 rfl) rfl
theorem q1579 : (Jvm.Cond.selects "WreckShares$Kind$1" ({ cls := "WreckShares$Kind", name := "rate", desc := "()I" } : Jvm.MethodName) ({ cls := "WreckShares$Kind$1", name := "rate", desc := "()I" } : Jvm.MethodName)) ∈ lw_all := lw_g (lw_at lw_m7 15 rfl) rfl
theorem q1580 : (Jvm.Cond.instanceMethod ({ cls := "WreckShares$Kind$1", name := "rate", desc := "()I" } : Jvm.MethodName)) ∈ lw_all := lw_g (lw_at lw_m7 16 rfl) rfl
theorem q1581 : (Jvm.Cond.code ({ cls := "WreckShares$Kind$1", name := "rate", desc := "()I" } : Jvm.MethodName) prog_5_method_2_code (1 : Nat) (Option.some Jvm.ClassFile.FieldType.int)) ∈ lw_all := lw_g (lw_at lw_m7 17 rfl) rfl
theorem q2054 : (Jvm.Cond.selects "WreckShares$Kind$1" ({ cls := "WreckShares$Kind", name := "ordinal", desc := "()I" } : Jvm.MethodName) ({ cls := "java/lang/Enum", name := "ordinal", desc := "()I" } : Jvm.MethodName)) ∈ lw_all := lw_g (lw_at lw_m9 10 rfl) rfl
theorem q3164 : (Jvm.Cond.castable "WreckShares$Kind$1" "java/lang/Object") ∈ lw_tbl := lw_at lw_m13 160 rfl
theorem q3189 : (Jvm.Cond.castable "WreckShares$Kind$1" "WreckShares$Kind") ∈ lw_tbl := lw_at lw_m13 185 rfl

/-! WreckShares$Kind$2 -/
def RX14 : String := "WreckShares$Kind$2"
abbrev cX14_rate : ByteArray := prog_6_method_2_code
def yX14_rate : MethodName := ⟨RX14, "rate", "()I"⟩
theorem dX14_rate_0 : decode cX14_rate 0 = .ok (.bipush 25, 2) := by decide +kernel
theorem dX14_rate_2 : decode cX14_rate 2 = .ok (.ireturn, 1) := by decide +kernel
theorem q717 : (Jvm.Cond.selects "WreckShares$Kind$2" ({ cls := "java/lang/Object", name := "getClass", desc := "()Ljava/lang/Class;" } : Jvm.MethodName) ({ cls := "java/lang/Object", name := "getClass", desc := "()Ljava/lang/Class;" } : Jvm.MethodName)) ∈ lw_all := lw_g (lw_at lw_m3 113 rfl) rfl
theorem q1372 : (Jvm.Cond.selects "WreckShares$Kind$2" ({ cls := "java/lang/Object", name := "equals", desc := "(Ljava/lang/Object;)Z" } : Jvm.MethodName) ({ cls := "java/lang/Enum", name := "equals", desc := "(Ljava/lang/Object;)Z" } : Jvm.MethodName)) ∈ lw_all := lw_g (lw_at lw_m6 48 rfl) rfl
theorem q1582 : (Jvm.Cond.selects "WreckShares$Kind$2" ({ cls := "WreckShares$Kind", name := "rate", desc := "()I" } : Jvm.MethodName) ({ cls := "WreckShares$Kind$2", name := "rate", desc := "()I" } : Jvm.MethodName)) ∈ lw_all := lw_g (lw_at lw_m7 18 rfl) rfl
theorem q1583 : (Jvm.Cond.instanceMethod ({ cls := "WreckShares$Kind$2", name := "rate", desc := "()I" } : Jvm.MethodName)) ∈ lw_all := lw_g (lw_at lw_m7 19 rfl) rfl
theorem q1584 : (Jvm.Cond.code ({ cls := "WreckShares$Kind$2", name := "rate", desc := "()I" } : Jvm.MethodName) prog_6_method_2_code (1 : Nat) (Option.some Jvm.ClassFile.FieldType.int)) ∈ lw_all := lw_g (lw_at lw_m7 20 rfl) rfl
theorem q2055 : (Jvm.Cond.selects "WreckShares$Kind$2" ({ cls := "WreckShares$Kind", name := "ordinal", desc := "()I" } : Jvm.MethodName) ({ cls := "java/lang/Enum", name := "ordinal", desc := "()I" } : Jvm.MethodName)) ∈ lw_all := lw_g (lw_at lw_m9 11 rfl) rfl
theorem q3165 : (Jvm.Cond.castable "WreckShares$Kind$2" "java/lang/Object") ∈ lw_tbl := lw_at lw_m13 161 rfl
theorem q3190 : (Jvm.Cond.castable "WreckShares$Kind$2" "WreckShares$Kind") ∈ lw_tbl := lw_at lw_m13 186 rfl

/-! WreckShares$Kind$3 -/
def RX15 : String := "WreckShares$Kind$3"
abbrev cX15_rate : ByteArray := prog_7_method_2_code
def yX15_rate : MethodName := ⟨RX15, "rate", "()I"⟩
theorem dX15_rate_0 : decode cX15_rate 0 = .ok (.bipush 40, 2) := by decide +kernel
theorem dX15_rate_2 : decode cX15_rate 2 = .ok (.ireturn, 1) := by decide +kernel
theorem q718 : (Jvm.Cond.selects "WreckShares$Kind$3" ({ cls := "java/lang/Object", name := "getClass", desc := "()Ljava/lang/Class;" } : Jvm.MethodName) ({ cls := "java/lang/Object", name := "getClass", desc := "()Ljava/lang/Class;" } : Jvm.MethodName)) ∈ lw_all := lw_g (lw_at lw_m3 114 rfl) rfl
theorem q1373 : (Jvm.Cond.selects "WreckShares$Kind$3" ({ cls := "java/lang/Object", name := "equals", desc := "(Ljava/lang/Object;)Z" } : Jvm.MethodName) ({ cls := "java/lang/Enum", name := "equals", desc := "(Ljava/lang/Object;)Z" } : Jvm.MethodName)) ∈ lw_all := lw_g (lw_at lw_m6 49 rfl) rfl
theorem q1585 : (Jvm.Cond.selects "WreckShares$Kind$3" ({ cls := "WreckShares$Kind", name := "rate", desc := "()I" } : Jvm.MethodName) ({ cls := "WreckShares$Kind$3", name := "rate", desc := "()I" } : Jvm.MethodName)) ∈ lw_all := lw_g (lw_at lw_m7 21 rfl) rfl
theorem q1586 : (Jvm.Cond.instanceMethod ({ cls := "WreckShares$Kind$3", name := "rate", desc := "()I" } : Jvm.MethodName)) ∈ lw_all := lw_g (lw_at lw_m7 22 rfl) rfl
theorem q1587 : (Jvm.Cond.code ({ cls := "WreckShares$Kind$3", name := "rate", desc := "()I" } : Jvm.MethodName) prog_7_method_2_code (1 : Nat) (Option.some Jvm.ClassFile.FieldType.int)) ∈ lw_all := lw_g (lw_at lw_m7 23 rfl) rfl
theorem q2056 : (Jvm.Cond.selects "WreckShares$Kind$3" ({ cls := "WreckShares$Kind", name := "ordinal", desc := "()I" } : Jvm.MethodName) ({ cls := "java/lang/Enum", name := "ordinal", desc := "()I" } : Jvm.MethodName)) ∈ lw_all := lw_g (lw_at lw_m9 12 rfl) rfl
theorem q3166 : (Jvm.Cond.castable "WreckShares$Kind$3" "java/lang/Object") ∈ lw_tbl := lw_at lw_m13 162 rfl
theorem q3191 : (Jvm.Cond.castable "WreckShares$Kind$3" "WreckShares$Kind") ∈ lw_tbl := lw_at lw_m13 187 rfl

/-! WreckShares$Kind$4 -/
def RX16 : String := "WreckShares$Kind$4"
abbrev cX16_rate : ByteArray := prog_8_method_2_code
def yX16_rate : MethodName := ⟨RX16, "rate", "()I"⟩
theorem dX16_rate_0 : decode cX16_rate 0 = .ok (.bipush 50, 2) := by decide +kernel
theorem dX16_rate_2 : decode cX16_rate 2 = .ok (.ireturn, 1) := by decide +kernel
theorem q719 : (Jvm.Cond.selects "WreckShares$Kind$4" ({ cls := "java/lang/Object", name := "getClass", desc := "()Ljava/lang/Class;" } : Jvm.MethodName) ({ cls := "java/lang/Object", name := "getClass", desc := "()Ljava/lang/Class;" } : Jvm.MethodName)) ∈ lw_all := lw_g (lw_at lw_m3 115 rfl) rfl
theorem q1374 : (Jvm.Cond.selects "WreckShares$Kind$4" ({ cls := "java/lang/Object", name := "equals", desc := "(Ljava/lang/Object;)Z" } : Jvm.MethodName) ({ cls := "java/lang/Enum", name := "equals", desc := "(Ljava/lang/Object;)Z" } : Jvm.MethodName)) ∈ lw_all := lw_g (lw_at lw_m6 50 rfl) rfl
theorem q1588 : (Jvm.Cond.selects "WreckShares$Kind$4" ({ cls := "WreckShares$Kind", name := "rate", desc := "()I" } : Jvm.MethodName) ({ cls := "WreckShares$Kind$4", name := "rate", desc := "()I" } : Jvm.MethodName)) ∈ lw_all := lw_g (lw_at lw_m7 24 rfl) rfl
theorem q1589 : (Jvm.Cond.instanceMethod ({ cls := "WreckShares$Kind$4", name := "rate", desc := "()I" } : Jvm.MethodName)) ∈ lw_all := lw_g (lw_at lw_m7 25 rfl) rfl
theorem q1590 : (Jvm.Cond.code ({ cls := "WreckShares$Kind$4", name := "rate", desc := "()I" } : Jvm.MethodName) prog_8_method_2_code (1 : Nat) (Option.some Jvm.ClassFile.FieldType.int)) ∈ lw_all := lw_g (lw_at lw_m7 26 rfl) rfl
theorem q2057 : (Jvm.Cond.selects "WreckShares$Kind$4" ({ cls := "WreckShares$Kind", name := "ordinal", desc := "()I" } : Jvm.MethodName) ({ cls := "java/lang/Enum", name := "ordinal", desc := "()I" } : Jvm.MethodName)) ∈ lw_all := lw_g (lw_at lw_m9 13 rfl) rfl
theorem q3167 : (Jvm.Cond.castable "WreckShares$Kind$4" "java/lang/Object") ∈ lw_tbl := lw_at lw_m13 163 rfl
theorem q3192 : (Jvm.Cond.castable "WreckShares$Kind$4" "WreckShares$Kind") ∈ lw_tbl := lw_at lw_m13 188 rfl

