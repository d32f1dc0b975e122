/-! PrinterClaimsLaw -/
set_option maxRecDepth 100000
def RX0 : String := "PrinterClaimsLaw"
abbrev cX0_loadSystem : ByteArray := method_3_code
def yX0_loadSystem : MethodName := ⟨RX0, "loadSystem", "(LPrinterClaims;I[J)I"⟩
def dkwX0_loadSystem_0 : List UInt8 := [44, 3, 42, 27, 182, 0, 7, 133, 80, 167, 0, 6, 78, 4, 172, 3, 172]
abbrev dktX0_loadSystem_0 : List UInt8 := dkwX0_loadSystem_0 ++ []
theorem dksX0_loadSystem_0 : cX0_loadSystem.data.toList.drop 0 = dktX0_loadSystem_0 := by decide +kernel
theorem dX0_loadSystem_0 : decode cX0_loadSystem 0 = .ok (.aload_n 2, 1) := dk_44 (dk_at dksX0_loadSystem_0 0 rfl rfl)
theorem dX0_loadSystem_1 : decode cX0_loadSystem 1 = .ok (.iconst 0, 1) := dk_3 (dk_at dksX0_loadSystem_0 1 rfl rfl)
theorem dX0_loadSystem_2 : decode cX0_loadSystem 2 = .ok (.aload_n 0, 1) := dk_42 (dk_at dksX0_loadSystem_0 2 rfl rfl)
theorem dX0_loadSystem_3 : decode cX0_loadSystem 3 = .ok (.iload_n 1, 1) := dk_27 (dk_at dksX0_loadSystem_0 3 rfl rfl)
theorem dX0_loadSystem_4 : decode cX0_loadSystem 4 = .ok (.invokevirtual 7, 3) := dk_182 0 7 (dk_at dksX0_loadSystem_0 4 rfl rfl)
theorem dX0_loadSystem_7 : decode cX0_loadSystem 7 = .ok (.i2l, 1) := dk_133 (dk_at dksX0_loadSystem_0 7 rfl rfl)
theorem dX0_loadSystem_8 : decode cX0_loadSystem 8 = .ok (.lastore, 1) := dk_80 (dk_at dksX0_loadSystem_0 8 rfl rfl)
theorem dX0_loadSystem_9 : decode cX0_loadSystem 9 = .ok (.goto 6, 3) := dk_167 0 6 (dk_at dksX0_loadSystem_0 9 rfl rfl)
theorem dX0_loadSystem_12 : decode cX0_loadSystem 12 = .ok (.astore_n 3, 1) := dk_78 (dk_at dksX0_loadSystem_0 12 rfl rfl)
theorem dX0_loadSystem_13 : decode cX0_loadSystem 13 = .ok (.iconst 1, 1) := dk_4 (dk_at dksX0_loadSystem_0 13 rfl rfl)
theorem dX0_loadSystem_14 : decode cX0_loadSystem 14 = .ok (.ireturn, 1) := dk_172 (dk_at dksX0_loadSystem_0 14 rfl rfl)
theorem dX0_loadSystem_15 : decode cX0_loadSystem 15 = .ok (.iconst 0, 1) := dk_3 (dk_at dksX0_loadSystem_0 15 rfl rfl)
theorem dX0_loadSystem_16 : decode cX0_loadSystem 16 = .ok (.ireturn, 1) := dk_172 (dk_at dksX0_loadSystem_0 16 rfl rfl)
abbrev cX0_total : ByteArray := method_4_code
def yX0_total : MethodName := ⟨RX0, "total", "(LPrinterClaims;I[J)I"⟩
def dkwX0_total_0 : List UInt8 := [44, 3, 42, 27, 182, 0, 15, 133, 80, 167, 0, 6, 78, 4, 172, 3, 172]
abbrev dktX0_total_0 : List UInt8 := dkwX0_total_0 ++ []
theorem dksX0_total_0 : cX0_total.data.toList.drop 0 = dktX0_total_0 := by decide +kernel
theorem dX0_total_0 : decode cX0_total 0 = .ok (.aload_n 2, 1) := dk_44 (dk_at dksX0_total_0 0 rfl rfl)
theorem dX0_total_1 : decode cX0_total 1 = .ok (.iconst 0, 1) := dk_3 (dk_at dksX0_total_0 1 rfl rfl)
theorem dX0_total_2 : decode cX0_total 2 = .ok (.aload_n 0, 1) := dk_42 (dk_at dksX0_total_0 2 rfl rfl)
theorem dX0_total_3 : decode cX0_total 3 = .ok (.iload_n 1, 1) := dk_27 (dk_at dksX0_total_0 3 rfl rfl)
theorem dX0_total_4 : decode cX0_total 4 = .ok (.invokevirtual 15, 3) := dk_182 0 15 (dk_at dksX0_total_0 4 rfl rfl)
theorem dX0_total_7 : decode cX0_total 7 = .ok (.i2l, 1) := dk_133 (dk_at dksX0_total_0 7 rfl rfl)
theorem dX0_total_8 : decode cX0_total 8 = .ok (.lastore, 1) := dk_80 (dk_at dksX0_total_0 8 rfl rfl)
theorem dX0_total_9 : decode cX0_total 9 = .ok (.goto 6, 3) := dk_167 0 6 (dk_at dksX0_total_0 9 rfl rfl)
theorem dX0_total_12 : decode cX0_total 12 = .ok (.astore_n 3, 1) := dk_78 (dk_at dksX0_total_0 12 rfl rfl)
theorem dX0_total_13 : decode cX0_total 13 = .ok (.iconst 1, 1) := dk_4 (dk_at dksX0_total_0 13 rfl rfl)
theorem dX0_total_14 : decode cX0_total 14 = .ok (.ireturn, 1) := dk_172 (dk_at dksX0_total_0 14 rfl rfl)
theorem dX0_total_15 : decode cX0_total 15 = .ok (.iconst 0, 1) := dk_3 (dk_at dksX0_total_0 15 rfl rfl)
theorem dX0_total_16 : decode cX0_total 16 = .ok (.ireturn, 1) := dk_172 (dk_at dksX0_total_0 16 rfl rfl)
abbrev cX0_available : ByteArray := method_5_code
def yX0_available : MethodName := ⟨RX0, "available", "(LPrinterClaims;I[J)I"⟩
def dkwX0_available_0 : List UInt8 := [44, 3, 42, 27, 182, 0, 20, 133, 80, 167, 0, 6, 78, 4, 172, 3, 172]
abbrev dktX0_available_0 : List UInt8 := dkwX0_available_0 ++ []
theorem dksX0_available_0 : cX0_available.data.toList.drop 0 = dktX0_available_0 := by decide +kernel
theorem dX0_available_0 : decode cX0_available 0 = .ok (.aload_n 2, 1) := dk_44 (dk_at dksX0_available_0 0 rfl rfl)
theorem dX0_available_1 : decode cX0_available 1 = .ok (.iconst 0, 1) := dk_3 (dk_at dksX0_available_0 1 rfl rfl)
theorem dX0_available_2 : decode cX0_available 2 = .ok (.aload_n 0, 1) := dk_42 (dk_at dksX0_available_0 2 rfl rfl)
theorem dX0_available_3 : decode cX0_available 3 = .ok (.iload_n 1, 1) := dk_27 (dk_at dksX0_available_0 3 rfl rfl)
theorem dX0_available_4 : decode cX0_available 4 = .ok (.invokevirtual 20, 3) := dk_182 0 20 (dk_at dksX0_available_0 4 rfl rfl)
theorem dX0_available_7 : decode cX0_available 7 = .ok (.i2l, 1) := dk_133 (dk_at dksX0_available_0 7 rfl rfl)
theorem dX0_available_8 : decode cX0_available 8 = .ok (.lastore, 1) := dk_80 (dk_at dksX0_available_0 8 rfl rfl)
theorem dX0_available_9 : decode cX0_available 9 = .ok (.goto 6, 3) := dk_167 0 6 (dk_at dksX0_available_0 9 rfl rfl)
theorem dX0_available_12 : decode cX0_available 12 = .ok (.astore_n 3, 1) := dk_78 (dk_at dksX0_available_0 12 rfl rfl)
theorem dX0_available_13 : decode cX0_available 13 = .ok (.iconst 1, 1) := dk_4 (dk_at dksX0_available_0 13 rfl rfl)
theorem dX0_available_14 : decode cX0_available 14 = .ok (.ireturn, 1) := dk_172 (dk_at dksX0_available_0 14 rfl rfl)
theorem dX0_available_15 : decode cX0_available 15 = .ok (.iconst 0, 1) := dk_3 (dk_at dksX0_available_0 15 rfl rfl)
theorem dX0_available_16 : decode cX0_available 16 = .ok (.ireturn, 1) := dk_172 (dk_at dksX0_available_0 16 rfl rfl)
abbrev cX0_claimedInAll : ByteArray := method_6_code
def yX0_claimedInAll : MethodName := ⟨RX0, "claimedInAll", "(LPrinterClaims;I[J)I"⟩
def dkwX0_claimedInAll_0 : List UInt8 := [44, 3, 42, 27, 182, 0, 23, 133, 80, 167, 0, 6, 78, 4, 172, 3, 172]
abbrev dktX0_claimedInAll_0 : List UInt8 := dkwX0_claimedInAll_0 ++ []
theorem dksX0_claimedInAll_0 : cX0_claimedInAll.data.toList.drop 0 = dktX0_claimedInAll_0 := by decide +kernel
theorem dX0_claimedInAll_0 : decode cX0_claimedInAll 0 = .ok (.aload_n 2, 1) := dk_44 (dk_at dksX0_claimedInAll_0 0 rfl rfl)
theorem dX0_claimedInAll_1 : decode cX0_claimedInAll 1 = .ok (.iconst 0, 1) := dk_3 (dk_at dksX0_claimedInAll_0 1 rfl rfl)
theorem dX0_claimedInAll_2 : decode cX0_claimedInAll 2 = .ok (.aload_n 0, 1) := dk_42 (dk_at dksX0_claimedInAll_0 2 rfl rfl)
theorem dX0_claimedInAll_3 : decode cX0_claimedInAll 3 = .ok (.iload_n 1, 1) := dk_27 (dk_at dksX0_claimedInAll_0 3 rfl rfl)
theorem dX0_claimedInAll_4 : decode cX0_claimedInAll 4 = .ok (.invokevirtual 23, 3) := dk_182 0 23 (dk_at dksX0_claimedInAll_0 4 rfl rfl)
theorem dX0_claimedInAll_7 : decode cX0_claimedInAll 7 = .ok (.i2l, 1) := dk_133 (dk_at dksX0_claimedInAll_0 7 rfl rfl)
theorem dX0_claimedInAll_8 : decode cX0_claimedInAll 8 = .ok (.lastore, 1) := dk_80 (dk_at dksX0_claimedInAll_0 8 rfl rfl)
theorem dX0_claimedInAll_9 : decode cX0_claimedInAll 9 = .ok (.goto 6, 3) := dk_167 0 6 (dk_at dksX0_claimedInAll_0 9 rfl rfl)
theorem dX0_claimedInAll_12 : decode cX0_claimedInAll 12 = .ok (.astore_n 3, 1) := dk_78 (dk_at dksX0_claimedInAll_0 12 rfl rfl)
theorem dX0_claimedInAll_13 : decode cX0_claimedInAll 13 = .ok (.iconst 1, 1) := dk_4 (dk_at dksX0_claimedInAll_0 13 rfl rfl)
theorem dX0_claimedInAll_14 : decode cX0_claimedInAll 14 = .ok (.ireturn, 1) := dk_172 (dk_at dksX0_claimedInAll_0 14 rfl rfl)
theorem dX0_claimedInAll_15 : decode cX0_claimedInAll 15 = .ok (.iconst 0, 1) := dk_3 (dk_at dksX0_claimedInAll_0 15 rfl rfl)
theorem dX0_claimedInAll_16 : decode cX0_claimedInAll 16 = .ok (.ireturn, 1) := dk_172 (dk_at dksX0_claimedInAll_0 16 rfl rfl)
abbrev cX0_claim : ByteArray := method_7_code
def yX0_claim : MethodName := ⟨RX0, "claim", "(LPrinterClaims;II[J)I"⟩
def dkwX0_claim_0 : List UInt8 := [45, 3, 42, 27, 28, 182, 0, 26, 133, 80, 167, 0, 7, 58, 4, 4, 172, 3, 172]
abbrev dktX0_claim_0 : List UInt8 := dkwX0_claim_0 ++ []
theorem dksX0_claim_0 : cX0_claim.data.toList.drop 0 = dktX0_claim_0 := by decide +kernel
theorem dX0_claim_0 : decode cX0_claim 0 = .ok (.aload_n 3, 1) := dk_45 (dk_at dksX0_claim_0 0 rfl rfl)
theorem dX0_claim_1 : decode cX0_claim 1 = .ok (.iconst 0, 1) := dk_3 (dk_at dksX0_claim_0 1 rfl rfl)
theorem dX0_claim_2 : decode cX0_claim 2 = .ok (.aload_n 0, 1) := dk_42 (dk_at dksX0_claim_0 2 rfl rfl)
theorem dX0_claim_3 : decode cX0_claim 3 = .ok (.iload_n 1, 1) := dk_27 (dk_at dksX0_claim_0 3 rfl rfl)
theorem dX0_claim_4 : decode cX0_claim 4 = .ok (.iload_n 2, 1) := dk_28 (dk_at dksX0_claim_0 4 rfl rfl)
theorem dX0_claim_5 : decode cX0_claim 5 = .ok (.invokevirtual 26, 3) := dk_182 0 26 (dk_at dksX0_claim_0 5 rfl rfl)
theorem dX0_claim_8 : decode cX0_claim 8 = .ok (.i2l, 1) := dk_133 (dk_at dksX0_claim_0 8 rfl rfl)
theorem dX0_claim_9 : decode cX0_claim 9 = .ok (.lastore, 1) := dk_80 (dk_at dksX0_claim_0 9 rfl rfl)
theorem dX0_claim_10 : decode cX0_claim 10 = .ok (.goto 7, 3) := dk_167 0 7 (dk_at dksX0_claim_0 10 rfl rfl)
theorem dX0_claim_13 : decode cX0_claim 13 = .ok (.astore 4, 2) := dk_58 4 (dk_at dksX0_claim_0 13 rfl rfl)
theorem dX0_claim_15 : decode cX0_claim 15 = .ok (.iconst 1, 1) := dk_4 (dk_at dksX0_claim_0 15 rfl rfl)
theorem dX0_claim_16 : decode cX0_claim 16 = .ok (.ireturn, 1) := dk_172 (dk_at dksX0_claim_0 16 rfl rfl)
theorem dX0_claim_17 : decode cX0_claim 17 = .ok (.iconst 0, 1) := dk_3 (dk_at dksX0_claim_0 17 rfl rfl)
theorem dX0_claim_18 : decode cX0_claim 18 = .ok (.ireturn, 1) := dk_172 (dk_at dksX0_claim_0 18 rfl rfl)
abbrev cX0_allocated : ByteArray := method_8_code
def yX0_allocated : MethodName := ⟨RX0, "allocated", "(LPrinterClaims;II[J)I"⟩
def dkwX0_allocated_0 : List UInt8 := [45, 3, 42, 27, 28, 182, 0, 30, 133, 80, 167, 0, 7, 58, 4, 4, 172, 3, 172]
abbrev dktX0_allocated_0 : List UInt8 := dkwX0_allocated_0 ++ []
theorem dksX0_allocated_0 : cX0_allocated.data.toList.drop 0 = dktX0_allocated_0 := by decide +kernel
theorem dX0_allocated_0 : decode cX0_allocated 0 = .ok (.aload_n 3, 1) := dk_45 (dk_at dksX0_allocated_0 0 rfl rfl)
theorem dX0_allocated_1 : decode cX0_allocated 1 = .ok (.iconst 0, 1) := dk_3 (dk_at dksX0_allocated_0 1 rfl rfl)
theorem dX0_allocated_2 : decode cX0_allocated 2 = .ok (.aload_n 0, 1) := dk_42 (dk_at dksX0_allocated_0 2 rfl rfl)
theorem dX0_allocated_3 : decode cX0_allocated 3 = .ok (.iload_n 1, 1) := dk_27 (dk_at dksX0_allocated_0 3 rfl rfl)
theorem dX0_allocated_4 : decode cX0_allocated 4 = .ok (.iload_n 2, 1) := dk_28 (dk_at dksX0_allocated_0 4 rfl rfl)
theorem dX0_allocated_5 : decode cX0_allocated 5 = .ok (.invokevirtual 30, 3) := dk_182 0 30 (dk_at dksX0_allocated_0 5 rfl rfl)
theorem dX0_allocated_8 : decode cX0_allocated 8 = .ok (.i2l, 1) := dk_133 (dk_at dksX0_allocated_0 8 rfl rfl)
theorem dX0_allocated_9 : decode cX0_allocated 9 = .ok (.lastore, 1) := dk_80 (dk_at dksX0_allocated_0 9 rfl rfl)
theorem dX0_allocated_10 : decode cX0_allocated 10 = .ok (.goto 7, 3) := dk_167 0 7 (dk_at dksX0_allocated_0 10 rfl rfl)
theorem dX0_allocated_13 : decode cX0_allocated 13 = .ok (.astore 4, 2) := dk_58 4 (dk_at dksX0_allocated_0 13 rfl rfl)
theorem dX0_allocated_15 : decode cX0_allocated 15 = .ok (.iconst 1, 1) := dk_4 (dk_at dksX0_allocated_0 15 rfl rfl)
theorem dX0_allocated_16 : decode cX0_allocated 16 = .ok (.ireturn, 1) := dk_172 (dk_at dksX0_allocated_0 16 rfl rfl)
theorem dX0_allocated_17 : decode cX0_allocated 17 = .ok (.iconst 0, 1) := dk_3 (dk_at dksX0_allocated_0 17 rfl rfl)
theorem dX0_allocated_18 : decode cX0_allocated 18 = .ok (.ireturn, 1) := dk_172 (dk_at dksX0_allocated_0 18 rfl rfl)
abbrev cX0_need : ByteArray := method_9_code
def yX0_need : MethodName := ⟨RX0, "need", "(LPrinterClaims;II[J)I"⟩
def dkwX0_need_0 : List UInt8 := [45, 3, 42, 27, 28, 182, 0, 33, 133, 80, 167, 0, 7, 58, 4, 4, 172, 3, 172]
abbrev dktX0_need_0 : List UInt8 := dkwX0_need_0 ++ []
theorem dksX0_need_0 : cX0_need.data.toList.drop 0 = dktX0_need_0 := by decide +kernel
theorem dX0_need_0 : decode cX0_need 0 = .ok (.aload_n 3, 1) := dk_45 (dk_at dksX0_need_0 0 rfl rfl)
theorem dX0_need_1 : decode cX0_need 1 = .ok (.iconst 0, 1) := dk_3 (dk_at dksX0_need_0 1 rfl rfl)
theorem dX0_need_2 : decode cX0_need 2 = .ok (.aload_n 0, 1) := dk_42 (dk_at dksX0_need_0 2 rfl rfl)
theorem dX0_need_3 : decode cX0_need 3 = .ok (.iload_n 1, 1) := dk_27 (dk_at dksX0_need_0 3 rfl rfl)
theorem dX0_need_4 : decode cX0_need 4 = .ok (.iload_n 2, 1) := dk_28 (dk_at dksX0_need_0 4 rfl rfl)
theorem dX0_need_5 : decode cX0_need 5 = .ok (.invokevirtual 33, 3) := dk_182 0 33 (dk_at dksX0_need_0 5 rfl rfl)
theorem dX0_need_8 : decode cX0_need 8 = .ok (.i2l, 1) := dk_133 (dk_at dksX0_need_0 8 rfl rfl)
theorem dX0_need_9 : decode cX0_need 9 = .ok (.lastore, 1) := dk_80 (dk_at dksX0_need_0 9 rfl rfl)
theorem dX0_need_10 : decode cX0_need 10 = .ok (.goto 7, 3) := dk_167 0 7 (dk_at dksX0_need_0 10 rfl rfl)
theorem dX0_need_13 : decode cX0_need 13 = .ok (.astore 4, 2) := dk_58 4 (dk_at dksX0_need_0 13 rfl rfl)
theorem dX0_need_15 : decode cX0_need 15 = .ok (.iconst 1, 1) := dk_4 (dk_at dksX0_need_0 15 rfl rfl)
theorem dX0_need_16 : decode cX0_need 16 = .ok (.ireturn, 1) := dk_172 (dk_at dksX0_need_0 16 rfl rfl)
theorem dX0_need_17 : decode cX0_need 17 = .ok (.iconst 0, 1) := dk_3 (dk_at dksX0_need_0 17 rfl rfl)
theorem dX0_need_18 : decode cX0_need 18 = .ok (.ireturn, 1) := dk_172 (dk_at dksX0_need_0 18 rfl rfl)
abbrev cX0_canFinish : ByteArray := method_10_code
def yX0_canFinish : MethodName := ⟨RX0, "canFinish", "(LPrinterClaims;I[J)I"⟩
def dkwX0_canFinish_0 : List UInt8 := [44, 3, 42, 27, 182, 0, 36, 153, 0, 7, 10, 167, 0, 4, 9, 80, 167, 0, 6, 78, 4, 172, 3, 172]
abbrev dktX0_canFinish_0 : List UInt8 := dkwX0_canFinish_0 ++ []
theorem dksX0_canFinish_0 : cX0_canFinish.data.toList.drop 0 = dktX0_canFinish_0 := by decide +kernel
theorem dX0_canFinish_0 : decode cX0_canFinish 0 = .ok (.aload_n 2, 1) := dk_44 (dk_at dksX0_canFinish_0 0 rfl rfl)
theorem dX0_canFinish_1 : decode cX0_canFinish 1 = .ok (.iconst 0, 1) := dk_3 (dk_at dksX0_canFinish_0 1 rfl rfl)
theorem dX0_canFinish_2 : decode cX0_canFinish 2 = .ok (.aload_n 0, 1) := dk_42 (dk_at dksX0_canFinish_0 2 rfl rfl)
theorem dX0_canFinish_3 : decode cX0_canFinish 3 = .ok (.iload_n 1, 1) := dk_27 (dk_at dksX0_canFinish_0 3 rfl rfl)
theorem dX0_canFinish_4 : decode cX0_canFinish 4 = .ok (.invokevirtual 36, 3) := dk_182 0 36 (dk_at dksX0_canFinish_0 4 rfl rfl)
theorem dX0_canFinish_7 : decode cX0_canFinish 7 = .ok (.ifCond .eq 7, 3) := dk_153 0 7 (dk_at dksX0_canFinish_0 7 rfl rfl)
theorem dX0_canFinish_10 : decode cX0_canFinish 10 = .ok (.lconst 1, 1) := dk_10 (dk_at dksX0_canFinish_0 10 rfl rfl)
theorem dX0_canFinish_11 : decode cX0_canFinish 11 = .ok (.goto 4, 3) := dk_167 0 4 (dk_at dksX0_canFinish_0 11 rfl rfl)
theorem dX0_canFinish_14 : decode cX0_canFinish 14 = .ok (.lconst 0, 1) := dk_9 (dk_at dksX0_canFinish_0 14 rfl rfl)
theorem dX0_canFinish_15 : decode cX0_canFinish 15 = .ok (.lastore, 1) := dk_80 (dk_at dksX0_canFinish_0 15 rfl rfl)
theorem dX0_canFinish_16 : decode cX0_canFinish 16 = .ok (.goto 6, 3) := dk_167 0 6 (dk_at dksX0_canFinish_0 16 rfl rfl)
theorem dX0_canFinish_19 : decode cX0_canFinish 19 = .ok (.astore_n 3, 1) := dk_78 (dk_at dksX0_canFinish_0 19 rfl rfl)
theorem dX0_canFinish_20 : decode cX0_canFinish 20 = .ok (.iconst 1, 1) := dk_4 (dk_at dksX0_canFinish_0 20 rfl rfl)
theorem dX0_canFinish_21 : decode cX0_canFinish 21 = .ok (.ireturn, 1) := dk_172 (dk_at dksX0_canFinish_0 21 rfl rfl)
theorem dX0_canFinish_22 : decode cX0_canFinish 22 = .ok (.iconst 0, 1) := dk_3 (dk_at dksX0_canFinish_0 22 rfl rfl)
theorem dX0_canFinish_23 : decode cX0_canFinish 23 = .ok (.ireturn, 1) := dk_172 (dk_at dksX0_canFinish_0 23 rfl rfl)
abbrev cX0_waitsForKind : ByteArray := method_11_code
def yX0_waitsForKind : MethodName := ⟨RX0, "waitsForKind", "(LPrinterClaims;I[J)I"⟩
def dkwX0_waitsForKind_0 : List UInt8 := [44, 3, 42, 27, 182, 0, 40, 133, 80, 167, 0, 6, 78, 4, 172, 3, 172]
abbrev dktX0_waitsForKind_0 : List UInt8 := dkwX0_waitsForKind_0 ++ []
theorem dksX0_waitsForKind_0 : cX0_waitsForKind.data.toList.drop 0 = dktX0_waitsForKind_0 := by decide +kernel
theorem dX0_waitsForKind_0 : decode cX0_waitsForKind 0 = .ok (.aload_n 2, 1) := dk_44 (dk_at dksX0_waitsForKind_0 0 rfl rfl)
theorem dX0_waitsForKind_1 : decode cX0_waitsForKind 1 = .ok (.iconst 0, 1) := dk_3 (dk_at dksX0_waitsForKind_0 1 rfl rfl)
theorem dX0_waitsForKind_2 : decode cX0_waitsForKind 2 = .ok (.aload_n 0, 1) := dk_42 (dk_at dksX0_waitsForKind_0 2 rfl rfl)
theorem dX0_waitsForKind_3 : decode cX0_waitsForKind 3 = .ok (.iload_n 1, 1) := dk_27 (dk_at dksX0_waitsForKind_0 3 rfl rfl)
theorem dX0_waitsForKind_4 : decode cX0_waitsForKind 4 = .ok (.invokevirtual 40, 3) := dk_182 0 40 (dk_at dksX0_waitsForKind_0 4 rfl rfl)
theorem dX0_waitsForKind_7 : decode cX0_waitsForKind 7 = .ok (.i2l, 1) := dk_133 (dk_at dksX0_waitsForKind_0 7 rfl rfl)
theorem dX0_waitsForKind_8 : decode cX0_waitsForKind 8 = .ok (.lastore, 1) := dk_80 (dk_at dksX0_waitsForKind_0 8 rfl rfl)
theorem dX0_waitsForKind_9 : decode cX0_waitsForKind 9 = .ok (.goto 6, 3) := dk_167 0 6 (dk_at dksX0_waitsForKind_0 9 rfl rfl)
theorem dX0_waitsForKind_12 : decode cX0_waitsForKind 12 = .ok (.astore_n 3, 1) := dk_78 (dk_at dksX0_waitsForKind_0 12 rfl rfl)
theorem dX0_waitsForKind_13 : decode cX0_waitsForKind 13 = .ok (.iconst 1, 1) := dk_4 (dk_at dksX0_waitsForKind_0 13 rfl rfl)
theorem dX0_waitsForKind_14 : decode cX0_waitsForKind 14 = .ok (.ireturn, 1) := dk_172 (dk_at dksX0_waitsForKind_0 14 rfl rfl)
theorem dX0_waitsForKind_15 : decode cX0_waitsForKind 15 = .ok (.iconst 0, 1) := dk_3 (dk_at dksX0_waitsForKind_0 15 rfl rfl)
theorem dX0_waitsForKind_16 : decode cX0_waitsForKind 16 = .ok (.ireturn, 1) := dk_172 (dk_at dksX0_waitsForKind_0 16 rfl rfl)
abbrev cX0_waitsForCount : ByteArray := method_12_code
def yX0_waitsForCount : MethodName := ⟨RX0, "waitsForCount", "(LPrinterClaims;I[J)I"⟩
def dkwX0_waitsForCount_0 : List UInt8 := [44, 3, 42, 27, 182, 0, 43, 133, 80, 167, 0, 6, 78, 4, 172, 3, 172]
abbrev dktX0_waitsForCount_0 : List UInt8 := dkwX0_waitsForCount_0 ++ []
theorem dksX0_waitsForCount_0 : cX0_waitsForCount.data.toList.drop 0 = dktX0_waitsForCount_0 := by decide +kernel
theorem dX0_waitsForCount_0 : decode cX0_waitsForCount 0 = .ok (.aload_n 2, 1) := dk_44 (dk_at dksX0_waitsForCount_0 0 rfl rfl)
theorem dX0_waitsForCount_1 : decode cX0_waitsForCount 1 = .ok (.iconst 0, 1) := dk_3 (dk_at dksX0_waitsForCount_0 1 rfl rfl)
theorem dX0_waitsForCount_2 : decode cX0_waitsForCount 2 = .ok (.aload_n 0, 1) := dk_42 (dk_at dksX0_waitsForCount_0 2 rfl rfl)
theorem dX0_waitsForCount_3 : decode cX0_waitsForCount 3 = .ok (.iload_n 1, 1) := dk_27 (dk_at dksX0_waitsForCount_0 3 rfl rfl)
theorem dX0_waitsForCount_4 : decode cX0_waitsForCount 4 = .ok (.invokevirtual 43, 3) := dk_182 0 43 (dk_at dksX0_waitsForCount_0 4 rfl rfl)
theorem dX0_waitsForCount_7 : decode cX0_waitsForCount 7 = .ok (.i2l, 1) := dk_133 (dk_at dksX0_waitsForCount_0 7 rfl rfl)
theorem dX0_waitsForCount_8 : decode cX0_waitsForCount 8 = .ok (.lastore, 1) := dk_80 (dk_at dksX0_waitsForCount_0 8 rfl rfl)
theorem dX0_waitsForCount_9 : decode cX0_waitsForCount 9 = .ok (.goto 6, 3) := dk_167 0 6 (dk_at dksX0_waitsForCount_0 9 rfl rfl)
theorem dX0_waitsForCount_12 : decode cX0_waitsForCount 12 = .ok (.astore_n 3, 1) := dk_78 (dk_at dksX0_waitsForCount_0 12 rfl rfl)
theorem dX0_waitsForCount_13 : decode cX0_waitsForCount 13 = .ok (.iconst 1, 1) := dk_4 (dk_at dksX0_waitsForCount_0 13 rfl rfl)
theorem dX0_waitsForCount_14 : decode cX0_waitsForCount 14 = .ok (.ireturn, 1) := dk_172 (dk_at dksX0_waitsForCount_0 14 rfl rfl)
theorem dX0_waitsForCount_15 : decode cX0_waitsForCount 15 = .ok (.iconst 0, 1) := dk_3 (dk_at dksX0_waitsForCount_0 15 rfl rfl)
theorem dX0_waitsForCount_16 : decode cX0_waitsForCount 16 = .ok (.ireturn, 1) := dk_172 (dk_at dksX0_waitsForCount_0 16 rfl rfl)
abbrev cX0_waitedPrinters : ByteArray := method_13_code
def yX0_waitedPrinters : MethodName := ⟨RX0, "waitedPrinters", "(LPrinterClaims;I[J)I"⟩
def dkwX0_waitedPrinters_0 : List UInt8 := [44, 3, 42, 27, 182, 0, 46, 133, 80, 167, 0, 6, 78, 4, 172, 3, 172]
abbrev dktX0_waitedPrinters_0 : List UInt8 := dkwX0_waitedPrinters_0 ++ []
theorem dksX0_waitedPrinters_0 : cX0_waitedPrinters.data.toList.drop 0 = dktX0_waitedPrinters_0 := by decide +kernel
theorem dX0_waitedPrinters_0 : decode cX0_waitedPrinters 0 = .ok (.aload_n 2, 1) := dk_44 (dk_at dksX0_waitedPrinters_0 0 rfl rfl)
theorem dX0_waitedPrinters_1 : decode cX0_waitedPrinters 1 = .ok (.iconst 0, 1) := dk_3 (dk_at dksX0_waitedPrinters_0 1 rfl rfl)
theorem dX0_waitedPrinters_2 : decode cX0_waitedPrinters 2 = .ok (.aload_n 0, 1) := dk_42 (dk_at dksX0_waitedPrinters_0 2 rfl rfl)
theorem dX0_waitedPrinters_3 : decode cX0_waitedPrinters 3 = .ok (.iload_n 1, 1) := dk_27 (dk_at dksX0_waitedPrinters_0 3 rfl rfl)
theorem dX0_waitedPrinters_4 : decode cX0_waitedPrinters 4 = .ok (.invokevirtual 46, 3) := dk_182 0 46 (dk_at dksX0_waitedPrinters_0 4 rfl rfl)
theorem dX0_waitedPrinters_7 : decode cX0_waitedPrinters 7 = .ok (.i2l, 1) := dk_133 (dk_at dksX0_waitedPrinters_0 7 rfl rfl)
theorem dX0_waitedPrinters_8 : decode cX0_waitedPrinters 8 = .ok (.lastore, 1) := dk_80 (dk_at dksX0_waitedPrinters_0 8 rfl rfl)
theorem dX0_waitedPrinters_9 : decode cX0_waitedPrinters 9 = .ok (.goto 6, 3) := dk_167 0 6 (dk_at dksX0_waitedPrinters_0 9 rfl rfl)
theorem dX0_waitedPrinters_12 : decode cX0_waitedPrinters 12 = .ok (.astore_n 3, 1) := dk_78 (dk_at dksX0_waitedPrinters_0 12 rfl rfl)
theorem dX0_waitedPrinters_13 : decode cX0_waitedPrinters 13 = .ok (.iconst 1, 1) := dk_4 (dk_at dksX0_waitedPrinters_0 13 rfl rfl)
theorem dX0_waitedPrinters_14 : decode cX0_waitedPrinters 14 = .ok (.ireturn, 1) := dk_172 (dk_at dksX0_waitedPrinters_0 14 rfl rfl)
theorem dX0_waitedPrinters_15 : decode cX0_waitedPrinters 15 = .ok (.iconst 0, 1) := dk_3 (dk_at dksX0_waitedPrinters_0 15 rfl rfl)
theorem dX0_waitedPrinters_16 : decode cX0_waitedPrinters 16 = .ok (.ireturn, 1) := dk_172 (dk_at dksX0_waitedPrinters_0 16 rfl rfl)
abbrev cX0_waitReason : ByteArray := method_14_code
def yX0_waitReason : MethodName := ⟨RX0, "waitReason", "(LPrinterClaims;I[J)I"⟩
def dkwX0_waitReason_0 : List UInt8 := [44, 3, 42, 27, 182, 0, 49, 133, 80, 167, 0, 6, 78, 4, 172, 3, 172]
abbrev dktX0_waitReason_0 : List UInt8 := dkwX0_waitReason_0 ++ []
theorem dksX0_waitReason_0 : cX0_waitReason.data.toList.drop 0 = dktX0_waitReason_0 := by decide +kernel
theorem dX0_waitReason_0 : decode cX0_waitReason 0 = .ok (.aload_n 2, 1) := dk_44 (dk_at dksX0_waitReason_0 0 rfl rfl)
theorem dX0_waitReason_1 : decode cX0_waitReason 1 = .ok (.iconst 0, 1) := dk_3 (dk_at dksX0_waitReason_0 1 rfl rfl)
theorem dX0_waitReason_2 : decode cX0_waitReason 2 = .ok (.aload_n 0, 1) := dk_42 (dk_at dksX0_waitReason_0 2 rfl rfl)
theorem dX0_waitReason_3 : decode cX0_waitReason 3 = .ok (.iload_n 1, 1) := dk_27 (dk_at dksX0_waitReason_0 3 rfl rfl)
theorem dX0_waitReason_4 : decode cX0_waitReason 4 = .ok (.invokevirtual 49, 3) := dk_182 0 49 (dk_at dksX0_waitReason_0 4 rfl rfl)
theorem dX0_waitReason_7 : decode cX0_waitReason 7 = .ok (.i2l, 1) := dk_133 (dk_at dksX0_waitReason_0 7 rfl rfl)
theorem dX0_waitReason_8 : decode cX0_waitReason 8 = .ok (.lastore, 1) := dk_80 (dk_at dksX0_waitReason_0 8 rfl rfl)
theorem dX0_waitReason_9 : decode cX0_waitReason 9 = .ok (.goto 6, 3) := dk_167 0 6 (dk_at dksX0_waitReason_0 9 rfl rfl)
theorem dX0_waitReason_12 : decode cX0_waitReason 12 = .ok (.astore_n 3, 1) := dk_78 (dk_at dksX0_waitReason_0 12 rfl rfl)
theorem dX0_waitReason_13 : decode cX0_waitReason 13 = .ok (.iconst 1, 1) := dk_4 (dk_at dksX0_waitReason_0 13 rfl rfl)
theorem dX0_waitReason_14 : decode cX0_waitReason 14 = .ok (.ireturn, 1) := dk_172 (dk_at dksX0_waitReason_0 14 rfl rfl)
theorem dX0_waitReason_15 : decode cX0_waitReason 15 = .ok (.iconst 0, 1) := dk_3 (dk_at dksX0_waitReason_0 15 rfl rfl)
theorem dX0_waitReason_16 : decode cX0_waitReason 16 = .ok (.ireturn, 1) := dk_172 (dk_at dksX0_waitReason_0 16 rfl rfl)
abbrev cX0_sequenceOffice : ByteArray := method_15_code
def yX0_sequenceOffice : MethodName := ⟨RX0, "sequenceOffice", "(LPrinterClaims;I[J)I"⟩
def dkwX0_sequenceOffice_0 : List UInt8 := [44, 3, 42, 27, 182, 0, 52, 133, 80, 167, 0, 6, 78, 4, 172, 3, 172]
abbrev dktX0_sequenceOffice_0 : List UInt8 := dkwX0_sequenceOffice_0 ++ []
theorem dksX0_sequenceOffice_0 : cX0_sequenceOffice.data.toList.drop 0 = dktX0_sequenceOffice_0 := by decide +kernel
theorem dX0_sequenceOffice_0 : decode cX0_sequenceOffice 0 = .ok (.aload_n 2, 1) := dk_44 (dk_at dksX0_sequenceOffice_0 0 rfl rfl)
theorem dX0_sequenceOffice_1 : decode cX0_sequenceOffice 1 = .ok (.iconst 0, 1) := dk_3 (dk_at dksX0_sequenceOffice_0 1 rfl rfl)
theorem dX0_sequenceOffice_2 : decode cX0_sequenceOffice 2 = .ok (.aload_n 0, 1) := dk_42 (dk_at dksX0_sequenceOffice_0 2 rfl rfl)
theorem dX0_sequenceOffice_3 : decode cX0_sequenceOffice 3 = .ok (.iload_n 1, 1) := dk_27 (dk_at dksX0_sequenceOffice_0 3 rfl rfl)
theorem dX0_sequenceOffice_4 : decode cX0_sequenceOffice 4 = .ok (.invokevirtual 52, 3) := dk_182 0 52 (dk_at dksX0_sequenceOffice_0 4 rfl rfl)
theorem dX0_sequenceOffice_7 : decode cX0_sequenceOffice 7 = .ok (.i2l, 1) := dk_133 (dk_at dksX0_sequenceOffice_0 7 rfl rfl)
theorem dX0_sequenceOffice_8 : decode cX0_sequenceOffice 8 = .ok (.lastore, 1) := dk_80 (dk_at dksX0_sequenceOffice_0 8 rfl rfl)
theorem dX0_sequenceOffice_9 : decode cX0_sequenceOffice 9 = .ok (.goto 6, 3) := dk_167 0 6 (dk_at dksX0_sequenceOffice_0 9 rfl rfl)
theorem dX0_sequenceOffice_12 : decode cX0_sequenceOffice 12 = .ok (.astore_n 3, 1) := dk_78 (dk_at dksX0_sequenceOffice_0 12 rfl rfl)
theorem dX0_sequenceOffice_13 : decode cX0_sequenceOffice 13 = .ok (.iconst 1, 1) := dk_4 (dk_at dksX0_sequenceOffice_0 13 rfl rfl)
theorem dX0_sequenceOffice_14 : decode cX0_sequenceOffice 14 = .ok (.ireturn, 1) := dk_172 (dk_at dksX0_sequenceOffice_0 14 rfl rfl)
theorem dX0_sequenceOffice_15 : decode cX0_sequenceOffice 15 = .ok (.iconst 0, 1) := dk_3 (dk_at dksX0_sequenceOffice_0 15 rfl rfl)
theorem dX0_sequenceOffice_16 : decode cX0_sequenceOffice 16 = .ok (.ireturn, 1) := dk_172 (dk_at dksX0_sequenceOffice_0 16 rfl rfl)
abbrev cX0_sequenceAvailable : ByteArray := method_16_code
def yX0_sequenceAvailable : MethodName := ⟨RX0, "sequenceAvailable", "(LPrinterClaims;II[J)I"⟩
def dkwX0_sequenceAvailable_0 : List UInt8 := [45, 3, 42, 27, 28, 182, 0, 55, 133, 80, 167, 0, 7, 58, 4, 4, 172, 3, 172]
abbrev dktX0_sequenceAvailable_0 : List UInt8 := dkwX0_sequenceAvailable_0 ++ []
theorem dksX0_sequenceAvailable_0 : cX0_sequenceAvailable.data.toList.drop 0 = dktX0_sequenceAvailable_0 := by decide +kernel
theorem dX0_sequenceAvailable_0 : decode cX0_sequenceAvailable 0 = .ok (.aload_n 3, 1) := dk_45 (dk_at dksX0_sequenceAvailable_0 0 rfl rfl)
theorem dX0_sequenceAvailable_1 : decode cX0_sequenceAvailable 1 = .ok (.iconst 0, 1) := dk_3 (dk_at dksX0_sequenceAvailable_0 1 rfl rfl)
theorem dX0_sequenceAvailable_2 : decode cX0_sequenceAvailable 2 = .ok (.aload_n 0, 1) := dk_42 (dk_at dksX0_sequenceAvailable_0 2 rfl rfl)
theorem dX0_sequenceAvailable_3 : decode cX0_sequenceAvailable 3 = .ok (.iload_n 1, 1) := dk_27 (dk_at dksX0_sequenceAvailable_0 3 rfl rfl)
theorem dX0_sequenceAvailable_4 : decode cX0_sequenceAvailable 4 = .ok (.iload_n 2, 1) := dk_28 (dk_at dksX0_sequenceAvailable_0 4 rfl rfl)
theorem dX0_sequenceAvailable_5 : decode cX0_sequenceAvailable 5 = .ok (.invokevirtual 55, 3) := dk_182 0 55 (dk_at dksX0_sequenceAvailable_0 5 rfl rfl)
theorem dX0_sequenceAvailable_8 : decode cX0_sequenceAvailable 8 = .ok (.i2l, 1) := dk_133 (dk_at dksX0_sequenceAvailable_0 8 rfl rfl)
theorem dX0_sequenceAvailable_9 : decode cX0_sequenceAvailable 9 = .ok (.lastore, 1) := dk_80 (dk_at dksX0_sequenceAvailable_0 9 rfl rfl)
theorem dX0_sequenceAvailable_10 : decode cX0_sequenceAvailable 10 = .ok (.goto 7, 3) := dk_167 0 7 (dk_at dksX0_sequenceAvailable_0 10 rfl rfl)
theorem dX0_sequenceAvailable_13 : decode cX0_sequenceAvailable 13 = .ok (.astore 4, 2) := dk_58 4 (dk_at dksX0_sequenceAvailable_0 13 rfl rfl)
theorem dX0_sequenceAvailable_15 : decode cX0_sequenceAvailable 15 = .ok (.iconst 1, 1) := dk_4 (dk_at dksX0_sequenceAvailable_0 15 rfl rfl)
theorem dX0_sequenceAvailable_16 : decode cX0_sequenceAvailable 16 = .ok (.ireturn, 1) := dk_172 (dk_at dksX0_sequenceAvailable_0 16 rfl rfl)
theorem dX0_sequenceAvailable_17 : decode cX0_sequenceAvailable 17 = .ok (.iconst 0, 1) := dk_3 (dk_at dksX0_sequenceAvailable_0 17 rfl rfl)
theorem dX0_sequenceAvailable_18 : decode cX0_sequenceAvailable 18 = .ok (.ireturn, 1) := dk_172 (dk_at dksX0_sequenceAvailable_0 18 rfl rfl)
abbrev cX0_earliestPlace : ByteArray := method_17_code
def yX0_earliestPlace : MethodName := ⟨RX0, "earliestPlace", "(LPrinterClaims;I[J)I"⟩
def dkwX0_earliestPlace_0 : List UInt8 := [44, 3, 42, 27, 182, 0, 58, 133, 80, 167, 0, 6, 78, 4, 172, 3, 172]
abbrev dktX0_earliestPlace_0 : List UInt8 := dkwX0_earliestPlace_0 ++ []
theorem dksX0_earliestPlace_0 : cX0_earliestPlace.data.toList.drop 0 = dktX0_earliestPlace_0 := by decide +kernel
theorem dX0_earliestPlace_0 : decode cX0_earliestPlace 0 = .ok (.aload_n 2, 1) := dk_44 (dk_at dksX0_earliestPlace_0 0 rfl rfl)
theorem dX0_earliestPlace_1 : decode cX0_earliestPlace 1 = .ok (.iconst 0, 1) := dk_3 (dk_at dksX0_earliestPlace_0 1 rfl rfl)
theorem dX0_earliestPlace_2 : decode cX0_earliestPlace 2 = .ok (.aload_n 0, 1) := dk_42 (dk_at dksX0_earliestPlace_0 2 rfl rfl)
theorem dX0_earliestPlace_3 : decode cX0_earliestPlace 3 = .ok (.iload_n 1, 1) := dk_27 (dk_at dksX0_earliestPlace_0 3 rfl rfl)
theorem dX0_earliestPlace_4 : decode cX0_earliestPlace 4 = .ok (.invokevirtual 58, 3) := dk_182 0 58 (dk_at dksX0_earliestPlace_0 4 rfl rfl)
theorem dX0_earliestPlace_7 : decode cX0_earliestPlace 7 = .ok (.i2l, 1) := dk_133 (dk_at dksX0_earliestPlace_0 7 rfl rfl)
theorem dX0_earliestPlace_8 : decode cX0_earliestPlace 8 = .ok (.lastore, 1) := dk_80 (dk_at dksX0_earliestPlace_0 8 rfl rfl)
theorem dX0_earliestPlace_9 : decode cX0_earliestPlace 9 = .ok (.goto 6, 3) := dk_167 0 6 (dk_at dksX0_earliestPlace_0 9 rfl rfl)
theorem dX0_earliestPlace_12 : decode cX0_earliestPlace 12 = .ok (.astore_n 3, 1) := dk_78 (dk_at dksX0_earliestPlace_0 12 rfl rfl)
theorem dX0_earliestPlace_13 : decode cX0_earliestPlace 13 = .ok (.iconst 1, 1) := dk_4 (dk_at dksX0_earliestPlace_0 13 rfl rfl)
theorem dX0_earliestPlace_14 : decode cX0_earliestPlace 14 = .ok (.ireturn, 1) := dk_172 (dk_at dksX0_earliestPlace_0 14 rfl rfl)
theorem dX0_earliestPlace_15 : decode cX0_earliestPlace 15 = .ok (.iconst 0, 1) := dk_3 (dk_at dksX0_earliestPlace_0 15 rfl rfl)
theorem dX0_earliestPlace_16 : decode cX0_earliestPlace 16 = .ok (.ireturn, 1) := dk_172 (dk_at dksX0_earliestPlace_0 16 rfl rfl)
abbrev cX0_requestObstacle : ByteArray := method_18_code
def yX0_requestObstacle : MethodName := ⟨RX0, "requestObstacle", "(LPrinterClaims;III[J)I"⟩
def dkwX0_requestObstacle_1 : List UInt8 := [172]
abbrev dktX0_requestObstacle_1 : List UInt8 := dkwX0_requestObstacle_1 ++ []
def dkwX0_requestObstacle_0 : List UInt8 := [25, 4, 3, 42, 27, 28, 29, 182, 0, 61, 133, 80, 167, 0, 11, 58, 5, 4, 172, 58, 5, 5, 172, 3]
abbrev dktX0_requestObstacle_0 : List UInt8 := dkwX0_requestObstacle_0 ++ dktX0_requestObstacle_1
theorem dksX0_requestObstacle_0 : cX0_requestObstacle.data.toList.drop 0 = dktX0_requestObstacle_0 := by decide +kernel
theorem dksX0_requestObstacle_1 : cX0_requestObstacle.data.toList.drop 24 = dktX0_requestObstacle_1 := dk_seg dksX0_requestObstacle_0 24 rfl rfl
theorem dX0_requestObstacle_0 : decode cX0_requestObstacle 0 = .ok (.aload 4, 2) := dk_25 4 (dk_at dksX0_requestObstacle_0 0 rfl rfl)
theorem dX0_requestObstacle_2 : decode cX0_requestObstacle 2 = .ok (.iconst 0, 1) := dk_3 (dk_at dksX0_requestObstacle_0 2 rfl rfl)
theorem dX0_requestObstacle_3 : decode cX0_requestObstacle 3 = .ok (.aload_n 0, 1) := dk_42 (dk_at dksX0_requestObstacle_0 3 rfl rfl)
theorem dX0_requestObstacle_4 : decode cX0_requestObstacle 4 = .ok (.iload_n 1, 1) := dk_27 (dk_at dksX0_requestObstacle_0 4 rfl rfl)
theorem dX0_requestObstacle_5 : decode cX0_requestObstacle 5 = .ok (.iload_n 2, 1) := dk_28 (dk_at dksX0_requestObstacle_0 5 rfl rfl)
theorem dX0_requestObstacle_6 : decode cX0_requestObstacle 6 = .ok (.iload_n 3, 1) := dk_29 (dk_at dksX0_requestObstacle_0 6 rfl rfl)
theorem dX0_requestObstacle_7 : decode cX0_requestObstacle 7 = .ok (.invokevirtual 61, 3) := dk_182 0 61 (dk_at dksX0_requestObstacle_0 7 rfl rfl)
theorem dX0_requestObstacle_10 : decode cX0_requestObstacle 10 = .ok (.i2l, 1) := dk_133 (dk_at dksX0_requestObstacle_0 10 rfl rfl)
theorem dX0_requestObstacle_11 : decode cX0_requestObstacle 11 = .ok (.lastore, 1) := dk_80 (dk_at dksX0_requestObstacle_0 11 rfl rfl)
theorem dX0_requestObstacle_12 : decode cX0_requestObstacle 12 = .ok (.goto 11, 3) := dk_167 0 11 (dk_at dksX0_requestObstacle_0 12 rfl rfl)
theorem dX0_requestObstacle_15 : decode cX0_requestObstacle 15 = .ok (.astore 5, 2) := dk_58 5 (dk_at dksX0_requestObstacle_0 15 rfl rfl)
theorem dX0_requestObstacle_17 : decode cX0_requestObstacle 17 = .ok (.iconst 1, 1) := dk_4 (dk_at dksX0_requestObstacle_0 17 rfl rfl)
theorem dX0_requestObstacle_18 : decode cX0_requestObstacle 18 = .ok (.ireturn, 1) := dk_172 (dk_at dksX0_requestObstacle_0 18 rfl rfl)
theorem dX0_requestObstacle_19 : decode cX0_requestObstacle 19 = .ok (.astore 5, 2) := dk_58 5 (dk_at dksX0_requestObstacle_0 19 rfl rfl)
theorem dX0_requestObstacle_21 : decode cX0_requestObstacle 21 = .ok (.iconst 2, 1) := dk_5 (dk_at dksX0_requestObstacle_0 21 rfl rfl)
theorem dX0_requestObstacle_22 : decode cX0_requestObstacle 22 = .ok (.ireturn, 1) := dk_172 (dk_at dksX0_requestObstacle_0 22 rfl rfl)
theorem dX0_requestObstacle_23 : decode cX0_requestObstacle 23 = .ok (.iconst 0, 1) := dk_3 (dk_at dksX0_requestObstacle_0 23 rfl rfl)
theorem dX0_requestObstacle_24 : decode cX0_requestObstacle 24 = .ok (.ireturn, 1) := dk_172 (dk_at dksX0_requestObstacle_1 0 rfl rfl)
abbrev cX0_greatestGrant : ByteArray := method_19_code
def yX0_greatestGrant : MethodName := ⟨RX0, "greatestGrant", "(LPrinterClaims;II[J)I"⟩
def dkwX0_greatestGrant_0 : List UInt8 := [45, 3, 42, 27, 28, 182, 0, 65, 133, 80, 167, 0, 7, 58, 4, 4, 172, 3, 172]
abbrev dktX0_greatestGrant_0 : List UInt8 := dkwX0_greatestGrant_0 ++ []
theorem dksX0_greatestGrant_0 : cX0_greatestGrant.data.toList.drop 0 = dktX0_greatestGrant_0 := by decide +kernel
theorem dX0_greatestGrant_0 : decode cX0_greatestGrant 0 = .ok (.aload_n 3, 1) := dk_45 (dk_at dksX0_greatestGrant_0 0 rfl rfl)
theorem dX0_greatestGrant_1 : decode cX0_greatestGrant 1 = .ok (.iconst 0, 1) := dk_3 (dk_at dksX0_greatestGrant_0 1 rfl rfl)
theorem dX0_greatestGrant_2 : decode cX0_greatestGrant 2 = .ok (.aload_n 0, 1) := dk_42 (dk_at dksX0_greatestGrant_0 2 rfl rfl)
theorem dX0_greatestGrant_3 : decode cX0_greatestGrant 3 = .ok (.iload_n 1, 1) := dk_27 (dk_at dksX0_greatestGrant_0 3 rfl rfl)
theorem dX0_greatestGrant_4 : decode cX0_greatestGrant 4 = .ok (.iload_n 2, 1) := dk_28 (dk_at dksX0_greatestGrant_0 4 rfl rfl)
theorem dX0_greatestGrant_5 : decode cX0_greatestGrant 5 = .ok (.invokevirtual 65, 3) := dk_182 0 65 (dk_at dksX0_greatestGrant_0 5 rfl rfl)
theorem dX0_greatestGrant_8 : decode cX0_greatestGrant 8 = .ok (.i2l, 1) := dk_133 (dk_at dksX0_greatestGrant_0 8 rfl rfl)
theorem dX0_greatestGrant_9 : decode cX0_greatestGrant 9 = .ok (.lastore, 1) := dk_80 (dk_at dksX0_greatestGrant_0 9 rfl rfl)
theorem dX0_greatestGrant_10 : decode cX0_greatestGrant 10 = .ok (.goto 7, 3) := dk_167 0 7 (dk_at dksX0_greatestGrant_0 10 rfl rfl)
theorem dX0_greatestGrant_13 : decode cX0_greatestGrant 13 = .ok (.astore 4, 2) := dk_58 4 (dk_at dksX0_greatestGrant_0 13 rfl rfl)
theorem dX0_greatestGrant_15 : decode cX0_greatestGrant 15 = .ok (.iconst 1, 1) := dk_4 (dk_at dksX0_greatestGrant_0 15 rfl rfl)
theorem dX0_greatestGrant_16 : decode cX0_greatestGrant 16 = .ok (.ireturn, 1) := dk_172 (dk_at dksX0_greatestGrant_0 16 rfl rfl)
theorem dX0_greatestGrant_17 : decode cX0_greatestGrant 17 = .ok (.iconst 0, 1) := dk_3 (dk_at dksX0_greatestGrant_0 17 rfl rfl)
theorem dX0_greatestGrant_18 : decode cX0_greatestGrant 18 = .ok (.ireturn, 1) := dk_172 (dk_at dksX0_greatestGrant_0 18 rfl rfl)
abbrev cX0_spare : ByteArray := method_20_code
def yX0_spare : MethodName := ⟨RX0, "spare", "(LPrinterClaims;I[J)I"⟩
def dkwX0_spare_0 : List UInt8 := [44, 3, 42, 27, 182, 0, 68, 133, 80, 167, 0, 6, 78, 4, 172, 3, 172]
abbrev dktX0_spare_0 : List UInt8 := dkwX0_spare_0 ++ []
theorem dksX0_spare_0 : cX0_spare.data.toList.drop 0 = dktX0_spare_0 := by decide +kernel
theorem dX0_spare_0 : decode cX0_spare 0 = .ok (.aload_n 2, 1) := dk_44 (dk_at dksX0_spare_0 0 rfl rfl)
theorem dX0_spare_1 : decode cX0_spare 1 = .ok (.iconst 0, 1) := dk_3 (dk_at dksX0_spare_0 1 rfl rfl)
theorem dX0_spare_2 : decode cX0_spare 2 = .ok (.aload_n 0, 1) := dk_42 (dk_at dksX0_spare_0 2 rfl rfl)
theorem dX0_spare_3 : decode cX0_spare 3 = .ok (.iload_n 1, 1) := dk_27 (dk_at dksX0_spare_0 3 rfl rfl)
theorem dX0_spare_4 : decode cX0_spare 4 = .ok (.invokevirtual 68, 3) := dk_182 0 68 (dk_at dksX0_spare_0 4 rfl rfl)
theorem dX0_spare_7 : decode cX0_spare 7 = .ok (.i2l, 1) := dk_133 (dk_at dksX0_spare_0 7 rfl rfl)
theorem dX0_spare_8 : decode cX0_spare 8 = .ok (.lastore, 1) := dk_80 (dk_at dksX0_spare_0 8 rfl rfl)
theorem dX0_spare_9 : decode cX0_spare 9 = .ok (.goto 6, 3) := dk_167 0 6 (dk_at dksX0_spare_0 9 rfl rfl)
theorem dX0_spare_12 : decode cX0_spare 12 = .ok (.astore_n 3, 1) := dk_78 (dk_at dksX0_spare_0 12 rfl rfl)
theorem dX0_spare_13 : decode cX0_spare 13 = .ok (.iconst 1, 1) := dk_4 (dk_at dksX0_spare_0 13 rfl rfl)
theorem dX0_spare_14 : decode cX0_spare 14 = .ok (.ireturn, 1) := dk_172 (dk_at dksX0_spare_0 14 rfl rfl)
theorem dX0_spare_15 : decode cX0_spare 15 = .ok (.iconst 0, 1) := dk_3 (dk_at dksX0_spare_0 15 rfl rfl)
theorem dX0_spare_16 : decode cX0_spare 16 = .ok (.ireturn, 1) := dk_172 (dk_at dksX0_spare_0 16 rfl rfl)
abbrev cX0_wouldWake : ByteArray := method_21_code
def yX0_wouldWake : MethodName := ⟨RX0, "wouldWake", "(LPrinterClaims;I[J)I"⟩
def dkwX0_wouldWake_0 : List UInt8 := [44, 3, 42, 27, 182, 0, 71, 133, 80, 167, 0, 6, 78, 4, 172, 3, 172]
abbrev dktX0_wouldWake_0 : List UInt8 := dkwX0_wouldWake_0 ++ []
theorem dksX0_wouldWake_0 : cX0_wouldWake.data.toList.drop 0 = dktX0_wouldWake_0 := by decide +kernel
theorem dX0_wouldWake_0 : decode cX0_wouldWake 0 = .ok (.aload_n 2, 1) := dk_44 (dk_at dksX0_wouldWake_0 0 rfl rfl)
theorem dX0_wouldWake_1 : decode cX0_wouldWake 1 = .ok (.iconst 0, 1) := dk_3 (dk_at dksX0_wouldWake_0 1 rfl rfl)
theorem dX0_wouldWake_2 : decode cX0_wouldWake 2 = .ok (.aload_n 0, 1) := dk_42 (dk_at dksX0_wouldWake_0 2 rfl rfl)
theorem dX0_wouldWake_3 : decode cX0_wouldWake 3 = .ok (.iload_n 1, 1) := dk_27 (dk_at dksX0_wouldWake_0 3 rfl rfl)
theorem dX0_wouldWake_4 : decode cX0_wouldWake 4 = .ok (.invokevirtual 71, 3) := dk_182 0 71 (dk_at dksX0_wouldWake_0 4 rfl rfl)
theorem dX0_wouldWake_7 : decode cX0_wouldWake 7 = .ok (.i2l, 1) := dk_133 (dk_at dksX0_wouldWake_0 7 rfl rfl)
theorem dX0_wouldWake_8 : decode cX0_wouldWake 8 = .ok (.lastore, 1) := dk_80 (dk_at dksX0_wouldWake_0 8 rfl rfl)
theorem dX0_wouldWake_9 : decode cX0_wouldWake 9 = .ok (.goto 6, 3) := dk_167 0 6 (dk_at dksX0_wouldWake_0 9 rfl rfl)
theorem dX0_wouldWake_12 : decode cX0_wouldWake 12 = .ok (.astore_n 3, 1) := dk_78 (dk_at dksX0_wouldWake_0 12 rfl rfl)
theorem dX0_wouldWake_13 : decode cX0_wouldWake 13 = .ok (.iconst 1, 1) := dk_4 (dk_at dksX0_wouldWake_0 13 rfl rfl)
theorem dX0_wouldWake_14 : decode cX0_wouldWake 14 = .ok (.ireturn, 1) := dk_172 (dk_at dksX0_wouldWake_0 14 rfl rfl)
theorem dX0_wouldWake_15 : decode cX0_wouldWake 15 = .ok (.iconst 0, 1) := dk_3 (dk_at dksX0_wouldWake_0 15 rfl rfl)
theorem dX0_wouldWake_16 : decode cX0_wouldWake 16 = .ok (.ireturn, 1) := dk_172 (dk_at dksX0_wouldWake_0 16 rfl rfl)
abbrev cX0_request : ByteArray := method_22_code
def yX0_request : MethodName := ⟨RX0, "request", "(LPrinterClaims;III[J)I"⟩
def dkwX0_request_1 : List UInt8 := [58, 5, 6, 172, 3, 172]
abbrev dktX0_request_1 : List UInt8 := dkwX0_request_1 ++ []
def dkwX0_request_0 : List UInt8 := [25, 4, 3, 42, 27, 28, 29, 182, 0, 74, 133, 80, 167, 0, 15, 58, 5, 4, 172, 58, 5, 5, 172]
abbrev dktX0_request_0 : List UInt8 := dkwX0_request_0 ++ dktX0_request_1
theorem dksX0_request_0 : cX0_request.data.toList.drop 0 = dktX0_request_0 := by decide +kernel
theorem dksX0_request_1 : cX0_request.data.toList.drop 23 = dktX0_request_1 := dk_seg dksX0_request_0 23 rfl rfl
theorem dX0_request_0 : decode cX0_request 0 = .ok (.aload 4, 2) := dk_25 4 (dk_at dksX0_request_0 0 rfl rfl)
theorem dX0_request_2 : decode cX0_request 2 = .ok (.iconst 0, 1) := dk_3 (dk_at dksX0_request_0 2 rfl rfl)
theorem dX0_request_3 : decode cX0_request 3 = .ok (.aload_n 0, 1) := dk_42 (dk_at dksX0_request_0 3 rfl rfl)
theorem dX0_request_4 : decode cX0_request 4 = .ok (.iload_n 1, 1) := dk_27 (dk_at dksX0_request_0 4 rfl rfl)
theorem dX0_request_5 : decode cX0_request 5 = .ok (.iload_n 2, 1) := dk_28 (dk_at dksX0_request_0 5 rfl rfl)
theorem dX0_request_6 : decode cX0_request 6 = .ok (.iload_n 3, 1) := dk_29 (dk_at dksX0_request_0 6 rfl rfl)
theorem dX0_request_7 : decode cX0_request 7 = .ok (.invokevirtual 74, 3) := dk_182 0 74 (dk_at dksX0_request_0 7 rfl rfl)
theorem dX0_request_10 : decode cX0_request 10 = .ok (.i2l, 1) := dk_133 (dk_at dksX0_request_0 10 rfl rfl)
theorem dX0_request_11 : decode cX0_request 11 = .ok (.lastore, 1) := dk_80 (dk_at dksX0_request_0 11 rfl rfl)
theorem dX0_request_12 : decode cX0_request 12 = .ok (.goto 15, 3) := dk_167 0 15 (dk_at dksX0_request_0 12 rfl rfl)
theorem dX0_request_15 : decode cX0_request 15 = .ok (.astore 5, 2) := dk_58 5 (dk_at dksX0_request_0 15 rfl rfl)
theorem dX0_request_17 : decode cX0_request 17 = .ok (.iconst 1, 1) := dk_4 (dk_at dksX0_request_0 17 rfl rfl)
theorem dX0_request_18 : decode cX0_request 18 = .ok (.ireturn, 1) := dk_172 (dk_at dksX0_request_0 18 rfl rfl)
theorem dX0_request_19 : decode cX0_request 19 = .ok (.astore 5, 2) := dk_58 5 (dk_at dksX0_request_0 19 rfl rfl)
theorem dX0_request_21 : decode cX0_request 21 = .ok (.iconst 2, 1) := dk_5 (dk_at dksX0_request_0 21 rfl rfl)
theorem dX0_request_22 : decode cX0_request 22 = .ok (.ireturn, 1) := dk_172 (dk_at dksX0_request_0 22 rfl rfl)
theorem dX0_request_23 : decode cX0_request 23 = .ok (.astore 5, 2) := dk_58 5 (dk_at dksX0_request_1 0 rfl rfl)
theorem dX0_request_25 : decode cX0_request 25 = .ok (.iconst 3, 1) := dk_6 (dk_at dksX0_request_1 2 rfl rfl)
theorem dX0_request_26 : decode cX0_request 26 = .ok (.ireturn, 1) := dk_172 (dk_at dksX0_request_1 3 rfl rfl)
theorem dX0_request_27 : decode cX0_request 27 = .ok (.iconst 0, 1) := dk_3 (dk_at dksX0_request_1 4 rfl rfl)
theorem dX0_request_28 : decode cX0_request 28 = .ok (.ireturn, 1) := dk_172 (dk_at dksX0_request_1 5 rfl rfl)
abbrev cX0_release : ByteArray := method_23_code
def yX0_release : MethodName := ⟨RX0, "release", "(LPrinterClaims;III[J)I"⟩
def dkwX0_release_1 : List UInt8 := [58, 5, 6, 172, 3, 172]
abbrev dktX0_release_1 : List UInt8 := dkwX0_release_1 ++ []
def dkwX0_release_0 : List UInt8 := [25, 4, 3, 42, 27, 28, 29, 182, 0, 79, 133, 80, 167, 0, 15, 58, 5, 4, 172, 58, 5, 5, 172]
abbrev dktX0_release_0 : List UInt8 := dkwX0_release_0 ++ dktX0_release_1
theorem dksX0_release_0 : cX0_release.data.toList.drop 0 = dktX0_release_0 := by decide +kernel
theorem dksX0_release_1 : cX0_release.data.toList.drop 23 = dktX0_release_1 := dk_seg dksX0_release_0 23 rfl rfl
theorem dX0_release_0 : decode cX0_release 0 = .ok (.aload 4, 2) := dk_25 4 (dk_at dksX0_release_0 0 rfl rfl)
theorem dX0_release_2 : decode cX0_release 2 = .ok (.iconst 0, 1) := dk_3 (dk_at dksX0_release_0 2 rfl rfl)
theorem dX0_release_3 : decode cX0_release 3 = .ok (.aload_n 0, 1) := dk_42 (dk_at dksX0_release_0 3 rfl rfl)
theorem dX0_release_4 : decode cX0_release 4 = .ok (.iload_n 1, 1) := dk_27 (dk_at dksX0_release_0 4 rfl rfl)
theorem dX0_release_5 : decode cX0_release 5 = .ok (.iload_n 2, 1) := dk_28 (dk_at dksX0_release_0 5 rfl rfl)
theorem dX0_release_6 : decode cX0_release 6 = .ok (.iload_n 3, 1) := dk_29 (dk_at dksX0_release_0 6 rfl rfl)
theorem dX0_release_7 : decode cX0_release 7 = .ok (.invokevirtual 79, 3) := dk_182 0 79 (dk_at dksX0_release_0 7 rfl rfl)
theorem dX0_release_10 : decode cX0_release 10 = .ok (.i2l, 1) := dk_133 (dk_at dksX0_release_0 10 rfl rfl)
theorem dX0_release_11 : decode cX0_release 11 = .ok (.lastore, 1) := dk_80 (dk_at dksX0_release_0 11 rfl rfl)
theorem dX0_release_12 : decode cX0_release 12 = .ok (.goto 15, 3) := dk_167 0 15 (dk_at dksX0_release_0 12 rfl rfl)
theorem dX0_release_15 : decode cX0_release 15 = .ok (.astore 5, 2) := dk_58 5 (dk_at dksX0_release_0 15 rfl rfl)
theorem dX0_release_17 : decode cX0_release 17 = .ok (.iconst 1, 1) := dk_4 (dk_at dksX0_release_0 17 rfl rfl)
theorem dX0_release_18 : decode cX0_release 18 = .ok (.ireturn, 1) := dk_172 (dk_at dksX0_release_0 18 rfl rfl)
theorem dX0_release_19 : decode cX0_release 19 = .ok (.astore 5, 2) := dk_58 5 (dk_at dksX0_release_0 19 rfl rfl)
theorem dX0_release_21 : decode cX0_release 21 = .ok (.iconst 2, 1) := dk_5 (dk_at dksX0_release_0 21 rfl rfl)
theorem dX0_release_22 : decode cX0_release 22 = .ok (.ireturn, 1) := dk_172 (dk_at dksX0_release_0 22 rfl rfl)
theorem dX0_release_23 : decode cX0_release 23 = .ok (.astore 5, 2) := dk_58 5 (dk_at dksX0_release_1 0 rfl rfl)
theorem dX0_release_25 : decode cX0_release 25 = .ok (.iconst 3, 1) := dk_6 (dk_at dksX0_release_1 2 rfl rfl)
theorem dX0_release_26 : decode cX0_release 26 = .ok (.ireturn, 1) := dk_172 (dk_at dksX0_release_1 3 rfl rfl)
theorem dX0_release_27 : decode cX0_release 27 = .ok (.iconst 0, 1) := dk_3 (dk_at dksX0_release_1 4 rfl rfl)
theorem dX0_release_28 : decode cX0_release 28 = .ok (.ireturn, 1) := dk_172 (dk_at dksX0_release_1 5 rfl rfl)
abbrev cX0_finish : ByteArray := method_24_code
def yX0_finish : MethodName := ⟨RX0, "finish", "(LPrinterClaims;I[J)I"⟩
def dkwX0_finish_0 : List UInt8 := [44, 3, 42, 27, 182, 0, 82, 133, 80, 167, 0, 6, 78, 4, 172, 3, 172]
abbrev dktX0_finish_0 : List UInt8 := dkwX0_finish_0 ++ []
theorem dksX0_finish_0 : cX0_finish.data.toList.drop 0 = dktX0_finish_0 := by decide +kernel
theorem dX0_finish_0 : decode cX0_finish 0 = .ok (.aload_n 2, 1) := dk_44 (dk_at dksX0_finish_0 0 rfl rfl)
theorem dX0_finish_1 : decode cX0_finish 1 = .ok (.iconst 0, 1) := dk_3 (dk_at dksX0_finish_0 1 rfl rfl)
theorem dX0_finish_2 : decode cX0_finish 2 = .ok (.aload_n 0, 1) := dk_42 (dk_at dksX0_finish_0 2 rfl rfl)
theorem dX0_finish_3 : decode cX0_finish 3 = .ok (.iload_n 1, 1) := dk_27 (dk_at dksX0_finish_0 3 rfl rfl)
theorem dX0_finish_4 : decode cX0_finish 4 = .ok (.invokevirtual 82, 3) := dk_182 0 82 (dk_at dksX0_finish_0 4 rfl rfl)
theorem dX0_finish_7 : decode cX0_finish 7 = .ok (.i2l, 1) := dk_133 (dk_at dksX0_finish_0 7 rfl rfl)
theorem dX0_finish_8 : decode cX0_finish 8 = .ok (.lastore, 1) := dk_80 (dk_at dksX0_finish_0 8 rfl rfl)
theorem dX0_finish_9 : decode cX0_finish 9 = .ok (.goto 6, 3) := dk_167 0 6 (dk_at dksX0_finish_0 9 rfl rfl)
theorem dX0_finish_12 : decode cX0_finish 12 = .ok (.astore_n 3, 1) := dk_78 (dk_at dksX0_finish_0 12 rfl rfl)
theorem dX0_finish_13 : decode cX0_finish 13 = .ok (.iconst 1, 1) := dk_4 (dk_at dksX0_finish_0 13 rfl rfl)
theorem dX0_finish_14 : decode cX0_finish 14 = .ok (.ireturn, 1) := dk_172 (dk_at dksX0_finish_0 14 rfl rfl)
theorem dX0_finish_15 : decode cX0_finish 15 = .ok (.iconst 0, 1) := dk_3 (dk_at dksX0_finish_0 15 rfl rfl)
theorem dX0_finish_16 : decode cX0_finish 16 = .ok (.ireturn, 1) := dk_172 (dk_at dksX0_finish_0 16 rfl rfl)
abbrev cX0_withdraw : ByteArray := method_25_code
def yX0_withdraw : MethodName := ⟨RX0, "withdraw", "(LPrinterClaims;I[J)I"⟩
def dkwX0_withdraw_0 : List UInt8 := [44, 3, 42, 27, 182, 0, 85, 133, 80, 167, 0, 9, 78, 4, 172, 78, 5, 172, 3, 172]
abbrev dktX0_withdraw_0 : List UInt8 := dkwX0_withdraw_0 ++ []
theorem dksX0_withdraw_0 : cX0_withdraw.data.toList.drop 0 = dktX0_withdraw_0 := by decide +kernel
theorem dX0_withdraw_0 : decode cX0_withdraw 0 = .ok (.aload_n 2, 1) := dk_44 (dk_at dksX0_withdraw_0 0 rfl rfl)
theorem dX0_withdraw_1 : decode cX0_withdraw 1 = .ok (.iconst 0, 1) := dk_3 (dk_at dksX0_withdraw_0 1 rfl rfl)
theorem dX0_withdraw_2 : decode cX0_withdraw 2 = .ok (.aload_n 0, 1) := dk_42 (dk_at dksX0_withdraw_0 2 rfl rfl)
theorem dX0_withdraw_3 : decode cX0_withdraw 3 = .ok (.iload_n 1, 1) := dk_27 (dk_at dksX0_withdraw_0 3 rfl rfl)
theorem dX0_withdraw_4 : decode cX0_withdraw 4 = .ok (.invokevirtual 85, 3) := dk_182 0 85 (dk_at dksX0_withdraw_0 4 rfl rfl)
theorem dX0_withdraw_7 : decode cX0_withdraw 7 = .ok (.i2l, 1) := dk_133 (dk_at dksX0_withdraw_0 7 rfl rfl)
theorem dX0_withdraw_8 : decode cX0_withdraw 8 = .ok (.lastore, 1) := dk_80 (dk_at dksX0_withdraw_0 8 rfl rfl)
theorem dX0_withdraw_9 : decode cX0_withdraw 9 = .ok (.goto 9, 3) := dk_167 0 9 (dk_at dksX0_withdraw_0 9 rfl rfl)
theorem dX0_withdraw_12 : decode cX0_withdraw 12 = .ok (.astore_n 3, 1) := dk_78 (dk_at dksX0_withdraw_0 12 rfl rfl)
theorem dX0_withdraw_13 : decode cX0_withdraw 13 = .ok (.iconst 1, 1) := dk_4 (dk_at dksX0_withdraw_0 13 rfl rfl)
theorem dX0_withdraw_14 : decode cX0_withdraw 14 = .ok (.ireturn, 1) := dk_172 (dk_at dksX0_withdraw_0 14 rfl rfl)
theorem dX0_withdraw_15 : decode cX0_withdraw 15 = .ok (.astore_n 3, 1) := dk_78 (dk_at dksX0_withdraw_0 15 rfl rfl)
theorem dX0_withdraw_16 : decode cX0_withdraw 16 = .ok (.iconst 2, 1) := dk_5 (dk_at dksX0_withdraw_0 16 rfl rfl)
theorem dX0_withdraw_17 : decode cX0_withdraw 17 = .ok (.ireturn, 1) := dk_172 (dk_at dksX0_withdraw_0 17 rfl rfl)
theorem dX0_withdraw_18 : decode cX0_withdraw 18 = .ok (.iconst 0, 1) := dk_3 (dk_at dksX0_withdraw_0 18 rfl rfl)
theorem dX0_withdraw_19 : decode cX0_withdraw 19 = .ok (.ireturn, 1) := dk_172 (dk_at dksX0_withdraw_0 19 rfl rfl)
abbrev cX0_changeClaim : ByteArray := method_26_code
def yX0_changeClaim : MethodName := ⟨RX0, "changeClaim", "(LPrinterClaims;III[J)I"⟩
def dkwX0_changeClaim_1 : List UInt8 := [58, 5, 6, 172, 3, 172]
abbrev dktX0_changeClaim_1 : List UInt8 := dkwX0_changeClaim_1 ++ []
def dkwX0_changeClaim_0 : List UInt8 := [25, 4, 3, 42, 27, 28, 29, 182, 0, 88, 133, 80, 167, 0, 15, 58, 5, 4, 172, 58, 5, 5, 172]
abbrev dktX0_changeClaim_0 : List UInt8 := dkwX0_changeClaim_0 ++ dktX0_changeClaim_1
theorem dksX0_changeClaim_0 : cX0_changeClaim.data.toList.drop 0 = dktX0_changeClaim_0 := by decide +kernel
theorem dksX0_changeClaim_1 : cX0_changeClaim.data.toList.drop 23 = dktX0_changeClaim_1 := dk_seg dksX0_changeClaim_0 23 rfl rfl
theorem dX0_changeClaim_0 : decode cX0_changeClaim 0 = .ok (.aload 4, 2) := dk_25 4 (dk_at dksX0_changeClaim_0 0 rfl rfl)
theorem dX0_changeClaim_2 : decode cX0_changeClaim 2 = .ok (.iconst 0, 1) := dk_3 (dk_at dksX0_changeClaim_0 2 rfl rfl)
theorem dX0_changeClaim_3 : decode cX0_changeClaim 3 = .ok (.aload_n 0, 1) := dk_42 (dk_at dksX0_changeClaim_0 3 rfl rfl)
theorem dX0_changeClaim_4 : decode cX0_changeClaim 4 = .ok (.iload_n 1, 1) := dk_27 (dk_at dksX0_changeClaim_0 4 rfl rfl)
theorem dX0_changeClaim_5 : decode cX0_changeClaim 5 = .ok (.iload_n 2, 1) := dk_28 (dk_at dksX0_changeClaim_0 5 rfl rfl)
theorem dX0_changeClaim_6 : decode cX0_changeClaim 6 = .ok (.iload_n 3, 1) := dk_29 (dk_at dksX0_changeClaim_0 6 rfl rfl)
theorem dX0_changeClaim_7 : decode cX0_changeClaim 7 = .ok (.invokevirtual 88, 3) := dk_182 0 88 (dk_at dksX0_changeClaim_0 7 rfl rfl)
theorem dX0_changeClaim_10 : decode cX0_changeClaim 10 = .ok (.i2l, 1) := dk_133 (dk_at dksX0_changeClaim_0 10 rfl rfl)
theorem dX0_changeClaim_11 : decode cX0_changeClaim 11 = .ok (.lastore, 1) := dk_80 (dk_at dksX0_changeClaim_0 11 rfl rfl)
theorem dX0_changeClaim_12 : decode cX0_changeClaim 12 = .ok (.goto 15, 3) := dk_167 0 15 (dk_at dksX0_changeClaim_0 12 rfl rfl)
theorem dX0_changeClaim_15 : decode cX0_changeClaim 15 = .ok (.astore 5, 2) := dk_58 5 (dk_at dksX0_changeClaim_0 15 rfl rfl)
theorem dX0_changeClaim_17 : decode cX0_changeClaim 17 = .ok (.iconst 1, 1) := dk_4 (dk_at dksX0_changeClaim_0 17 rfl rfl)
theorem dX0_changeClaim_18 : decode cX0_changeClaim 18 = .ok (.ireturn, 1) := dk_172 (dk_at dksX0_changeClaim_0 18 rfl rfl)
theorem dX0_changeClaim_19 : decode cX0_changeClaim 19 = .ok (.astore 5, 2) := dk_58 5 (dk_at dksX0_changeClaim_0 19 rfl rfl)
theorem dX0_changeClaim_21 : decode cX0_changeClaim 21 = .ok (.iconst 2, 1) := dk_5 (dk_at dksX0_changeClaim_0 21 rfl rfl)
theorem dX0_changeClaim_22 : decode cX0_changeClaim 22 = .ok (.ireturn, 1) := dk_172 (dk_at dksX0_changeClaim_0 22 rfl rfl)
theorem dX0_changeClaim_23 : decode cX0_changeClaim 23 = .ok (.astore 5, 2) := dk_58 5 (dk_at dksX0_changeClaim_1 0 rfl rfl)
theorem dX0_changeClaim_25 : decode cX0_changeClaim 25 = .ok (.iconst 3, 1) := dk_6 (dk_at dksX0_changeClaim_1 2 rfl rfl)
theorem dX0_changeClaim_26 : decode cX0_changeClaim 26 = .ok (.ireturn, 1) := dk_172 (dk_at dksX0_changeClaim_1 3 rfl rfl)
theorem dX0_changeClaim_27 : decode cX0_changeClaim 27 = .ok (.iconst 0, 1) := dk_3 (dk_at dksX0_changeClaim_1 4 rfl rfl)
theorem dX0_changeClaim_28 : decode cX0_changeClaim 28 = .ok (.ireturn, 1) := dk_172 (dk_at dksX0_changeClaim_1 5 rfl rfl)
abbrev cX0_addPrinters : ByteArray := method_27_code
def yX0_addPrinters : MethodName := ⟨RX0, "addPrinters", "(LPrinterClaims;II[J)I"⟩
def dkwX0_addPrinters_1 : List UInt8 := [172, 3, 172]
abbrev dktX0_addPrinters_1 : List UInt8 := dkwX0_addPrinters_1 ++ []
def dkwX0_addPrinters_0 : List UInt8 := [45, 3, 42, 27, 28, 182, 0, 91, 133, 80, 167, 0, 15, 58, 4, 4, 172, 58, 4, 5, 172, 58, 4, 6]
abbrev dktX0_addPrinters_0 : List UInt8 := dkwX0_addPrinters_0 ++ dktX0_addPrinters_1
theorem dksX0_addPrinters_0 : cX0_addPrinters.data.toList.drop 0 = dktX0_addPrinters_0 := by decide +kernel
theorem dksX0_addPrinters_1 : cX0_addPrinters.data.toList.drop 24 = dktX0_addPrinters_1 := dk_seg dksX0_addPrinters_0 24 rfl rfl
theorem dX0_addPrinters_0 : decode cX0_addPrinters 0 = .ok (.aload_n 3, 1) := dk_45 (dk_at dksX0_addPrinters_0 0 rfl rfl)
theorem dX0_addPrinters_1 : decode cX0_addPrinters 1 = .ok (.iconst 0, 1) := dk_3 (dk_at dksX0_addPrinters_0 1 rfl rfl)
theorem dX0_addPrinters_2 : decode cX0_addPrinters 2 = .ok (.aload_n 0, 1) := dk_42 (dk_at dksX0_addPrinters_0 2 rfl rfl)
theorem dX0_addPrinters_3 : decode cX0_addPrinters 3 = .ok (.iload_n 1, 1) := dk_27 (dk_at dksX0_addPrinters_0 3 rfl rfl)
theorem dX0_addPrinters_4 : decode cX0_addPrinters 4 = .ok (.iload_n 2, 1) := dk_28 (dk_at dksX0_addPrinters_0 4 rfl rfl)
theorem dX0_addPrinters_5 : decode cX0_addPrinters 5 = .ok (.invokevirtual 91, 3) := dk_182 0 91 (dk_at dksX0_addPrinters_0 5 rfl rfl)
theorem dX0_addPrinters_8 : decode cX0_addPrinters 8 = .ok (.i2l, 1) := dk_133 (dk_at dksX0_addPrinters_0 8 rfl rfl)
theorem dX0_addPrinters_9 : decode cX0_addPrinters 9 = .ok (.lastore, 1) := dk_80 (dk_at dksX0_addPrinters_0 9 rfl rfl)
theorem dX0_addPrinters_10 : decode cX0_addPrinters 10 = .ok (.goto 15, 3) := dk_167 0 15 (dk_at dksX0_addPrinters_0 10 rfl rfl)
theorem dX0_addPrinters_13 : decode cX0_addPrinters 13 = .ok (.astore 4, 2) := dk_58 4 (dk_at dksX0_addPrinters_0 13 rfl rfl)
theorem dX0_addPrinters_15 : decode cX0_addPrinters 15 = .ok (.iconst 1, 1) := dk_4 (dk_at dksX0_addPrinters_0 15 rfl rfl)
theorem dX0_addPrinters_16 : decode cX0_addPrinters 16 = .ok (.ireturn, 1) := dk_172 (dk_at dksX0_addPrinters_0 16 rfl rfl)
theorem dX0_addPrinters_17 : decode cX0_addPrinters 17 = .ok (.astore 4, 2) := dk_58 4 (dk_at dksX0_addPrinters_0 17 rfl rfl)
theorem dX0_addPrinters_19 : decode cX0_addPrinters 19 = .ok (.iconst 2, 1) := dk_5 (dk_at dksX0_addPrinters_0 19 rfl rfl)
theorem dX0_addPrinters_20 : decode cX0_addPrinters 20 = .ok (.ireturn, 1) := dk_172 (dk_at dksX0_addPrinters_0 20 rfl rfl)
theorem dX0_addPrinters_21 : decode cX0_addPrinters 21 = .ok (.astore 4, 2) := dk_58 4 (dk_at dksX0_addPrinters_0 21 rfl rfl)
theorem dX0_addPrinters_23 : decode cX0_addPrinters 23 = .ok (.iconst 3, 1) := dk_6 (dk_at dksX0_addPrinters_0 23 rfl rfl)
theorem dX0_addPrinters_24 : decode cX0_addPrinters 24 = .ok (.ireturn, 1) := dk_172 (dk_at dksX0_addPrinters_1 0 rfl rfl)
theorem dX0_addPrinters_25 : decode cX0_addPrinters 25 = .ok (.iconst 0, 1) := dk_3 (dk_at dksX0_addPrinters_1 1 rfl rfl)
theorem dX0_addPrinters_26 : decode cX0_addPrinters 26 = .ok (.ireturn, 1) := dk_172 (dk_at dksX0_addPrinters_1 2 rfl rfl)
abbrev cX0_retirePrinters : ByteArray := method_28_code
def yX0_retirePrinters : MethodName := ⟨RX0, "retirePrinters", "(LPrinterClaims;II[J)I"⟩
def dkwX0_retirePrinters_1 : List UInt8 := [172, 3, 172]
abbrev dktX0_retirePrinters_1 : List UInt8 := dkwX0_retirePrinters_1 ++ []
def dkwX0_retirePrinters_0 : List UInt8 := [45, 3, 42, 27, 28, 182, 0, 94, 133, 80, 167, 0, 15, 58, 4, 4, 172, 58, 4, 5, 172, 58, 4, 6]
abbrev dktX0_retirePrinters_0 : List UInt8 := dkwX0_retirePrinters_0 ++ dktX0_retirePrinters_1
theorem dksX0_retirePrinters_0 : cX0_retirePrinters.data.toList.drop 0 = dktX0_retirePrinters_0 := by decide +kernel
theorem dksX0_retirePrinters_1 : cX0_retirePrinters.data.toList.drop 24 = dktX0_retirePrinters_1 := dk_seg dksX0_retirePrinters_0 24 rfl rfl
theorem dX0_retirePrinters_0 : decode cX0_retirePrinters 0 = .ok (.aload_n 3, 1) := dk_45 (dk_at dksX0_retirePrinters_0 0 rfl rfl)
theorem dX0_retirePrinters_1 : decode cX0_retirePrinters 1 = .ok (.iconst 0, 1) := dk_3 (dk_at dksX0_retirePrinters_0 1 rfl rfl)
theorem dX0_retirePrinters_2 : decode cX0_retirePrinters 2 = .ok (.aload_n 0, 1) := dk_42 (dk_at dksX0_retirePrinters_0 2 rfl rfl)
theorem dX0_retirePrinters_3 : decode cX0_retirePrinters 3 = .ok (.iload_n 1, 1) := dk_27 (dk_at dksX0_retirePrinters_0 3 rfl rfl)
theorem dX0_retirePrinters_4 : decode cX0_retirePrinters 4 = .ok (.iload_n 2, 1) := dk_28 (dk_at dksX0_retirePrinters_0 4 rfl rfl)
theorem dX0_retirePrinters_5 : decode cX0_retirePrinters 5 = .ok (.invokevirtual 94, 3) := dk_182 0 94 (dk_at dksX0_retirePrinters_0 5 rfl rfl)
theorem dX0_retirePrinters_8 : decode cX0_retirePrinters 8 = .ok (.i2l, 1) := dk_133 (dk_at dksX0_retirePrinters_0 8 rfl rfl)
theorem dX0_retirePrinters_9 : decode cX0_retirePrinters 9 = .ok (.lastore, 1) := dk_80 (dk_at dksX0_retirePrinters_0 9 rfl rfl)
theorem dX0_retirePrinters_10 : decode cX0_retirePrinters 10 = .ok (.goto 15, 3) := dk_167 0 15 (dk_at dksX0_retirePrinters_0 10 rfl rfl)
theorem dX0_retirePrinters_13 : decode cX0_retirePrinters 13 = .ok (.astore 4, 2) := dk_58 4 (dk_at dksX0_retirePrinters_0 13 rfl rfl)
theorem dX0_retirePrinters_15 : decode cX0_retirePrinters 15 = .ok (.iconst 1, 1) := dk_4 (dk_at dksX0_retirePrinters_0 15 rfl rfl)
theorem dX0_retirePrinters_16 : decode cX0_retirePrinters 16 = .ok (.ireturn, 1) := dk_172 (dk_at dksX0_retirePrinters_0 16 rfl rfl)
theorem dX0_retirePrinters_17 : decode cX0_retirePrinters 17 = .ok (.astore 4, 2) := dk_58 4 (dk_at dksX0_retirePrinters_0 17 rfl rfl)
theorem dX0_retirePrinters_19 : decode cX0_retirePrinters 19 = .ok (.iconst 2, 1) := dk_5 (dk_at dksX0_retirePrinters_0 19 rfl rfl)
theorem dX0_retirePrinters_20 : decode cX0_retirePrinters 20 = .ok (.ireturn, 1) := dk_172 (dk_at dksX0_retirePrinters_0 20 rfl rfl)
theorem dX0_retirePrinters_21 : decode cX0_retirePrinters 21 = .ok (.astore 4, 2) := dk_58 4 (dk_at dksX0_retirePrinters_0 21 rfl rfl)
theorem dX0_retirePrinters_23 : decode cX0_retirePrinters 23 = .ok (.iconst 3, 1) := dk_6 (dk_at dksX0_retirePrinters_0 23 rfl rfl)
theorem dX0_retirePrinters_24 : decode cX0_retirePrinters 24 = .ok (.ireturn, 1) := dk_172 (dk_at dksX0_retirePrinters_1 0 rfl rfl)
theorem dX0_retirePrinters_25 : decode cX0_retirePrinters 25 = .ok (.iconst 0, 1) := dk_3 (dk_at dksX0_retirePrinters_1 1 rfl rfl)
theorem dX0_retirePrinters_26 : decode cX0_retirePrinters 26 = .ok (.ireturn, 1) := dk_172 (dk_at dksX0_retirePrinters_1 2 rfl rfl)
abbrev cX0_runScript : ByteArray := method_29_code
def yX0_runScript : MethodName := ⟨RX0, "runScript", "(LPrinterClaims;I[J)I"⟩
def dkwX0_runScript_0 : List UInt8 := [44, 3, 42, 27, 182, 0, 97, 133, 80, 167, 0, 6, 78, 4, 172, 3, 172]
abbrev dktX0_runScript_0 : List UInt8 := dkwX0_runScript_0 ++ []
theorem dksX0_runScript_0 : cX0_runScript.data.toList.drop 0 = dktX0_runScript_0 := by decide +kernel
theorem dX0_runScript_0 : decode cX0_runScript 0 = .ok (.aload_n 2, 1) := dk_44 (dk_at dksX0_runScript_0 0 rfl rfl)
theorem dX0_runScript_1 : decode cX0_runScript 1 = .ok (.iconst 0, 1) := dk_3 (dk_at dksX0_runScript_0 1 rfl rfl)
theorem dX0_runScript_2 : decode cX0_runScript 2 = .ok (.aload_n 0, 1) := dk_42 (dk_at dksX0_runScript_0 2 rfl rfl)
theorem dX0_runScript_3 : decode cX0_runScript 3 = .ok (.iload_n 1, 1) := dk_27 (dk_at dksX0_runScript_0 3 rfl rfl)
theorem dX0_runScript_4 : decode cX0_runScript 4 = .ok (.invokevirtual 97, 3) := dk_182 0 97 (dk_at dksX0_runScript_0 4 rfl rfl)
theorem dX0_runScript_7 : decode cX0_runScript 7 = .ok (.i2l, 1) := dk_133 (dk_at dksX0_runScript_0 7 rfl rfl)
theorem dX0_runScript_8 : decode cX0_runScript 8 = .ok (.lastore, 1) := dk_80 (dk_at dksX0_runScript_0 8 rfl rfl)
theorem dX0_runScript_9 : decode cX0_runScript 9 = .ok (.goto 6, 3) := dk_167 0 6 (dk_at dksX0_runScript_0 9 rfl rfl)
theorem dX0_runScript_12 : decode cX0_runScript 12 = .ok (.astore_n 3, 1) := dk_78 (dk_at dksX0_runScript_0 12 rfl rfl)
theorem dX0_runScript_13 : decode cX0_runScript 13 = .ok (.iconst 1, 1) := dk_4 (dk_at dksX0_runScript_0 13 rfl rfl)
theorem dX0_runScript_14 : decode cX0_runScript 14 = .ok (.ireturn, 1) := dk_172 (dk_at dksX0_runScript_0 14 rfl rfl)
theorem dX0_runScript_15 : decode cX0_runScript 15 = .ok (.iconst 0, 1) := dk_3 (dk_at dksX0_runScript_0 15 rfl rfl)
theorem dX0_runScript_16 : decode cX0_runScript 16 = .ok (.ireturn, 1) := dk_172 (dk_at dksX0_runScript_0 16 rfl rfl)
abbrev cX0_writeOffice : ByteArray := method_30_code
def yX0_writeOffice : MethodName := ⟨RX0, "writeOffice", "(LPrinterClaims;I[J)I"⟩
def dkwX0_writeOffice_0 : List UInt8 := [44, 3, 42, 27, 182, 0, 100, 133, 80, 167, 0, 6, 78, 4, 172, 3, 172]
abbrev dktX0_writeOffice_0 : List UInt8 := dkwX0_writeOffice_0 ++ []
theorem dksX0_writeOffice_0 : cX0_writeOffice.data.toList.drop 0 = dktX0_writeOffice_0 := by decide +kernel
theorem dX0_writeOffice_0 : decode cX0_writeOffice 0 = .ok (.aload_n 2, 1) := dk_44 (dk_at dksX0_writeOffice_0 0 rfl rfl)
theorem dX0_writeOffice_1 : decode cX0_writeOffice 1 = .ok (.iconst 0, 1) := dk_3 (dk_at dksX0_writeOffice_0 1 rfl rfl)
theorem dX0_writeOffice_2 : decode cX0_writeOffice 2 = .ok (.aload_n 0, 1) := dk_42 (dk_at dksX0_writeOffice_0 2 rfl rfl)
theorem dX0_writeOffice_3 : decode cX0_writeOffice 3 = .ok (.iload_n 1, 1) := dk_27 (dk_at dksX0_writeOffice_0 3 rfl rfl)
theorem dX0_writeOffice_4 : decode cX0_writeOffice 4 = .ok (.invokevirtual 100, 3) := dk_182 0 100 (dk_at dksX0_writeOffice_0 4 rfl rfl)
theorem dX0_writeOffice_7 : decode cX0_writeOffice 7 = .ok (.i2l, 1) := dk_133 (dk_at dksX0_writeOffice_0 7 rfl rfl)
theorem dX0_writeOffice_8 : decode cX0_writeOffice 8 = .ok (.lastore, 1) := dk_80 (dk_at dksX0_writeOffice_0 8 rfl rfl)
theorem dX0_writeOffice_9 : decode cX0_writeOffice 9 = .ok (.goto 6, 3) := dk_167 0 6 (dk_at dksX0_writeOffice_0 9 rfl rfl)
theorem dX0_writeOffice_12 : decode cX0_writeOffice 12 = .ok (.astore_n 3, 1) := dk_78 (dk_at dksX0_writeOffice_0 12 rfl rfl)
theorem dX0_writeOffice_13 : decode cX0_writeOffice 13 = .ok (.iconst 1, 1) := dk_4 (dk_at dksX0_writeOffice_0 13 rfl rfl)
theorem dX0_writeOffice_14 : decode cX0_writeOffice 14 = .ok (.ireturn, 1) := dk_172 (dk_at dksX0_writeOffice_0 14 rfl rfl)
theorem dX0_writeOffice_15 : decode cX0_writeOffice 15 = .ok (.iconst 0, 1) := dk_3 (dk_at dksX0_writeOffice_0 15 rfl rfl)
theorem dX0_writeOffice_16 : decode cX0_writeOffice 16 = .ok (.ireturn, 1) := dk_172 (dk_at dksX0_writeOffice_0 16 rfl rfl)
abbrev cX0_outputByte : ByteArray := method_31_code
def yX0_outputByte : MethodName := ⟨RX0, "outputByte", "(LPrinterClaims;I[J)I"⟩
def dkwX0_outputByte_0 : List UInt8 := [44, 3, 42, 27, 182, 0, 103, 133, 80, 167, 0, 6, 78, 4, 172, 3, 172]
abbrev dktX0_outputByte_0 : List UInt8 := dkwX0_outputByte_0 ++ []
theorem dksX0_outputByte_0 : cX0_outputByte.data.toList.drop 0 = dktX0_outputByte_0 := by decide +kernel
theorem dX0_outputByte_0 : decode cX0_outputByte 0 = .ok (.aload_n 2, 1) := dk_44 (dk_at dksX0_outputByte_0 0 rfl rfl)
theorem dX0_outputByte_1 : decode cX0_outputByte 1 = .ok (.iconst 0, 1) := dk_3 (dk_at dksX0_outputByte_0 1 rfl rfl)
theorem dX0_outputByte_2 : decode cX0_outputByte 2 = .ok (.aload_n 0, 1) := dk_42 (dk_at dksX0_outputByte_0 2 rfl rfl)
theorem dX0_outputByte_3 : decode cX0_outputByte 3 = .ok (.iload_n 1, 1) := dk_27 (dk_at dksX0_outputByte_0 3 rfl rfl)
theorem dX0_outputByte_4 : decode cX0_outputByte 4 = .ok (.invokevirtual 103, 3) := dk_182 0 103 (dk_at dksX0_outputByte_0 4 rfl rfl)
theorem dX0_outputByte_7 : decode cX0_outputByte 7 = .ok (.i2l, 1) := dk_133 (dk_at dksX0_outputByte_0 7 rfl rfl)
theorem dX0_outputByte_8 : decode cX0_outputByte 8 = .ok (.lastore, 1) := dk_80 (dk_at dksX0_outputByte_0 8 rfl rfl)
theorem dX0_outputByte_9 : decode cX0_outputByte 9 = .ok (.goto 6, 3) := dk_167 0 6 (dk_at dksX0_outputByte_0 9 rfl rfl)
theorem dX0_outputByte_12 : decode cX0_outputByte 12 = .ok (.astore_n 3, 1) := dk_78 (dk_at dksX0_outputByte_0 12 rfl rfl)
theorem dX0_outputByte_13 : decode cX0_outputByte 13 = .ok (.iconst 1, 1) := dk_4 (dk_at dksX0_outputByte_0 13 rfl rfl)
theorem dX0_outputByte_14 : decode cX0_outputByte 14 = .ok (.ireturn, 1) := dk_172 (dk_at dksX0_outputByte_0 14 rfl rfl)
theorem dX0_outputByte_15 : decode cX0_outputByte 15 = .ok (.iconst 0, 1) := dk_3 (dk_at dksX0_outputByte_0 15 rfl rfl)
theorem dX0_outputByte_16 : decode cX0_outputByte 16 = .ok (.ireturn, 1) := dk_172 (dk_at dksX0_outputByte_0 16 rfl rfl)
abbrev cX0_undo : ByteArray := method_32_code
def yX0_undo : MethodName := ⟨RX0, "undo", "(LPrinterClaims;[J)I"⟩
def dkwX0_undo_0 : List UInt8 := [43, 3, 42, 182, 0, 106, 133, 80, 167, 0, 6, 77, 4, 172, 3, 172]
abbrev dktX0_undo_0 : List UInt8 := dkwX0_undo_0 ++ []
theorem dksX0_undo_0 : cX0_undo.data.toList.drop 0 = dktX0_undo_0 := by decide +kernel
theorem dX0_undo_0 : decode cX0_undo 0 = .ok (.aload_n 1, 1) := dk_43 (dk_at dksX0_undo_0 0 rfl rfl)
theorem dX0_undo_1 : decode cX0_undo 1 = .ok (.iconst 0, 1) := dk_3 (dk_at dksX0_undo_0 1 rfl rfl)
theorem dX0_undo_2 : decode cX0_undo 2 = .ok (.aload_n 0, 1) := dk_42 (dk_at dksX0_undo_0 2 rfl rfl)
theorem dX0_undo_3 : decode cX0_undo 3 = .ok (.invokevirtual 106, 3) := dk_182 0 106 (dk_at dksX0_undo_0 3 rfl rfl)
theorem dX0_undo_6 : decode cX0_undo 6 = .ok (.i2l, 1) := dk_133 (dk_at dksX0_undo_0 6 rfl rfl)
theorem dX0_undo_7 : decode cX0_undo 7 = .ok (.lastore, 1) := dk_80 (dk_at dksX0_undo_0 7 rfl rfl)
theorem dX0_undo_8 : decode cX0_undo 8 = .ok (.goto 6, 3) := dk_167 0 6 (dk_at dksX0_undo_0 8 rfl rfl)
theorem dX0_undo_11 : decode cX0_undo 11 = .ok (.astore_n 2, 1) := dk_77 (dk_at dksX0_undo_0 11 rfl rfl)
theorem dX0_undo_12 : decode cX0_undo 12 = .ok (.iconst 1, 1) := dk_4 (dk_at dksX0_undo_0 12 rfl rfl)
theorem dX0_undo_13 : decode cX0_undo 13 = .ok (.ireturn, 1) := dk_172 (dk_at dksX0_undo_0 13 rfl rfl)
theorem dX0_undo_14 : decode cX0_undo 14 = .ok (.iconst 0, 1) := dk_3 (dk_at dksX0_undo_0 14 rfl rfl)
theorem dX0_undo_15 : decode cX0_undo 15 = .ok (.ireturn, 1) := dk_172 (dk_at dksX0_undo_0 15 rfl rfl)
abbrev cX0_restoreSnapshot : ByteArray := method_33_code
def yX0_restoreSnapshot : MethodName := ⟨RX0, "restoreSnapshot", "(LPrinterClaims;[J)I"⟩
def dkwX0_restoreSnapshot_0 : List UInt8 := [43, 3, 42, 182, 0, 110, 133, 80, 167, 0, 6, 77, 4, 172, 3, 172]
abbrev dktX0_restoreSnapshot_0 : List UInt8 := dkwX0_restoreSnapshot_0 ++ []
theorem dksX0_restoreSnapshot_0 : cX0_restoreSnapshot.data.toList.drop 0 = dktX0_restoreSnapshot_0 := by decide +kernel
theorem dX0_restoreSnapshot_0 : decode cX0_restoreSnapshot 0 = .ok (.aload_n 1, 1) := dk_43 (dk_at dksX0_restoreSnapshot_0 0 rfl rfl)
theorem dX0_restoreSnapshot_1 : decode cX0_restoreSnapshot 1 = .ok (.iconst 0, 1) := dk_3 (dk_at dksX0_restoreSnapshot_0 1 rfl rfl)
theorem dX0_restoreSnapshot_2 : decode cX0_restoreSnapshot 2 = .ok (.aload_n 0, 1) := dk_42 (dk_at dksX0_restoreSnapshot_0 2 rfl rfl)
theorem dX0_restoreSnapshot_3 : decode cX0_restoreSnapshot 3 = .ok (.invokevirtual 110, 3) := dk_182 0 110 (dk_at dksX0_restoreSnapshot_0 3 rfl rfl)
theorem dX0_restoreSnapshot_6 : decode cX0_restoreSnapshot 6 = .ok (.i2l, 1) := dk_133 (dk_at dksX0_restoreSnapshot_0 6 rfl rfl)
theorem dX0_restoreSnapshot_7 : decode cX0_restoreSnapshot 7 = .ok (.lastore, 1) := dk_80 (dk_at dksX0_restoreSnapshot_0 7 rfl rfl)
theorem dX0_restoreSnapshot_8 : decode cX0_restoreSnapshot 8 = .ok (.goto 6, 3) := dk_167 0 6 (dk_at dksX0_restoreSnapshot_0 8 rfl rfl)
theorem dX0_restoreSnapshot_11 : decode cX0_restoreSnapshot 11 = .ok (.astore_n 2, 1) := dk_77 (dk_at dksX0_restoreSnapshot_0 11 rfl rfl)
theorem dX0_restoreSnapshot_12 : decode cX0_restoreSnapshot 12 = .ok (.iconst 1, 1) := dk_4 (dk_at dksX0_restoreSnapshot_0 12 rfl rfl)
theorem dX0_restoreSnapshot_13 : decode cX0_restoreSnapshot 13 = .ok (.ireturn, 1) := dk_172 (dk_at dksX0_restoreSnapshot_0 13 rfl rfl)
theorem dX0_restoreSnapshot_14 : decode cX0_restoreSnapshot 14 = .ok (.iconst 0, 1) := dk_3 (dk_at dksX0_restoreSnapshot_0 14 rfl rfl)
theorem dX0_restoreSnapshot_15 : decode cX0_restoreSnapshot 15 = .ok (.ireturn, 1) := dk_172 (dk_at dksX0_restoreSnapshot_0 15 rfl rfl)
theorem q98 : (Jvm.Cond.initialized "PrinterClaimsLaw") ∈ lw_all := lw_g (lw_at lw_m1 0 rfl) rfl
theorem q155 : (Jvm.Cond.classLink "PrinterClaimsLaw" (8 : Nat) "PrinterClaims") ∈ lw_all := lw_g (lw_at lw_m1 57 rfl) rfl
theorem q157 : (Jvm.Cond.methodLink "PrinterClaimsLaw" (113 : Nat) ({ cls := "PrinterClaims", name := "<init>", desc := "()V" } : Jvm.MethodName)) ∈ lw_all := lw_g (lw_at lw_m1 59 rfl) rfl
theorem q721 : (Jvm.Cond.methodLink "PrinterClaimsLaw" (117 : Nat) ({ cls := "PrinterClaims", name := "appendText", desc := "(IIIII)I" } : Jvm.MethodName)) ∈ lw_all := lw_g (lw_at lw_m3 143 rfl) rfl
theorem q725 : (Jvm.Cond.methodLink "PrinterClaimsLaw" (131 : Nat) ({ cls := "PrinterClaims", name := "errorCode", desc := "()I" } : Jvm.MethodName)) ∈ lw_all := lw_g (lw_at lw_m3 147 rfl) rfl
theorem q729 : (Jvm.Cond.methodLink "PrinterClaimsLaw" (135 : Nat) ({ cls := "PrinterClaims", name := "errorOffset", desc := "()I" } : Jvm.MethodName)) ∈ lw_all := lw_g (lw_at lw_m3 151 rfl) rfl
theorem q733 : (Jvm.Cond.methodLink "PrinterClaimsLaw" (139 : Nat) ({ cls := "PrinterClaims", name := "kindCount", desc := "()I" } : Jvm.MethodName)) ∈ lw_all := lw_g (lw_at lw_m3 155 rfl) rfl
theorem q741 : (Jvm.Cond.methodLink "PrinterClaimsLaw" (152 : Nat) ({ cls := "PrinterClaims", name := "scarcestKind", desc := "()I" } : Jvm.MethodName)) ∈ lw_all := lw_g (lw_at lw_m3 163 rfl) rfl
theorem q778 : (Jvm.Cond.methodLink "PrinterClaimsLaw" (156 : Nat) ({ cls := "PrinterClaims", name := "utilization", desc := "()F" } : Jvm.MethodName)) ∈ lw_all := lw_g (lw_at lw_m3 200 rfl) rfl
theorem q787 : (Jvm.Cond.methodLink "PrinterClaimsLaw" (161 : Nat) ({ cls := "PrinterClaims", name := "officeCount", desc := "()I" } : Jvm.MethodName)) ∈ lw_all := lw_g (lw_at lw_m3 209 rfl) rfl
theorem q793 : (Jvm.Cond.methodLink "PrinterClaimsLaw" (178 : Nat) ({ cls := "PrinterClaims", name := "finisherCount", desc := "()I" } : Jvm.MethodName)) ∈ lw_all := lw_g (lw_at lw_m3 215 rfl) rfl
theorem q864 : (Jvm.Cond.methodLink "PrinterClaimsLaw" (182 : Nat) ({ cls := "PrinterClaims", name := "greatestHolder", desc := "()I" } : Jvm.MethodName)) ∈ lw_all := lw_g (lw_at lw_m4 46 rfl) rfl
theorem q872 : (Jvm.Cond.methodLink "PrinterClaimsLaw" (186 : Nat) ({ cls := "PrinterClaims", name := "meanNeed", desc := "()D" } : Jvm.MethodName)) ∈ lw_all := lw_g (lw_at lw_m4 54 rfl) rfl
theorem q881 : (Jvm.Cond.methodLink "PrinterClaimsLaw" (191 : Nat) ({ cls := "PrinterClaims", name := "waitingCount", desc := "()I" } : Jvm.MethodName)) ∈ lw_all := lw_g (lw_at lw_m4 63 rfl) rfl
theorem q885 : (Jvm.Cond.methodLink "PrinterClaimsLaw" (195 : Nat) ({ cls := "PrinterClaims", name := "waitingOffice", desc := "(I)I" } : Jvm.MethodName)) ∈ lw_all := lw_g (lw_at lw_m4 67 rfl) rfl
theorem q899 : (Jvm.Cond.methodLink "PrinterClaimsLaw" (217 : Nat) ({ cls := "PrinterClaims", name := "sequenceCount", desc := "()I" } : Jvm.MethodName)) ∈ lw_all := lw_g (lw_at lw_m4 81 rfl) rfl
theorem q937 : (Jvm.Cond.methodLink "PrinterClaimsLaw" (237 : Nat) ({ cls := "PrinterClaims", name := "grantedRequests", desc := "()I" } : Jvm.MethodName)) ∈ lw_all := lw_g (lw_at lw_m4 119 rfl) rfl
theorem q941 : (Jvm.Cond.methodLink "PrinterClaimsLaw" (241 : Nat) ({ cls := "PrinterClaims", name := "delayedRequests", desc := "()I" } : Jvm.MethodName)) ∈ lw_all := lw_g (lw_at lw_m4 123 rfl) rfl
theorem q945 : (Jvm.Cond.methodLink "PrinterClaimsLaw" (245 : Nat) ({ cls := "PrinterClaims", name := "unsafeRequests", desc := "()I" } : Jvm.MethodName)) ∈ lw_all := lw_g (lw_at lw_m4 127 rfl) rfl
theorem q949 : (Jvm.Cond.methodLink "PrinterClaimsLaw" (249 : Nat) ({ cls := "PrinterClaims", name := "grantedPrinters", desc := "()I" } : Jvm.MethodName)) ∈ lw_all := lw_g (lw_at lw_m4 131 rfl) rfl
theorem q953 : (Jvm.Cond.methodLink "PrinterClaimsLaw" (253 : Nat) ({ cls := "PrinterClaims", name := "returnedPrinters", desc := "()I" } : Jvm.MethodName)) ∈ lw_all := lw_g (lw_at lw_m4 135 rfl) rfl
theorem q957 : (Jvm.Cond.methodLink "PrinterClaimsLaw" (257 : Nat) ({ cls := "PrinterClaims", name := "ledgerGap", desc := "()I" } : Jvm.MethodName)) ∈ lw_all := lw_g (lw_at lw_m4 139 rfl) rfl
theorem q964 : (Jvm.Cond.methodLink "PrinterClaimsLaw" (291 : Nat) ({ cls := "PrinterClaims", name := "undoableCount", desc := "()I" } : Jvm.MethodName)) ∈ lw_all := lw_g (lw_at lw_m4 146 rfl) rfl
theorem q975 : (Jvm.Cond.methodLink "PrinterClaimsLaw" (299 : Nat) ({ cls := "PrinterClaims", name := "saveSnapshot", desc := "()V" } : Jvm.MethodName)) ∈ lw_all := lw_g (lw_at lw_m4 157 rfl) rfl
theorem q999 : (Jvm.Cond.methodLink "PrinterClaimsLaw" (122 : Nat) ({ cls := "PrinterClaimsLaw", name := "loadSystem", desc := "(LPrinterClaims;I[J)I" } : Jvm.MethodName)) ∈ lw_all := lw_g (lw_at lw_m4 181 rfl) rfl
theorem q1000 : (Jvm.Cond.static ({ cls := "PrinterClaimsLaw", name := "loadSystem", desc := "(LPrinterClaims;I[J)I" } : Jvm.MethodName)) ∈ lw_all := lw_g (lw_at lw_m4 182 rfl) rfl
theorem q1001 : (Jvm.Cond.codeWith ({ cls := "PrinterClaimsLaw", name := "loadSystem", desc := "(LPrinterClaims;I[J)I" } : Jvm.MethodName) method_3_code (4 : Nat) (Option.some Jvm.ClassFile.FieldType.int) [((0 : Nat), (9 : Nat), (12 : Nat), (13 : Nat))]) ∈ lw_all := lw_g (lw_at lw_m4 183 rfl) rfl
theorem q1002 : (Jvm.Cond.classLink "PrinterClaimsLaw" (13 : Nat) "java/lang/IllegalArgumentException") ∈ lw_all := lw_g (lw_at lw_m4 184 rfl) rfl
theorem q1003 : (Jvm.Cond.methodLink "PrinterClaimsLaw" (7 : Nat) ({ cls := "PrinterClaims", name := "loadSystem", desc := "(I)I" } : Jvm.MethodName)) ∈ lw_all := lw_g (lw_at lw_m4 185 rfl) rfl
theorem q1373 : (Jvm.Cond.methodLink "PrinterClaimsLaw" (143 : Nat) ({ cls := "PrinterClaimsLaw", name := "total", desc := "(LPrinterClaims;I[J)I" } : Jvm.MethodName)) ∈ lw_all := lw_g (lw_at lw_m6 75 rfl) rfl
theorem q1374 : (Jvm.Cond.static ({ cls := "PrinterClaimsLaw", name := "total", desc := "(LPrinterClaims;I[J)I" } : Jvm.MethodName)) ∈ lw_all := lw_g (lw_at lw_m6 76 rfl) rfl
theorem q1375 : (Jvm.Cond.codeWith ({ cls := "PrinterClaimsLaw", name := "total", desc := "(LPrinterClaims;I[J)I" } : Jvm.MethodName) method_4_code (4 : Nat) (Option.some Jvm.ClassFile.FieldType.int) [((0 : Nat), (9 : Nat), (12 : Nat), (18 : Nat))]) ∈ lw_all := lw_g (lw_at lw_m6 77 rfl) rfl
theorem q1376 : (Jvm.Cond.classLink "PrinterClaimsLaw" (18 : Nat) "java/lang/IndexOutOfBoundsException") ∈ lw_all := lw_g (lw_at lw_m6 78 rfl) rfl
theorem q1395 : (Jvm.Cond.methodLink "PrinterClaimsLaw" (15 : Nat) ({ cls := "PrinterClaims", name := "total", desc := "(I)I" } : Jvm.MethodName)) ∈ lw_all := lw_g (lw_at lw_m6 97 rfl) rfl
theorem q1423 : (Jvm.Cond.methodLink "PrinterClaimsLaw" (146 : Nat) ({ cls := "PrinterClaimsLaw", name := "available", desc := "(LPrinterClaims;I[J)I" } : Jvm.MethodName)) ∈ lw_all := lw_g (lw_at lw_m6 125 rfl) rfl
theorem q1424 : (Jvm.Cond.static ({ cls := "PrinterClaimsLaw", name := "available", desc := "(LPrinterClaims;I[J)I" } : Jvm.MethodName)) ∈ lw_all := lw_g (lw_at lw_m6 126 rfl) rfl
theorem q1425 : (Jvm.Cond.codeWith ({ cls := "PrinterClaimsLaw", name := "available", desc := "(LPrinterClaims;I[J)I" } : Jvm.MethodName) method_5_code (4 : Nat) (Option.some Jvm.ClassFile.FieldType.int) [((0 : Nat), (9 : Nat), (12 : Nat), (18 : Nat))]) ∈ lw_all := lw_g (lw_at lw_m6 127 rfl) rfl
theorem q1426 : (Jvm.Cond.methodLink "PrinterClaimsLaw" (20 : Nat) ({ cls := "PrinterClaims", name := "available", desc := "(I)I" } : Jvm.MethodName)) ∈ lw_all := lw_g (lw_at lw_m6 128 rfl) rfl
theorem q1430 : (Jvm.Cond.methodLink "PrinterClaimsLaw" (149 : Nat) ({ cls := "PrinterClaimsLaw", name := "claimedInAll", desc := "(LPrinterClaims;I[J)I" } : Jvm.MethodName)) ∈ lw_all := lw_g (lw_at lw_m6 132 rfl) rfl
theorem q1431 : (Jvm.Cond.static ({ cls := "PrinterClaimsLaw", name := "claimedInAll", desc := "(LPrinterClaims;I[J)I" } : Jvm.MethodName)) ∈ lw_all := lw_g (lw_at lw_m6 133 rfl) rfl
theorem q1432 : (Jvm.Cond.codeWith ({ cls := "PrinterClaimsLaw", name := "claimedInAll", desc := "(LPrinterClaims;I[J)I" } : Jvm.MethodName) method_6_code (4 : Nat) (Option.some Jvm.ClassFile.FieldType.int) [((0 : Nat), (9 : Nat), (12 : Nat), (18 : Nat))]) ∈ lw_all := lw_g (lw_at lw_m6 134 rfl) rfl
theorem q1433 : (Jvm.Cond.methodLink "PrinterClaimsLaw" (23 : Nat) ({ cls := "PrinterClaims", name := "claimedInAll", desc := "(I)I" } : Jvm.MethodName)) ∈ lw_all := lw_g (lw_at lw_m6 135 rfl) rfl
theorem q1441 : (Jvm.Cond.methodLink "PrinterClaimsLaw" (165 : Nat) ({ cls := "PrinterClaimsLaw", name := "claim", desc := "(LPrinterClaims;II[J)I" } : Jvm.MethodName)) ∈ lw_all := lw_g (lw_at lw_m6 143 rfl) rfl
theorem q1442 : (Jvm.Cond.static ({ cls := "PrinterClaimsLaw", name := "claim", desc := "(LPrinterClaims;II[J)I" } : Jvm.MethodName)) ∈ lw_all := lw_g (lw_at lw_m6 144 rfl) rfl
theorem q1443 : (Jvm.Cond.codeWith ({ cls := "PrinterClaimsLaw", name := "claim", desc := "(LPrinterClaims;II[J)I" } : Jvm.MethodName) method_7_code (5 : Nat) (Option.some Jvm.ClassFile.FieldType.int) [((0 : Nat), (10 : Nat), (13 : Nat), (18 : Nat))]) ∈ lw_all := lw_g (lw_at lw_m6 145 rfl) rfl
theorem q1444 : (Jvm.Cond.methodLink "PrinterClaimsLaw" (26 : Nat) ({ cls := "PrinterClaims", name := "claim", desc := "(II)I" } : Jvm.MethodName)) ∈ lw_all := lw_g (lw_at lw_m6 146 rfl) rfl
theorem q1460 : (Jvm.Cond.methodLink "PrinterClaimsLaw" (169 : Nat) ({ cls := "PrinterClaimsLaw", name := "allocated", desc := "(LPrinterClaims;II[J)I" } : Jvm.MethodName)) ∈ lw_all := lw_g (lw_at lw_m6 162 rfl) rfl
theorem q1461 : (Jvm.Cond.static ({ cls := "PrinterClaimsLaw", name := "allocated", desc := "(LPrinterClaims;II[J)I" } : Jvm.MethodName)) ∈ lw_all := lw_g (lw_at lw_m6 163 rfl) rfl
theorem q1462 : (Jvm.Cond.codeWith ({ cls := "PrinterClaimsLaw", name := "allocated", desc := "(LPrinterClaims;II[J)I" } : Jvm.MethodName) method_8_code (5 : Nat) (Option.some Jvm.ClassFile.FieldType.int) [((0 : Nat), (10 : Nat), (13 : Nat), (18 : Nat))]) ∈ lw_all := lw_g (lw_at lw_m6 164 rfl) rfl
theorem q1463 : (Jvm.Cond.methodLink "PrinterClaimsLaw" (30 : Nat) ({ cls := "PrinterClaims", name := "allocated", desc := "(II)I" } : Jvm.MethodName)) ∈ lw_all := lw_g (lw_at lw_m6 165 rfl) rfl
theorem q1467 : (Jvm.Cond.methodLink "PrinterClaimsLaw" (172 : Nat) ({ cls := "PrinterClaimsLaw", name := "need", desc := "(LPrinterClaims;II[J)I" } : Jvm.MethodName)) ∈ lw_all := lw_g (lw_at lw_m6 169 rfl) rfl
theorem q1468 : (Jvm.Cond.static ({ cls := "PrinterClaimsLaw", name := "need", desc := "(LPrinterClaims;II[J)I" } : Jvm.MethodName)) ∈ lw_all := lw_g (lw_at lw_m6 170 rfl) rfl
theorem q1469 : (Jvm.Cond.codeWith ({ cls := "PrinterClaimsLaw", name := "need", desc := "(LPrinterClaims;II[J)I" } : Jvm.MethodName) method_9_code (5 : Nat) (Option.some Jvm.ClassFile.FieldType.int) [((0 : Nat), (10 : Nat), (13 : Nat), (18 : Nat))]) ∈ lw_all := lw_g (lw_at lw_m6 171 rfl) rfl
theorem q1470 : (Jvm.Cond.methodLink "PrinterClaimsLaw" (33 : Nat) ({ cls := "PrinterClaims", name := "need", desc := "(II)I" } : Jvm.MethodName)) ∈ lw_all := lw_g (lw_at lw_m6 172 rfl) rfl
theorem q1475 : (Jvm.Cond.methodLink "PrinterClaimsLaw" (175 : Nat) ({ cls := "PrinterClaimsLaw", name := "canFinish", desc := "(LPrinterClaims;I[J)I" } : Jvm.MethodName)) ∈ lw_all := lw_g (lw_at lw_m6 177 rfl) rfl
theorem q1476 : (Jvm.Cond.static ({ cls := "PrinterClaimsLaw", name := "canFinish", desc := "(LPrinterClaims;I[J)I" } : Jvm.MethodName)) ∈ lw_all := lw_g (lw_at lw_m6 178 rfl) rfl
theorem q1477 : (Jvm.Cond.codeWith ({ cls := "PrinterClaimsLaw", name := "canFinish", desc := "(LPrinterClaims;I[J)I" } : Jvm.MethodName) method_10_code (4 : Nat) (Option.some Jvm.ClassFile.FieldType.int) [((0 : Nat), (16 : Nat), (19 : Nat), (18 : Nat))]) ∈ lw_all := lw_g (lw_at lw_m6 179 rfl) rfl
theorem q1478 : (Jvm.Cond.methodLink "PrinterClaimsLaw" (36 : Nat) ({ cls := "PrinterClaims", name := "canFinish", desc := "(I)Z" } : Jvm.MethodName)) ∈ lw_all := lw_g (lw_at lw_m6 180 rfl) rfl
theorem q1482 : (Jvm.Cond.methodLink "PrinterClaimsLaw" (199 : Nat) ({ cls := "PrinterClaimsLaw", name := "waitsForKind", desc := "(LPrinterClaims;I[J)I" } : Jvm.MethodName)) ∈ lw_all := lw_g (lw_at lw_m6 184 rfl) rfl
theorem q1483 : (Jvm.Cond.static ({ cls := "PrinterClaimsLaw", name := "waitsForKind", desc := "(LPrinterClaims;I[J)I" } : Jvm.MethodName)) ∈ lw_all := lw_g (lw_at lw_m6 185 rfl) rfl
theorem q1484 : (Jvm.Cond.codeWith ({ cls := "PrinterClaimsLaw", name := "waitsForKind", desc := "(LPrinterClaims;I[J)I" } : Jvm.MethodName) method_11_code (4 : Nat) (Option.some Jvm.ClassFile.FieldType.int) [((0 : Nat), (9 : Nat), (12 : Nat), (18 : Nat))]) ∈ lw_all := lw_g (lw_at lw_m6 186 rfl) rfl
theorem q1485 : (Jvm.Cond.methodLink "PrinterClaimsLaw" (40 : Nat) ({ cls := "PrinterClaims", name := "waitsForKind", desc := "(I)I" } : Jvm.MethodName)) ∈ lw_all := lw_g (lw_at lw_m6 187 rfl) rfl
theorem q1498 : (Jvm.Cond.methodLink "PrinterClaimsLaw" (202 : Nat) ({ cls := "PrinterClaimsLaw", name := "waitsForCount", desc := "(LPrinterClaims;I[J)I" } : Jvm.MethodName)) ∈ lw_all := lw_g (lw_at lw_m6 200 rfl) rfl
theorem q1499 : (Jvm.Cond.static ({ cls := "PrinterClaimsLaw", name := "waitsForCount", desc := "(LPrinterClaims;I[J)I" } : Jvm.MethodName)) ∈ lw_all := lw_g (lw_at lw_m6 201 rfl) rfl
theorem q1500 : (Jvm.Cond.codeWith ({ cls := "PrinterClaimsLaw", name := "waitsForCount", desc := "(LPrinterClaims;I[J)I" } : Jvm.MethodName) method_12_code (4 : Nat) (Option.some Jvm.ClassFile.FieldType.int) [((0 : Nat), (9 : Nat), (12 : Nat), (18 : Nat))]) ∈ lw_all := lw_g (lw_at lw_m6 202 rfl) rfl
theorem q1501 : (Jvm.Cond.methodLink "PrinterClaimsLaw" (43 : Nat) ({ cls := "PrinterClaims", name := "waitsForCount", desc := "(I)I" } : Jvm.MethodName)) ∈ lw_all := lw_g (lw_at lw_m6 203 rfl) rfl
theorem q1509 : (Jvm.Cond.methodLink "PrinterClaimsLaw" (205 : Nat) ({ cls := "PrinterClaimsLaw", name := "waitedPrinters", desc := "(LPrinterClaims;I[J)I" } : Jvm.MethodName)) ∈ lw_all := lw_g (lw_at lw_m6 211 rfl) rfl
theorem q1510 : (Jvm.Cond.static ({ cls := "PrinterClaimsLaw", name := "waitedPrinters", desc := "(LPrinterClaims;I[J)I" } : Jvm.MethodName)) ∈ lw_all := lw_g (lw_at lw_m6 212 rfl) rfl
theorem q1511 : (Jvm.Cond.codeWith ({ cls := "PrinterClaimsLaw", name := "waitedPrinters", desc := "(LPrinterClaims;I[J)I" } : Jvm.MethodName) method_13_code (4 : Nat) (Option.some Jvm.ClassFile.FieldType.int) [((0 : Nat), (9 : Nat), (12 : Nat), (18 : Nat))]) ∈ lw_all := lw_g (lw_at lw_m6 213 rfl) rfl
theorem q1512 : (Jvm.Cond.methodLink "PrinterClaimsLaw" (46 : Nat) ({ cls := "PrinterClaims", name := "waitedPrinters", desc := "(I)I" } : Jvm.MethodName)) ∈ lw_all := lw_g (lw_at lw_m6 214 rfl) rfl
theorem q1516 : (Jvm.Cond.methodLink "PrinterClaimsLaw" (208 : Nat) ({ cls := "PrinterClaimsLaw", name := "waitReason", desc := "(LPrinterClaims;I[J)I" } : Jvm.MethodName)) ∈ lw_all := lw_g (lw_at lw_m6 218 rfl) rfl
theorem q1517 : (Jvm.Cond.static ({ cls := "PrinterClaimsLaw", name := "waitReason", desc := "(LPrinterClaims;I[J)I" } : Jvm.MethodName)) ∈ lw_all := lw_g (lw_at lw_m6 219 rfl) rfl
theorem q1518 : (Jvm.Cond.codeWith ({ cls := "PrinterClaimsLaw", name := "waitReason", desc := "(LPrinterClaims;I[J)I" } : Jvm.MethodName) method_14_code (4 : Nat) (Option.some Jvm.ClassFile.FieldType.int) [((0 : Nat), (9 : Nat), (12 : Nat), (18 : Nat))]) ∈ lw_all := lw_g (lw_at lw_m6 220 rfl) rfl
theorem q1519 : (Jvm.Cond.methodLink "PrinterClaimsLaw" (49 : Nat) ({ cls := "PrinterClaims", name := "waitReason", desc := "(I)I" } : Jvm.MethodName)) ∈ lw_all := lw_g (lw_at lw_m6 221 rfl) rfl
theorem q1523 : (Jvm.Cond.methodLink "PrinterClaimsLaw" (211 : Nat) ({ cls := "PrinterClaimsLaw", name := "sequenceOffice", desc := "(LPrinterClaims;I[J)I" } : Jvm.MethodName)) ∈ lw_all := lw_g (lw_at lw_m6 225 rfl) rfl
theorem q1524 : (Jvm.Cond.static ({ cls := "PrinterClaimsLaw", name := "sequenceOffice", desc := "(LPrinterClaims;I[J)I" } : Jvm.MethodName)) ∈ lw_all := lw_g (lw_at lw_m6 226 rfl) rfl
theorem q1525 : (Jvm.Cond.codeWith ({ cls := "PrinterClaimsLaw", name := "sequenceOffice", desc := "(LPrinterClaims;I[J)I" } : Jvm.MethodName) method_15_code (4 : Nat) (Option.some Jvm.ClassFile.FieldType.int) [((0 : Nat), (9 : Nat), (12 : Nat), (18 : Nat))]) ∈ lw_all := lw_g (lw_at lw_m6 227 rfl) rfl
theorem q1526 : (Jvm.Cond.methodLink "PrinterClaimsLaw" (52 : Nat) ({ cls := "PrinterClaims", name := "sequenceOffice", desc := "(I)I" } : Jvm.MethodName)) ∈ lw_all := lw_g (lw_at lw_m6 228 rfl) rfl
theorem q1536 : (Jvm.Cond.methodLink "PrinterClaimsLaw" (214 : Nat) ({ cls := "PrinterClaimsLaw", name := "sequenceAvailable", desc := "(LPrinterClaims;II[J)I" } : Jvm.MethodName)) ∈ lw_all := lw_g (lw_at lw_m6 238 rfl) rfl
theorem q1537 : (Jvm.Cond.static ({ cls := "PrinterClaimsLaw", name := "sequenceAvailable", desc := "(LPrinterClaims;II[J)I" } : Jvm.MethodName)) ∈ lw_all := lw_g (lw_at lw_m6 239 rfl) rfl
theorem q1538 : (Jvm.Cond.codeWith ({ cls := "PrinterClaimsLaw", name := "sequenceAvailable", desc := "(LPrinterClaims;II[J)I" } : Jvm.MethodName) method_16_code (5 : Nat) (Option.some Jvm.ClassFile.FieldType.int) [((0 : Nat), (10 : Nat), (13 : Nat), (18 : Nat))]) ∈ lw_all := lw_g (lw_at lw_m7 0 rfl) rfl
theorem q1539 : (Jvm.Cond.methodLink "PrinterClaimsLaw" (55 : Nat) ({ cls := "PrinterClaims", name := "sequenceAvailable", desc := "(II)I" } : Jvm.MethodName)) ∈ lw_all := lw_g (lw_at lw_m7 1 rfl) rfl
theorem q1543 : (Jvm.Cond.methodLink "PrinterClaimsLaw" (221 : Nat) ({ cls := "PrinterClaimsLaw", name := "earliestPlace", desc := "(LPrinterClaims;I[J)I" } : Jvm.MethodName)) ∈ lw_all := lw_g (lw_at lw_m7 5 rfl) rfl
theorem q1544 : (Jvm.Cond.static ({ cls := "PrinterClaimsLaw", name := "earliestPlace", desc := "(LPrinterClaims;I[J)I" } : Jvm.MethodName)) ∈ lw_all := lw_g (lw_at lw_m7 6 rfl) rfl
theorem q1545 : (Jvm.Cond.codeWith ({ cls := "PrinterClaimsLaw", name := "earliestPlace", desc := "(LPrinterClaims;I[J)I" } : Jvm.MethodName) method_17_code (4 : Nat) (Option.some Jvm.ClassFile.FieldType.int) [((0 : Nat), (9 : Nat), (12 : Nat), (18 : Nat))]) ∈ lw_all := lw_g (lw_at lw_m7 7 rfl) rfl
theorem q1546 : (Jvm.Cond.methodLink "PrinterClaimsLaw" (58 : Nat) ({ cls := "PrinterClaims", name := "earliestPlace", desc := "(I)I" } : Jvm.MethodName)) ∈ lw_all := lw_g (lw_at lw_m7 8 rfl) rfl
theorem q1557 : (Jvm.Cond.methodLink "PrinterClaimsLaw" (224 : Nat) ({ cls := "PrinterClaimsLaw", name := "requestObstacle", desc := "(LPrinterClaims;III[J)I" } : Jvm.MethodName)) ∈ lw_all := lw_g (lw_at lw_m7 19 rfl) rfl
theorem q1558 : (Jvm.Cond.static ({ cls := "PrinterClaimsLaw", name := "requestObstacle", desc := "(LPrinterClaims;III[J)I" } : Jvm.MethodName)) ∈ lw_all := lw_g (lw_at lw_m7 20 rfl) rfl
theorem q1559 : (Jvm.Cond.codeWith ({ cls := "PrinterClaimsLaw", name := "requestObstacle", desc := "(LPrinterClaims;III[J)I" } : Jvm.MethodName) method_18_code (6 : Nat) (Option.some Jvm.ClassFile.FieldType.int) [((0 : Nat), (12 : Nat), (15 : Nat), (18 : Nat)), ((0 : Nat), (12 : Nat), (19 : Nat), (13 : Nat))]) ∈ lw_all := lw_g (lw_at lw_m7 21 rfl) rfl
theorem q1560 : (Jvm.Cond.methodLink "PrinterClaimsLaw" (61 : Nat) ({ cls := "PrinterClaims", name := "requestObstacle", desc := "(III)I" } : Jvm.MethodName)) ∈ lw_all := lw_g (lw_at lw_m7 22 rfl) rfl
theorem q1583 : (Jvm.Cond.methodLink "PrinterClaimsLaw" (228 : Nat) ({ cls := "PrinterClaimsLaw", name := "greatestGrant", desc := "(LPrinterClaims;II[J)I" } : Jvm.MethodName)) ∈ lw_all := lw_g (lw_at lw_m7 45 rfl) rfl
theorem q1584 : (Jvm.Cond.static ({ cls := "PrinterClaimsLaw", name := "greatestGrant", desc := "(LPrinterClaims;II[J)I" } : Jvm.MethodName)) ∈ lw_all := lw_g (lw_at lw_m7 46 rfl) rfl
theorem q1585 : (Jvm.Cond.codeWith ({ cls := "PrinterClaimsLaw", name := "greatestGrant", desc := "(LPrinterClaims;II[J)I" } : Jvm.MethodName) method_19_code (5 : Nat) (Option.some Jvm.ClassFile.FieldType.int) [((0 : Nat), (10 : Nat), (13 : Nat), (18 : Nat))]) ∈ lw_all := lw_g (lw_at lw_m7 47 rfl) rfl
theorem q1586 : (Jvm.Cond.methodLink "PrinterClaimsLaw" (65 : Nat) ({ cls := "PrinterClaims", name := "greatestGrant", desc := "(II)I" } : Jvm.MethodName)) ∈ lw_all := lw_g (lw_at lw_m7 48 rfl) rfl
theorem q1594 : (Jvm.Cond.methodLink "PrinterClaimsLaw" (231 : Nat) ({ cls := "PrinterClaimsLaw", name := "spare", desc := "(LPrinterClaims;I[J)I" } : Jvm.MethodName)) ∈ lw_all := lw_g (lw_at lw_m7 56 rfl) rfl
theorem q1595 : (Jvm.Cond.static ({ cls := "PrinterClaimsLaw", name := "spare", desc := "(LPrinterClaims;I[J)I" } : Jvm.MethodName)) ∈ lw_all := lw_g (lw_at lw_m7 57 rfl) rfl
theorem q1596 : (Jvm.Cond.codeWith ({ cls := "PrinterClaimsLaw", name := "spare", desc := "(LPrinterClaims;I[J)I" } : Jvm.MethodName) method_20_code (4 : Nat) (Option.some Jvm.ClassFile.FieldType.int) [((0 : Nat), (9 : Nat), (12 : Nat), (18 : Nat))]) ∈ lw_all := lw_g (lw_at lw_m7 58 rfl) rfl
theorem q1597 : (Jvm.Cond.methodLink "PrinterClaimsLaw" (68 : Nat) ({ cls := "PrinterClaims", name := "spare", desc := "(I)I" } : Jvm.MethodName)) ∈ lw_all := lw_g (lw_at lw_m7 59 rfl) rfl
theorem q1614 : (Jvm.Cond.methodLink "PrinterClaimsLaw" (234 : Nat) ({ cls := "PrinterClaimsLaw", name := "wouldWake", desc := "(LPrinterClaims;I[J)I" } : Jvm.MethodName)) ∈ lw_all := lw_g (lw_at lw_m7 76 rfl) rfl
theorem q1615 : (Jvm.Cond.static ({ cls := "PrinterClaimsLaw", name := "wouldWake", desc := "(LPrinterClaims;I[J)I" } : Jvm.MethodName)) ∈ lw_all := lw_g (lw_at lw_m7 77 rfl) rfl
theorem q1616 : (Jvm.Cond.codeWith ({ cls := "PrinterClaimsLaw", name := "wouldWake", desc := "(LPrinterClaims;I[J)I" } : Jvm.MethodName) method_21_code (4 : Nat) (Option.some Jvm.ClassFile.FieldType.int) [((0 : Nat), (9 : Nat), (12 : Nat), (18 : Nat))]) ∈ lw_all := lw_g (lw_at lw_m7 78 rfl) rfl
theorem q1617 : (Jvm.Cond.methodLink "PrinterClaimsLaw" (71 : Nat) ({ cls := "PrinterClaims", name := "wouldWake", desc := "(I)I" } : Jvm.MethodName)) ∈ lw_all := lw_g (lw_at lw_m7 79 rfl) rfl
theorem q1661 : (Jvm.Cond.methodLink "PrinterClaimsLaw" (261 : Nat) ({ cls := "PrinterClaimsLaw", name := "request", desc := "(LPrinterClaims;III[J)I" } : Jvm.MethodName)) ∈ lw_all := lw_g (lw_at lw_m7 123 rfl) rfl
theorem q1662 : (Jvm.Cond.static ({ cls := "PrinterClaimsLaw", name := "request", desc := "(LPrinterClaims;III[J)I" } : Jvm.MethodName)) ∈ lw_all := lw_g (lw_at lw_m7 124 rfl) rfl
theorem q1663 : (Jvm.Cond.codeWith ({ cls := "PrinterClaimsLaw", name := "request", desc := "(LPrinterClaims;III[J)I" } : Jvm.MethodName) method_22_code (6 : Nat) (Option.some Jvm.ClassFile.FieldType.int) [((0 : Nat), (12 : Nat), (15 : Nat), (18 : Nat)), ((0 : Nat), (12 : Nat), (19 : Nat), (13 : Nat)), ((0 : Nat), (12 : Nat), (23 : Nat), (77 : Nat))]) ∈ lw_all := lw_g (lw_at lw_m7 125 rfl) rfl
theorem q1664 : (Jvm.Cond.classLink "PrinterClaimsLaw" (77 : Nat) "java/lang/IllegalStateException") ∈ lw_all := lw_g (lw_at lw_m7 126 rfl) rfl
theorem q1665 : (Jvm.Cond.methodLink "PrinterClaimsLaw" (74 : Nat) ({ cls := "PrinterClaims", name := "request", desc := "(III)I" } : Jvm.MethodName)) ∈ lw_all := lw_g (lw_at lw_m7 127 rfl) rfl
theorem q1945 : (Jvm.Cond.methodLink "PrinterClaimsLaw" (264 : Nat) ({ cls := "PrinterClaimsLaw", name := "release", desc := "(LPrinterClaims;III[J)I" } : Jvm.MethodName)) ∈ lw_all := lw_g (lw_at lw_m8 167 rfl) rfl
theorem q1946 : (Jvm.Cond.static ({ cls := "PrinterClaimsLaw", name := "release", desc := "(LPrinterClaims;III[J)I" } : Jvm.MethodName)) ∈ lw_all := lw_g (lw_at lw_m8 168 rfl) rfl
theorem q1947 : (Jvm.Cond.codeWith ({ cls := "PrinterClaimsLaw", name := "release", desc := "(LPrinterClaims;III[J)I" } : Jvm.MethodName) method_23_code (6 : Nat) (Option.some Jvm.ClassFile.FieldType.int) [((0 : Nat), (12 : Nat), (15 : Nat), (18 : Nat)), ((0 : Nat), (12 : Nat), (19 : Nat), (13 : Nat)), ((0 : Nat), (12 : Nat), (23 : Nat), (77 : Nat))]) ∈ lw_all := lw_g (lw_at lw_m8 169 rfl) rfl
theorem q1948 : (Jvm.Cond.methodLink "PrinterClaimsLaw" (79 : Nat) ({ cls := "PrinterClaims", name := "release", desc := "(III)I" } : Jvm.MethodName)) ∈ lw_all := lw_g (lw_at lw_m8 170 rfl) rfl
theorem q1976 : (Jvm.Cond.methodLink "PrinterClaimsLaw" (267 : Nat) ({ cls := "PrinterClaimsLaw", name := "finish", desc := "(LPrinterClaims;I[J)I" } : Jvm.MethodName)) ∈ lw_all := lw_g (lw_at lw_m8 198 rfl) rfl
theorem q1977 : (Jvm.Cond.static ({ cls := "PrinterClaimsLaw", name := "finish", desc := "(LPrinterClaims;I[J)I" } : Jvm.MethodName)) ∈ lw_all := lw_g (lw_at lw_m8 199 rfl) rfl
theorem q1978 : (Jvm.Cond.codeWith ({ cls := "PrinterClaimsLaw", name := "finish", desc := "(LPrinterClaims;I[J)I" } : Jvm.MethodName) method_24_code (4 : Nat) (Option.some Jvm.ClassFile.FieldType.int) [((0 : Nat), (9 : Nat), (12 : Nat), (18 : Nat))]) ∈ lw_all := lw_g (lw_at lw_m8 200 rfl) rfl
theorem q1979 : (Jvm.Cond.methodLink "PrinterClaimsLaw" (82 : Nat) ({ cls := "PrinterClaims", name := "finish", desc := "(I)I" } : Jvm.MethodName)) ∈ lw_all := lw_g (lw_at lw_m8 201 rfl) rfl
theorem q1996 : (Jvm.Cond.methodLink "PrinterClaimsLaw" (270 : Nat) ({ cls := "PrinterClaimsLaw", name := "withdraw", desc := "(LPrinterClaims;I[J)I" } : Jvm.MethodName)) ∈ lw_all := lw_g (lw_at lw_m8 218 rfl) rfl
theorem q1997 : (Jvm.Cond.static ({ cls := "PrinterClaimsLaw", name := "withdraw", desc := "(LPrinterClaims;I[J)I" } : Jvm.MethodName)) ∈ lw_all := lw_g (lw_at lw_m8 219 rfl) rfl
theorem q1998 : (Jvm.Cond.codeWith ({ cls := "PrinterClaimsLaw", name := "withdraw", desc := "(LPrinterClaims;I[J)I" } : Jvm.MethodName) method_25_code (4 : Nat) (Option.some Jvm.ClassFile.FieldType.int) [((0 : Nat), (9 : Nat), (12 : Nat), (18 : Nat)), ((0 : Nat), (9 : Nat), (15 : Nat), (77 : Nat))]) ∈ lw_all := lw_g (lw_at lw_m8 220 rfl) rfl
theorem q1999 : (Jvm.Cond.methodLink "PrinterClaimsLaw" (85 : Nat) ({ cls := "PrinterClaims", name := "withdraw", desc := "(I)I" } : Jvm.MethodName)) ∈ lw_all := lw_g (lw_at lw_m8 221 rfl) rfl
theorem q2016 : (Jvm.Cond.methodLink "PrinterClaimsLaw" (273 : Nat) ({ cls := "PrinterClaimsLaw", name := "changeClaim", desc := "(LPrinterClaims;III[J)I" } : Jvm.MethodName)) ∈ lw_all := lw_g (lw_at lw_m8 238 rfl) rfl
theorem q2017 : (Jvm.Cond.static ({ cls := "PrinterClaimsLaw", name := "changeClaim", desc := "(LPrinterClaims;III[J)I" } : Jvm.MethodName)) ∈ lw_all := lw_g (lw_at lw_m8 239 rfl) rfl
theorem q2018 : (Jvm.Cond.codeWith ({ cls := "PrinterClaimsLaw", name := "changeClaim", desc := "(LPrinterClaims;III[J)I" } : Jvm.MethodName) method_26_code (6 : Nat) (Option.some Jvm.ClassFile.FieldType.int) [((0 : Nat), (12 : Nat), (15 : Nat), (18 : Nat)), ((0 : Nat), (12 : Nat), (19 : Nat), (13 : Nat)), ((0 : Nat), (12 : Nat), (23 : Nat), (77 : Nat))]) ∈ lw_all := lw_g (lw_at lw_m9 0 rfl) rfl
theorem q2019 : (Jvm.Cond.methodLink "PrinterClaimsLaw" (88 : Nat) ({ cls := "PrinterClaims", name := "changeClaim", desc := "(III)I" } : Jvm.MethodName)) ∈ lw_all := lw_g (lw_at lw_m9 1 rfl) rfl
theorem q2047 : (Jvm.Cond.methodLink "PrinterClaimsLaw" (276 : Nat) ({ cls := "PrinterClaimsLaw", name := "addPrinters", desc := "(LPrinterClaims;II[J)I" } : Jvm.MethodName)) ∈ lw_all := lw_g (lw_at lw_m9 29 rfl) rfl
theorem q2048 : (Jvm.Cond.static ({ cls := "PrinterClaimsLaw", name := "addPrinters", desc := "(LPrinterClaims;II[J)I" } : Jvm.MethodName)) ∈ lw_all := lw_g (lw_at lw_m9 30 rfl) rfl
theorem q2049 : (Jvm.Cond.codeWith ({ cls := "PrinterClaimsLaw", name := "addPrinters", desc := "(LPrinterClaims;II[J)I" } : Jvm.MethodName) method_27_code (5 : Nat) (Option.some Jvm.ClassFile.FieldType.int) [((0 : Nat), (10 : Nat), (13 : Nat), (18 : Nat)), ((0 : Nat), (10 : Nat), (17 : Nat), (13 : Nat)), ((0 : Nat), (10 : Nat), (21 : Nat), (77 : Nat))]) ∈ lw_all := lw_g (lw_at lw_m9 31 rfl) rfl
theorem q2050 : (Jvm.Cond.methodLink "PrinterClaimsLaw" (91 : Nat) ({ cls := "PrinterClaims", name := "addPrinters", desc := "(II)I" } : Jvm.MethodName)) ∈ lw_all := lw_g (lw_at lw_m9 32 rfl) rfl
theorem q2079 : (Jvm.Cond.methodLink "PrinterClaimsLaw" (279 : Nat) ({ cls := "PrinterClaimsLaw", name := "retirePrinters", desc := "(LPrinterClaims;II[J)I" } : Jvm.MethodName)) ∈ lw_all := lw_g (lw_at lw_m9 61 rfl) rfl
theorem q2080 : (Jvm.Cond.static ({ cls := "PrinterClaimsLaw", name := "retirePrinters", desc := "(LPrinterClaims;II[J)I" } : Jvm.MethodName)) ∈ lw_all := lw_g (lw_at lw_m9 62 rfl) rfl
theorem q2081 : (Jvm.Cond.codeWith ({ cls := "PrinterClaimsLaw", name := "retirePrinters", desc := "(LPrinterClaims;II[J)I" } : Jvm.MethodName) method_28_code (5 : Nat) (Option.some Jvm.ClassFile.FieldType.int) [((0 : Nat), (10 : Nat), (13 : Nat), (18 : Nat)), ((0 : Nat), (10 : Nat), (17 : Nat), (13 : Nat)), ((0 : Nat), (10 : Nat), (21 : Nat), (77 : Nat))]) ∈ lw_all := lw_g (lw_at lw_m9 63 rfl) rfl
theorem q2082 : (Jvm.Cond.methodLink "PrinterClaimsLaw" (94 : Nat) ({ cls := "PrinterClaims", name := "retirePrinters", desc := "(II)I" } : Jvm.MethodName)) ∈ lw_all := lw_g (lw_at lw_m9 64 rfl) rfl
theorem q2104 : (Jvm.Cond.methodLink "PrinterClaimsLaw" (282 : Nat) ({ cls := "PrinterClaimsLaw", name := "runScript", desc := "(LPrinterClaims;I[J)I" } : Jvm.MethodName)) ∈ lw_all := lw_g (lw_at lw_m9 86 rfl) rfl
theorem q2105 : (Jvm.Cond.static ({ cls := "PrinterClaimsLaw", name := "runScript", desc := "(LPrinterClaims;I[J)I" } : Jvm.MethodName)) ∈ lw_all := lw_g (lw_at lw_m9 87 rfl) rfl
theorem q2106 : (Jvm.Cond.codeWith ({ cls := "PrinterClaimsLaw", name := "runScript", desc := "(LPrinterClaims;I[J)I" } : Jvm.MethodName) method_29_code (4 : Nat) (Option.some Jvm.ClassFile.FieldType.int) [((0 : Nat), (9 : Nat), (12 : Nat), (13 : Nat))]) ∈ lw_all := lw_g (lw_at lw_m9 88 rfl) rfl
theorem q2107 : (Jvm.Cond.methodLink "PrinterClaimsLaw" (97 : Nat) ({ cls := "PrinterClaims", name := "runScript", desc := "(I)I" } : Jvm.MethodName)) ∈ lw_all := lw_g (lw_at lw_m9 89 rfl) rfl
theorem q2281 : (Jvm.Cond.methodLink "PrinterClaimsLaw" (285 : Nat) ({ cls := "PrinterClaimsLaw", name := "writeOffice", desc := "(LPrinterClaims;I[J)I" } : Jvm.MethodName)) ∈ lw_all := lw_g (lw_at lw_m10 23 rfl) rfl
theorem q2282 : (Jvm.Cond.static ({ cls := "PrinterClaimsLaw", name := "writeOffice", desc := "(LPrinterClaims;I[J)I" } : Jvm.MethodName)) ∈ lw_all := lw_g (lw_at lw_m10 24 rfl) rfl
theorem q2283 : (Jvm.Cond.codeWith ({ cls := "PrinterClaimsLaw", name := "writeOffice", desc := "(LPrinterClaims;I[J)I" } : Jvm.MethodName) method_30_code (4 : Nat) (Option.some Jvm.ClassFile.FieldType.int) [((0 : Nat), (9 : Nat), (12 : Nat), (18 : Nat))]) ∈ lw_all := lw_g (lw_at lw_m10 25 rfl) rfl
theorem q2284 : (Jvm.Cond.methodLink "PrinterClaimsLaw" (100 : Nat) ({ cls := "PrinterClaims", name := "writeOffice", desc := "(I)I" } : Jvm.MethodName)) ∈ lw_all := lw_g (lw_at lw_m10 26 rfl) rfl
theorem q2297 : (Jvm.Cond.methodLink "PrinterClaimsLaw" (288 : Nat) ({ cls := "PrinterClaimsLaw", name := "outputByte", desc := "(LPrinterClaims;I[J)I" } : Jvm.MethodName)) ∈ lw_all := lw_g (lw_at lw_m10 39 rfl) rfl
theorem q2298 : (Jvm.Cond.static ({ cls := "PrinterClaimsLaw", name := "outputByte", desc := "(LPrinterClaims;I[J)I" } : Jvm.MethodName)) ∈ lw_all := lw_g (lw_at lw_m10 40 rfl) rfl
theorem q2299 : (Jvm.Cond.codeWith ({ cls := "PrinterClaimsLaw", name := "outputByte", desc := "(LPrinterClaims;I[J)I" } : Jvm.MethodName) method_31_code (4 : Nat) (Option.some Jvm.ClassFile.FieldType.int) [((0 : Nat), (9 : Nat), (12 : Nat), (18 : Nat))]) ∈ lw_all := lw_g (lw_at lw_m10 41 rfl) rfl
theorem q2300 : (Jvm.Cond.methodLink "PrinterClaimsLaw" (103 : Nat) ({ cls := "PrinterClaims", name := "outputByte", desc := "(I)I" } : Jvm.MethodName)) ∈ lw_all := lw_g (lw_at lw_m10 42 rfl) rfl
theorem q2315 : (Jvm.Cond.methodLink "PrinterClaimsLaw" (295 : Nat) ({ cls := "PrinterClaimsLaw", name := "undo", desc := "(LPrinterClaims;[J)I" } : Jvm.MethodName)) ∈ lw_all := lw_g (lw_at lw_m10 57 rfl) rfl
theorem q2316 : (Jvm.Cond.static ({ cls := "PrinterClaimsLaw", name := "undo", desc := "(LPrinterClaims;[J)I" } : Jvm.MethodName)) ∈ lw_all := lw_g (lw_at lw_m10 58 rfl) rfl
theorem q2317 : (Jvm.Cond.codeWith ({ cls := "PrinterClaimsLaw", name := "undo", desc := "(LPrinterClaims;[J)I" } : Jvm.MethodName) method_32_code (3 : Nat) (Option.some Jvm.ClassFile.FieldType.int) [((0 : Nat), (8 : Nat), (11 : Nat), (77 : Nat))]) ∈ lw_all := lw_g (lw_at lw_m10 59 rfl) rfl
theorem q2318 : (Jvm.Cond.methodLink "PrinterClaimsLaw" (106 : Nat) ({ cls := "PrinterClaims", name := "undo", desc := "()I" } : Jvm.MethodName)) ∈ lw_all := lw_g (lw_at lw_m10 60 rfl) rfl
theorem q2339 : (Jvm.Cond.methodLink "PrinterClaimsLaw" (303 : Nat) ({ cls := "PrinterClaimsLaw", name := "restoreSnapshot", desc := "(LPrinterClaims;[J)I" } : Jvm.MethodName)) ∈ lw_all := lw_g (lw_at lw_m10 81 rfl) rfl
theorem q2340 : (Jvm.Cond.static ({ cls := "PrinterClaimsLaw", name := "restoreSnapshot", desc := "(LPrinterClaims;[J)I" } : Jvm.MethodName)) ∈ lw_all := lw_g (lw_at lw_m10 82 rfl) rfl
theorem q2341 : (Jvm.Cond.codeWith ({ cls := "PrinterClaimsLaw", name := "restoreSnapshot", desc := "(LPrinterClaims;[J)I" } : Jvm.MethodName) method_33_code (3 : Nat) (Option.some Jvm.ClassFile.FieldType.int) [((0 : Nat), (8 : Nat), (11 : Nat), (77 : Nat))]) ∈ lw_all := lw_g (lw_at lw_m10 83 rfl) rfl
theorem q2342 : (Jvm.Cond.methodLink "PrinterClaimsLaw" (110 : Nat) ({ cls := "PrinterClaims", name := "restoreSnapshot", desc := "()I" } : Jvm.MethodName)) ∈ lw_all := lw_g (lw_at lw_m10 84 rfl) rfl
theorem q2346 : (Jvm.Cond.methodLink "PrinterClaimsLaw" (128 : Nat) ({ cls := "PrinterClaimsModel", name := "thrown", desc := "()I" } : Jvm.MethodName)) ∈ lw_all := lw_g (lw_at lw_m10 88 rfl) rfl
theorem q2350 : (Jvm.Cond.classLink "PrinterClaimsLaw" (114 : Nat) "PrinterClaimsModel") ∈ lw_all := lw_g (lw_at lw_m10 92 rfl) rfl
theorem q2352 : (Jvm.Cond.methodLink "PrinterClaimsLaw" (116 : Nat) ({ cls := "PrinterClaimsModel", name := "<init>", desc := "()V" } : Jvm.MethodName)) ∈ lw_all := lw_g (lw_at lw_m10 94 rfl) rfl
theorem q2549 : (Jvm.Cond.methodLink "PrinterClaimsLaw" (121 : Nat) ({ cls := "PrinterClaimsModel", name := "appendText", desc := "(IIIII)I" } : Jvm.MethodName)) ∈ lw_all := lw_g (lw_at lw_m11 51 rfl) rfl
theorem q2557 : (Jvm.Cond.methodLink "PrinterClaimsLaw" (134 : Nat) ({ cls := "PrinterClaimsModel", name := "errorCode", desc := "()I" } : Jvm.MethodName)) ∈ lw_all := lw_g (lw_at lw_m11 59 rfl) rfl
theorem q2561 : (Jvm.Cond.methodLink "PrinterClaimsLaw" (138 : Nat) ({ cls := "PrinterClaimsModel", name := "errorOffset", desc := "()I" } : Jvm.MethodName)) ∈ lw_all := lw_g (lw_at lw_m11 63 rfl) rfl
theorem q2565 : (Jvm.Cond.methodLink "PrinterClaimsLaw" (127 : Nat) ({ cls := "PrinterClaimsModel", name := "loadSystem", desc := "(I)I" } : Jvm.MethodName)) ∈ lw_all := lw_g (lw_at lw_m11 67 rfl) rfl
theorem q2566 : (Jvm.Cond.methodLink "PrinterClaimsLaw" (142 : Nat) ({ cls := "PrinterClaimsModel", name := "kindCount", desc := "()I" } : Jvm.MethodName)) ∈ lw_all := lw_g (lw_at lw_m11 68 rfl) rfl
theorem q2570 : (Jvm.Cond.methodLink "PrinterClaimsLaw" (145 : Nat) ({ cls := "PrinterClaimsModel", name := "total", desc := "(I)I" } : Jvm.MethodName)) ∈ lw_all := lw_g (lw_at lw_m11 72 rfl) rfl
theorem q2578 : (Jvm.Cond.methodLink "PrinterClaimsLaw" (148 : Nat) ({ cls := "PrinterClaimsModel", name := "available", desc := "(I)I" } : Jvm.MethodName)) ∈ lw_all := lw_g (lw_at lw_m11 80 rfl) rfl
theorem q2582 : (Jvm.Cond.methodLink "PrinterClaimsLaw" (151 : Nat) ({ cls := "PrinterClaimsModel", name := "claimedInAll", desc := "(I)I" } : Jvm.MethodName)) ∈ lw_all := lw_g (lw_at lw_m11 84 rfl) rfl
theorem q2586 : (Jvm.Cond.methodLink "PrinterClaimsLaw" (155 : Nat) ({ cls := "PrinterClaimsModel", name := "scarcestKind", desc := "()I" } : Jvm.MethodName)) ∈ lw_all := lw_g (lw_at lw_m11 88 rfl) rfl
theorem q2590 : (Jvm.Cond.methodLink "PrinterClaimsLaw" (160 : Nat) ({ cls := "PrinterClaimsModel", name := "utilization", desc := "()F" } : Jvm.MethodName)) ∈ lw_all := lw_g (lw_at lw_m11 92 rfl) rfl
theorem q2598 : (Jvm.Cond.methodLink "PrinterClaimsLaw" (164 : Nat) ({ cls := "PrinterClaimsModel", name := "officeCount", desc := "()I" } : Jvm.MethodName)) ∈ lw_all := lw_g (lw_at lw_m11 100 rfl) rfl
theorem q2602 : (Jvm.Cond.methodLink "PrinterClaimsLaw" (168 : Nat) ({ cls := "PrinterClaimsModel", name := "claim", desc := "(II)I" } : Jvm.MethodName)) ∈ lw_all := lw_g (lw_at lw_m11 104 rfl) rfl
theorem q2614 : (Jvm.Cond.methodLink "PrinterClaimsLaw" (171 : Nat) ({ cls := "PrinterClaimsModel", name := "allocated", desc := "(II)I" } : Jvm.MethodName)) ∈ lw_all := lw_g (lw_at lw_m11 116 rfl) rfl
theorem q2618 : (Jvm.Cond.methodLink "PrinterClaimsLaw" (174 : Nat) ({ cls := "PrinterClaimsModel", name := "need", desc := "(II)I" } : Jvm.MethodName)) ∈ lw_all := lw_g (lw_at lw_m11 120 rfl) rfl
theorem q2622 : (Jvm.Cond.methodLink "PrinterClaimsLaw" (177 : Nat) ({ cls := "PrinterClaimsModel", name := "canFinish", desc := "(I)Z" } : Jvm.MethodName)) ∈ lw_all := lw_g (lw_at lw_m11 124 rfl) rfl
theorem q2626 : (Jvm.Cond.methodLink "PrinterClaimsLaw" (181 : Nat) ({ cls := "PrinterClaimsModel", name := "finisherCount", desc := "()I" } : Jvm.MethodName)) ∈ lw_all := lw_g (lw_at lw_m11 128 rfl) rfl
theorem q2633 : (Jvm.Cond.methodLink "PrinterClaimsLaw" (185 : Nat) ({ cls := "PrinterClaimsModel", name := "greatestHolder", desc := "()I" } : Jvm.MethodName)) ∈ lw_all := lw_g (lw_at lw_m11 135 rfl) rfl
theorem q2641 : (Jvm.Cond.methodLink "PrinterClaimsLaw" (190 : Nat) ({ cls := "PrinterClaimsModel", name := "meanNeed", desc := "()D" } : Jvm.MethodName)) ∈ lw_all := lw_g (lw_at lw_m11 143 rfl) rfl
theorem q2645 : (Jvm.Cond.methodLink "PrinterClaimsLaw" (194 : Nat) ({ cls := "PrinterClaimsModel", name := "waitingCount", desc := "()I" } : Jvm.MethodName)) ∈ lw_all := lw_g (lw_at lw_m11 147 rfl) rfl
theorem q2657 : (Jvm.Cond.methodLink "PrinterClaimsLaw" (198 : Nat) ({ cls := "PrinterClaimsModel", name := "waitingOffice", desc := "(I)I" } : Jvm.MethodName)) ∈ lw_all := lw_g (lw_at lw_m11 159 rfl) rfl
theorem q2669 : (Jvm.Cond.methodLink "PrinterClaimsLaw" (201 : Nat) ({ cls := "PrinterClaimsModel", name := "waitsForKind", desc := "(I)I" } : Jvm.MethodName)) ∈ lw_all := lw_g (lw_at lw_m11 171 rfl) rfl
theorem q2673 : (Jvm.Cond.methodLink "PrinterClaimsLaw" (204 : Nat) ({ cls := "PrinterClaimsModel", name := "waitsForCount", desc := "(I)I" } : Jvm.MethodName)) ∈ lw_all := lw_g (lw_at lw_m11 175 rfl) rfl
theorem q2677 : (Jvm.Cond.methodLink "PrinterClaimsLaw" (207 : Nat) ({ cls := "PrinterClaimsModel", name := "waitedPrinters", desc := "(I)I" } : Jvm.MethodName)) ∈ lw_all := lw_g (lw_at lw_m11 179 rfl) rfl
theorem q2681 : (Jvm.Cond.methodLink "PrinterClaimsLaw" (210 : Nat) ({ cls := "PrinterClaimsModel", name := "waitReason", desc := "(I)I" } : Jvm.MethodName)) ∈ lw_all := lw_g (lw_at lw_m11 183 rfl) rfl
theorem q2685 : (Jvm.Cond.methodLink "PrinterClaimsLaw" (213 : Nat) ({ cls := "PrinterClaimsModel", name := "sequenceOffice", desc := "(I)I" } : Jvm.MethodName)) ∈ lw_all := lw_g (lw_at lw_m11 187 rfl) rfl
theorem q2689 : (Jvm.Cond.methodLink "PrinterClaimsLaw" (216 : Nat) ({ cls := "PrinterClaimsModel", name := "sequenceAvailable", desc := "(II)I" } : Jvm.MethodName)) ∈ lw_all := lw_g (lw_at lw_m11 191 rfl) rfl
theorem q2693 : (Jvm.Cond.methodLink "PrinterClaimsLaw" (220 : Nat) ({ cls := "PrinterClaimsModel", name := "sequenceCount", desc := "()I" } : Jvm.MethodName)) ∈ lw_all := lw_g (lw_at lw_m11 195 rfl) rfl
theorem q2701 : (Jvm.Cond.methodLink "PrinterClaimsLaw" (223 : Nat) ({ cls := "PrinterClaimsModel", name := "earliestPlace", desc := "(I)I" } : Jvm.MethodName)) ∈ lw_all := lw_g (lw_at lw_m11 203 rfl) rfl
theorem q2708 : (Jvm.Cond.methodLink "PrinterClaimsLaw" (227 : Nat) ({ cls := "PrinterClaimsModel", name := "requestObstacle", desc := "(III)I" } : Jvm.MethodName)) ∈ lw_all := lw_g (lw_at lw_m11 210 rfl) rfl
theorem q2724 : (Jvm.Cond.methodLink "PrinterClaimsLaw" (230 : Nat) ({ cls := "PrinterClaimsModel", name := "greatestGrant", desc := "(II)I" } : Jvm.MethodName)) ∈ lw_all := lw_g (lw_at lw_m11 226 rfl) rfl
theorem q2732 : (Jvm.Cond.methodLink "PrinterClaimsLaw" (233 : Nat) ({ cls := "PrinterClaimsModel", name := "spare", desc := "(I)I" } : Jvm.MethodName)) ∈ lw_all := lw_g (lw_at lw_m11 234 rfl) rfl
theorem q2740 : (Jvm.Cond.methodLink "PrinterClaimsLaw" (236 : Nat) ({ cls := "PrinterClaimsModel", name := "wouldWake", desc := "(I)I" } : Jvm.MethodName)) ∈ lw_all := lw_g (lw_at lw_m12 2 rfl) rfl
theorem q2772 : (Jvm.Cond.methodLink "PrinterClaimsLaw" (240 : Nat) ({ cls := "PrinterClaimsModel", name := "grantedRequests", desc := "()I" } : Jvm.MethodName)) ∈ lw_all := lw_g (lw_at lw_m12 34 rfl) rfl
theorem q2780 : (Jvm.Cond.methodLink "PrinterClaimsLaw" (244 : Nat) ({ cls := "PrinterClaimsModel", name := "delayedRequests", desc := "()I" } : Jvm.MethodName)) ∈ lw_all := lw_g (lw_at lw_m12 42 rfl) rfl
theorem q2784 : (Jvm.Cond.methodLink "PrinterClaimsLaw" (248 : Nat) ({ cls := "PrinterClaimsModel", name := "unsafeRequests", desc := "()I" } : Jvm.MethodName)) ∈ lw_all := lw_g (lw_at lw_m12 46 rfl) rfl
theorem q2788 : (Jvm.Cond.methodLink "PrinterClaimsLaw" (252 : Nat) ({ cls := "PrinterClaimsModel", name := "grantedPrinters", desc := "()I" } : Jvm.MethodName)) ∈ lw_all := lw_g (lw_at lw_m12 50 rfl) rfl
theorem q2792 : (Jvm.Cond.methodLink "PrinterClaimsLaw" (256 : Nat) ({ cls := "PrinterClaimsModel", name := "returnedPrinters", desc := "()I" } : Jvm.MethodName)) ∈ lw_all := lw_g (lw_at lw_m12 54 rfl) rfl
theorem q2796 : (Jvm.Cond.methodLink "PrinterClaimsLaw" (260 : Nat) ({ cls := "PrinterClaimsModel", name := "ledgerGap", desc := "()I" } : Jvm.MethodName)) ∈ lw_all := lw_g (lw_at lw_m12 58 rfl) rfl
theorem q2803 : (Jvm.Cond.methodLink "PrinterClaimsLaw" (263 : Nat) ({ cls := "PrinterClaimsModel", name := "request", desc := "(III)I" } : Jvm.MethodName)) ∈ lw_all := lw_g (lw_at lw_m12 65 rfl) rfl
theorem q2847 : (Jvm.Cond.methodLink "PrinterClaimsLaw" (266 : Nat) ({ cls := "PrinterClaimsModel", name := "release", desc := "(III)I" } : Jvm.MethodName)) ∈ lw_all := lw_g (lw_at lw_m12 109 rfl) rfl
theorem q2851 : (Jvm.Cond.methodLink "PrinterClaimsLaw" (269 : Nat) ({ cls := "PrinterClaimsModel", name := "finish", desc := "(I)I" } : Jvm.MethodName)) ∈ lw_all := lw_g (lw_at lw_m12 113 rfl) rfl
theorem q2855 : (Jvm.Cond.methodLink "PrinterClaimsLaw" (272 : Nat) ({ cls := "PrinterClaimsModel", name := "withdraw", desc := "(I)I" } : Jvm.MethodName)) ∈ lw_all := lw_g (lw_at lw_m12 117 rfl) rfl
theorem q2859 : (Jvm.Cond.methodLink "PrinterClaimsLaw" (275 : Nat) ({ cls := "PrinterClaimsModel", name := "changeClaim", desc := "(III)I" } : Jvm.MethodName)) ∈ lw_all := lw_g (lw_at lw_m12 121 rfl) rfl
theorem q2863 : (Jvm.Cond.methodLink "PrinterClaimsLaw" (278 : Nat) ({ cls := "PrinterClaimsModel", name := "addPrinters", desc := "(II)I" } : Jvm.MethodName)) ∈ lw_all := lw_g (lw_at lw_m12 125 rfl) rfl
theorem q2867 : (Jvm.Cond.methodLink "PrinterClaimsLaw" (281 : Nat) ({ cls := "PrinterClaimsModel", name := "retirePrinters", desc := "(II)I" } : Jvm.MethodName)) ∈ lw_all := lw_g (lw_at lw_m12 129 rfl) rfl
theorem q2871 : (Jvm.Cond.methodLink "PrinterClaimsLaw" (284 : Nat) ({ cls := "PrinterClaimsModel", name := "runScript", desc := "(I)I" } : Jvm.MethodName)) ∈ lw_all := lw_g (lw_at lw_m12 133 rfl) rfl
theorem q2902 : (Jvm.Cond.methodLink "PrinterClaimsLaw" (287 : Nat) ({ cls := "PrinterClaimsModel", name := "writeOffice", desc := "(I)I" } : Jvm.MethodName)) ∈ lw_all := lw_g (lw_at lw_m12 164 rfl) rfl
theorem q2914 : (Jvm.Cond.methodLink "PrinterClaimsLaw" (290 : Nat) ({ cls := "PrinterClaimsModel", name := "outputByte", desc := "(I)I" } : Jvm.MethodName)) ∈ lw_all := lw_g (lw_at lw_m12 176 rfl) rfl
theorem q2918 : (Jvm.Cond.methodLink "PrinterClaimsLaw" (294 : Nat) ({ cls := "PrinterClaimsModel", name := "undoableCount", desc := "()I" } : Jvm.MethodName)) ∈ lw_all := lw_g (lw_at lw_m12 180 rfl) rfl
theorem q2922 : (Jvm.Cond.methodLink "PrinterClaimsLaw" (298 : Nat) ({ cls := "PrinterClaimsModel", name := "undo", desc := "()I" } : Jvm.MethodName)) ∈ lw_all := lw_g (lw_at lw_m12 184 rfl) rfl
theorem q2926 : (Jvm.Cond.methodLink "PrinterClaimsLaw" (302 : Nat) ({ cls := "PrinterClaimsModel", name := "saveSnapshot", desc := "()V" } : Jvm.MethodName)) ∈ lw_all := lw_g (lw_at lw_m12 188 rfl) rfl
theorem q2930 : (Jvm.Cond.methodLink "PrinterClaimsLaw" (305 : Nat) ({ cls := "PrinterClaimsModel", name := "restoreSnapshot", desc := "()I" } : Jvm.MethodName)) ∈ lw_all := lw_g (lw_at lw_m12 192 rfl) rfl
/-! the law's own entry -/
set_option maxRecDepth 100000
abbrev cL_law : ByteArray := code
def dkwL_law_101 : List UInt8 := [4, 172]
abbrev dktL_law_101 : List UInt8 := dkwL_law_101 ++ []
def dkwL_law_100 : List UInt8 := [154, 0, 15, 45, 3, 47, 21, 6, 133, 148, 153, 0, 5, 3, 172, 167, 0, 3, 132, 4, 6, 167, 246, 16]
abbrev dktL_law_100 : List UInt8 := dkwL_law_100 ++ dktL_law_101
def dkwL_law_99 : List UInt8 := [184, 1, 47, 54, 5, 44, 182, 1, 49, 54, 6, 44, 182, 0, 128, 21, 5, 159, 0, 5, 3, 172, 21, 5]
abbrev dktL_law_99 : List UInt8 := dkwL_law_99 ++ dktL_law_100
def dkwL_law_98 : List UInt8 := [148, 153, 0, 5, 3, 172, 167, 0, 58, 43, 182, 1, 43, 44, 182, 1, 46, 167, 0, 47, 43, 45]
abbrev dktL_law_98 : List UInt8 := dkwL_law_98 ++ dktL_law_99
def dkwL_law_97 : List UInt8 := [54, 6, 44, 182, 0, 128, 21, 5, 159, 0, 5, 3, 172, 21, 5, 154, 0, 15, 45, 3, 47, 21, 6, 133]
abbrev dktL_law_97 : List UInt8 := dkwL_law_97 ++ dktL_law_98
def dkwL_law_96 : List UInt8 := [182, 1, 35, 44, 182, 1, 38, 159, 0, 104, 3, 172, 43, 45, 184, 1, 39, 54, 5, 44, 182, 1, 42]
abbrev dktL_law_96 : List UInt8 := dkwL_law_96 ++ dktL_law_97
def dkwL_law_95 : List UInt8 := [172, 21, 5, 154, 0, 15, 45, 3, 47, 21, 6, 133, 148, 153, 0, 5, 3, 172, 167, 0, 115, 43]
abbrev dktL_law_95 : List UInt8 := dkwL_law_95 ++ dktL_law_96
def dkwL_law_94 : List UInt8 := [54, 5, 44, 42, 21, 4, 4, 96, 46, 182, 1, 34, 54, 6, 44, 182, 0, 128, 21, 5, 159, 0, 5, 3]
abbrev dktL_law_94 : List UInt8 := dkwL_law_94 ++ dktL_law_95
def dkwL_law_93 : List UInt8 := [21, 6, 133, 148, 153, 0, 5, 3, 172, 167, 0, 171, 43, 42, 21, 4, 4, 96, 46, 45, 184, 1, 32]
abbrev dktL_law_93 : List UInt8 := dkwL_law_93 ++ dktL_law_94
def dkwL_law_92 : List UInt8 := [182, 1, 31, 54, 6, 44, 182, 0, 128, 21, 5, 159, 0, 5, 3, 172, 21, 5, 154, 0, 15, 45, 3, 47]
abbrev dktL_law_92 : List UInt8 := dkwL_law_92 ++ dktL_law_93
def dkwL_law_91 : List UInt8 := [167, 0, 227, 43, 42, 21, 4, 4, 96, 46, 45, 184, 1, 29, 54, 5, 44, 42, 21, 4, 4, 96, 46]
abbrev dktL_law_91 : List UInt8 := dkwL_law_91 ++ dktL_law_92
def dkwL_law_90 : List UInt8 := [159, 0, 5, 3, 172, 21, 5, 154, 0, 15, 45, 3, 47, 21, 6, 133, 148, 153, 0, 5, 3, 172]
abbrev dktL_law_90 : List UInt8 := dkwL_law_90 ++ dktL_law_91
def dkwL_law_89 : List UInt8 := [184, 1, 26, 54, 5, 44, 42, 21, 4, 4, 96, 46, 182, 1, 28, 54, 6, 44, 182, 0, 128, 21, 5]
abbrev dktL_law_89 : List UInt8 := dkwL_law_89 ++ dktL_law_90
def dkwL_law_88 : List UInt8 := [3, 47, 21, 6, 133, 148, 153, 0, 5, 3, 172, 167, 1, 27, 43, 42, 21, 4, 4, 96, 46, 45]
abbrev dktL_law_88 : List UInt8 := dkwL_law_88 ++ dktL_law_89
def dkwL_law_87 : List UInt8 := [96, 46, 182, 1, 25, 54, 6, 44, 182, 0, 128, 21, 5, 159, 0, 5, 3, 172, 21, 5, 154, 0, 15, 45]
abbrev dktL_law_87 : List UInt8 := dkwL_law_87 ++ dktL_law_88
def dkwL_law_86 : List UInt8 := [46, 42, 21, 4, 5, 96, 46, 45, 184, 1, 23, 54, 5, 44, 42, 21, 4, 4, 96, 46, 42, 21, 4, 5]
abbrev dktL_law_86 : List UInt8 := dkwL_law_86 ++ dktL_law_87
def dkwL_law_85 : List UInt8 := [154, 0, 15, 45, 3, 47, 21, 6, 133, 148, 153, 0, 5, 3, 172, 167, 1, 95, 43, 42, 21, 4, 4, 96]
abbrev dktL_law_85 : List UInt8 := dkwL_law_85 ++ dktL_law_86
def dkwL_law_84 : List UInt8 := [21, 4, 5, 96, 46, 182, 1, 22, 54, 6, 44, 182, 0, 128, 21, 5, 159, 0, 5, 3, 172, 21, 5]
abbrev dktL_law_84 : List UInt8 := dkwL_law_84 ++ dktL_law_85
def dkwL_law_83 : List UInt8 := [4, 96, 46, 42, 21, 4, 5, 96, 46, 45, 184, 1, 20, 54, 5, 44, 42, 21, 4, 4, 96, 46, 42]
abbrev dktL_law_83 : List UInt8 := dkwL_law_83 ++ dktL_law_84
def dkwL_law_82 : List UInt8 := [21, 5, 154, 0, 15, 45, 3, 47, 21, 6, 133, 148, 153, 0, 5, 3, 172, 167, 1, 163, 43, 42, 21, 4]
abbrev dktL_law_82 : List UInt8 := dkwL_law_82 ++ dktL_law_83
def dkwL_law_81 : List UInt8 := [96, 46, 42, 21, 4, 6, 96, 46, 182, 1, 19, 54, 6, 44, 182, 0, 128, 21, 5, 159, 0, 5, 3, 172]
abbrev dktL_law_81 : List UInt8 := dkwL_law_81 ++ dktL_law_82
def dkwL_law_80 : List UInt8 := [46, 42, 21, 4, 6, 96, 46, 45, 184, 1, 17, 54, 5, 44, 42, 21, 4, 4, 96, 46, 42, 21, 4, 5]
abbrev dktL_law_80 : List UInt8 := dkwL_law_80 ++ dktL_law_81
def dkwL_law_79 : List UInt8 := [21, 6, 133, 148, 153, 0, 5, 3, 172, 167, 1, 243, 43, 42, 21, 4, 4, 96, 46, 42, 21, 4, 5, 96]
abbrev dktL_law_79 : List UInt8 := dkwL_law_79 ++ dktL_law_80
def dkwL_law_78 : List UInt8 := [182, 1, 16, 54, 6, 44, 182, 0, 128, 21, 5, 159, 0, 5, 3, 172, 21, 5, 154, 0, 15, 45, 3, 47]
abbrev dktL_law_78 : List UInt8 := dkwL_law_78 ++ dktL_law_79
def dkwL_law_77 : List UInt8 := [167, 2, 43, 43, 42, 21, 4, 4, 96, 46, 45, 184, 1, 14, 54, 5, 44, 42, 21, 4, 4, 96, 46]
abbrev dktL_law_77 : List UInt8 := dkwL_law_77 ++ dktL_law_78
def dkwL_law_76 : List UInt8 := [21, 5, 159, 0, 5, 3, 172, 21, 5, 154, 0, 15, 45, 3, 47, 21, 6, 133, 148, 153, 0, 5, 3, 172]
abbrev dktL_law_76 : List UInt8 := dkwL_law_76 ++ dktL_law_77
def dkwL_law_75 : List UInt8 := [46, 45, 184, 1, 11, 54, 5, 44, 42, 21, 4, 4, 96, 46, 182, 1, 13, 54, 6, 44, 182, 0, 128]
abbrev dktL_law_75 : List UInt8 := dkwL_law_75 ++ dktL_law_76
def dkwL_law_74 : List UInt8 := [154, 0, 15, 45, 3, 47, 21, 6, 133, 148, 153, 0, 5, 3, 172, 167, 2, 99, 43, 42, 21, 4, 4, 96]
abbrev dktL_law_74 : List UInt8 := dkwL_law_74 ++ dktL_law_75
def dkwL_law_73 : List UInt8 := [21, 4, 6, 96, 46, 182, 1, 10, 54, 6, 44, 182, 0, 128, 21, 5, 159, 0, 5, 3, 172, 21, 5]
abbrev dktL_law_73 : List UInt8 := dkwL_law_73 ++ dktL_law_74
def dkwL_law_72 : List UInt8 := [6, 96, 46, 45, 184, 1, 8, 54, 5, 44, 42, 21, 4, 4, 96, 46, 42, 21, 4, 5, 96, 46, 42]
abbrev dktL_law_72 : List UInt8 := dkwL_law_72 ++ dktL_law_73
def dkwL_law_71 : List UInt8 := [153, 0, 5, 3, 172, 167, 2, 179, 43, 42, 21, 4, 4, 96, 46, 42, 21, 4, 5, 96, 46, 42, 21, 4]
abbrev dktL_law_71 : List UInt8 := dkwL_law_71 ++ dktL_law_72
def dkwL_law_70 : List UInt8 := [182, 0, 128, 21, 5, 159, 0, 5, 3, 172, 21, 5, 154, 0, 15, 45, 3, 47, 21, 6, 133, 148]
abbrev dktL_law_70 : List UInt8 := dkwL_law_70 ++ dktL_law_71
def dkwL_law_69 : List UInt8 := [42, 21, 4, 4, 96, 46, 42, 21, 4, 5, 96, 46, 42, 21, 4, 6, 96, 46, 182, 1, 7, 54, 6, 44]
abbrev dktL_law_69 : List UInt8 := dkwL_law_69 ++ dktL_law_70
def dkwL_law_68 : List UInt8 := [21, 4, 4, 96, 46, 42, 21, 4, 5, 96, 46, 42, 21, 4, 6, 96, 46, 45, 184, 1, 5, 54, 5, 44]
abbrev dktL_law_68 : List UInt8 := dkwL_law_68 ++ dktL_law_69
def dkwL_law_67 : List UInt8 := [182, 1, 0, 159, 3, 18, 3, 172, 43, 182, 1, 1, 44, 182, 1, 4, 159, 3, 5, 3, 172, 43, 42]
abbrev dktL_law_67 : List UInt8 := dkwL_law_67 ++ dktL_law_68
def dkwL_law_66 : List UInt8 := [159, 3, 44, 3, 172, 43, 182, 0, 249, 44, 182, 0, 252, 159, 3, 31, 3, 172, 43, 182, 0, 253, 44]
abbrev dktL_law_66 : List UInt8 := dkwL_law_66 ++ dktL_law_67
def dkwL_law_65 : List UInt8 := [172, 43, 182, 0, 241, 44, 182, 0, 244, 159, 3, 57, 3, 172, 43, 182, 0, 245, 44, 182, 0, 248]
abbrev dktL_law_65 : List UInt8 := dkwL_law_65 ++ dktL_law_66
def dkwL_law_64 : List UInt8 := [21, 6, 133, 148, 153, 0, 5, 3, 172, 167, 3, 81, 43, 182, 0, 237, 44, 182, 0, 240, 159, 3, 70, 3]
abbrev dktL_law_64 : List UInt8 := dkwL_law_64 ++ dktL_law_65
def dkwL_law_63 : List UInt8 := [182, 0, 236, 54, 6, 44, 182, 0, 128, 21, 5, 159, 0, 5, 3, 172, 21, 5, 154, 0, 15, 45, 3, 47]
abbrev dktL_law_63 : List UInt8 := dkwL_law_63 ++ dktL_law_64
def dkwL_law_62 : List UInt8 := [167, 3, 137, 43, 42, 21, 4, 4, 96, 46, 45, 184, 0, 234, 54, 5, 44, 42, 21, 4, 4, 96, 46]
abbrev dktL_law_62 : List UInt8 := dkwL_law_62 ++ dktL_law_63
def dkwL_law_61 : List UInt8 := [21, 5, 159, 0, 5, 3, 172, 21, 5, 154, 0, 15, 45, 3, 47, 21, 6, 133, 148, 153, 0, 5, 3, 172]
abbrev dktL_law_61 : List UInt8 := dkwL_law_61 ++ dktL_law_62
def dkwL_law_60 : List UInt8 := [46, 45, 184, 0, 231, 54, 5, 44, 42, 21, 4, 4, 96, 46, 182, 0, 233, 54, 6, 44, 182, 0, 128]
abbrev dktL_law_60 : List UInt8 := dkwL_law_60 ++ dktL_law_61
def dkwL_law_59 : List UInt8 := [154, 0, 15, 45, 3, 47, 21, 6, 133, 148, 153, 0, 5, 3, 172, 167, 3, 193, 43, 42, 21, 4, 4, 96]
abbrev dktL_law_59 : List UInt8 := dkwL_law_59 ++ dktL_law_60
def dkwL_law_58 : List UInt8 := [42, 21, 4, 5, 96, 46, 182, 0, 230, 54, 6, 44, 182, 0, 128, 21, 5, 159, 0, 5, 3, 172, 21, 5]
abbrev dktL_law_58 : List UInt8 := dkwL_law_58 ++ dktL_law_59
def dkwL_law_57 : List UInt8 := [21, 4, 4, 96, 46, 42, 21, 4, 5, 96, 46, 45, 184, 0, 228, 54, 5, 44, 42, 21, 4, 4, 96, 46]
abbrev dktL_law_57 : List UInt8 := dkwL_law_57 ++ dktL_law_58
def dkwL_law_56 : List UInt8 := [172, 21, 5, 154, 0, 15, 45, 3, 47, 21, 6, 133, 148, 153, 0, 5, 3, 172, 167, 4, 5, 43, 42]
abbrev dktL_law_56 : List UInt8 := dkwL_law_56 ++ dktL_law_57
def dkwL_law_55 : List UInt8 := [5, 96, 46, 42, 21, 4, 6, 96, 46, 182, 0, 227, 54, 6, 44, 182, 0, 128, 21, 5, 159, 0, 5, 3]
abbrev dktL_law_55 : List UInt8 := dkwL_law_55 ++ dktL_law_56
def dkwL_law_54 : List UInt8 := [96, 46, 42, 21, 4, 6, 96, 46, 45, 184, 0, 224, 54, 5, 44, 42, 21, 4, 4, 96, 46, 42, 21, 4]
abbrev dktL_law_54 : List UInt8 := dkwL_law_54 ++ dktL_law_55
def dkwL_law_53 : List UInt8 := [47, 21, 6, 133, 148, 153, 0, 5, 3, 172, 167, 4, 85, 43, 42, 21, 4, 4, 96, 46, 42, 21, 4, 5]
abbrev dktL_law_53 : List UInt8 := dkwL_law_53 ++ dktL_law_54
def dkwL_law_52 : List UInt8 := [46, 182, 0, 223, 54, 6, 44, 182, 0, 128, 21, 5, 159, 0, 5, 3, 172, 21, 5, 154, 0, 15, 45, 3]
abbrev dktL_law_52 : List UInt8 := dkwL_law_52 ++ dktL_law_53
def dkwL_law_51 : List UInt8 := [159, 4, 143, 3, 172, 43, 42, 21, 4, 4, 96, 46, 45, 184, 0, 221, 54, 5, 44, 42, 21, 4, 4, 96]
abbrev dktL_law_51 : List UInt8 := dkwL_law_51 ++ dktL_law_52
def dkwL_law_50 : List UInt8 := [3, 47, 21, 6, 133, 148, 153, 0, 5, 3, 172, 167, 4, 154, 43, 182, 0, 217, 44, 182, 0, 220]
abbrev dktL_law_50 : List UInt8 := dkwL_law_50 ++ dktL_law_51
def dkwL_law_49 : List UInt8 := [96, 46, 182, 0, 216, 54, 6, 44, 182, 0, 128, 21, 5, 159, 0, 5, 3, 172, 21, 5, 154, 0, 15, 45]
abbrev dktL_law_49 : List UInt8 := dkwL_law_49 ++ dktL_law_50
def dkwL_law_48 : List UInt8 := [46, 42, 21, 4, 5, 96, 46, 45, 184, 0, 214, 54, 5, 44, 42, 21, 4, 4, 96, 46, 42, 21, 4, 5]
abbrev dktL_law_48 : List UInt8 := dkwL_law_48 ++ dktL_law_49
def dkwL_law_47 : List UInt8 := [154, 0, 15, 45, 3, 47, 21, 6, 133, 148, 153, 0, 5, 3, 172, 167, 4, 222, 43, 42, 21, 4, 4, 96]
abbrev dktL_law_47 : List UInt8 := dkwL_law_47 ++ dktL_law_48
def dkwL_law_46 : List UInt8 := [21, 4, 4, 96, 46, 182, 0, 213, 54, 6, 44, 182, 0, 128, 21, 5, 159, 0, 5, 3, 172, 21, 5]
abbrev dktL_law_46 : List UInt8 := dkwL_law_46 ++ dktL_law_47
def dkwL_law_45 : List UInt8 := [153, 0, 5, 3, 172, 167, 5, 22, 43, 42, 21, 4, 4, 96, 46, 45, 184, 0, 211, 54, 5, 44, 42]
abbrev dktL_law_45 : List UInt8 := dkwL_law_45 ++ dktL_law_46
def dkwL_law_44 : List UInt8 := [182, 0, 128, 21, 5, 159, 0, 5, 3, 172, 21, 5, 154, 0, 15, 45, 3, 47, 21, 6, 133, 148]
abbrev dktL_law_44 : List UInt8 := dkwL_law_44 ++ dktL_law_45
def dkwL_law_43 : List UInt8 := [21, 4, 4, 96, 46, 45, 184, 0, 208, 54, 5, 44, 42, 21, 4, 4, 96, 46, 182, 0, 210, 54, 6, 44]
abbrev dktL_law_43 : List UInt8 := dkwL_law_43 ++ dktL_law_44
def dkwL_law_42 : List UInt8 := [172, 21, 5, 154, 0, 15, 45, 3, 47, 21, 6, 133, 148, 153, 0, 5, 3, 172, 167, 5, 78, 43, 42]
abbrev dktL_law_42 : List UInt8 := dkwL_law_42 ++ dktL_law_43
def dkwL_law_41 : List UInt8 := [54, 5, 44, 42, 21, 4, 4, 96, 46, 182, 0, 207, 54, 6, 44, 182, 0, 128, 21, 5, 159, 0, 5, 3]
abbrev dktL_law_41 : List UInt8 := dkwL_law_41 ++ dktL_law_42
def dkwL_law_40 : List UInt8 := [21, 6, 133, 148, 153, 0, 5, 3, 172, 167, 5, 134, 43, 42, 21, 4, 4, 96, 46, 45, 184, 0, 205]
abbrev dktL_law_40 : List UInt8 := dkwL_law_40 ++ dktL_law_41
def dkwL_law_39 : List UInt8 := [182, 0, 204, 54, 6, 44, 182, 0, 128, 21, 5, 159, 0, 5, 3, 172, 21, 5, 154, 0, 15, 45, 3, 47]
abbrev dktL_law_39 : List UInt8 := dkwL_law_39 ++ dktL_law_40
def dkwL_law_38 : List UInt8 := [167, 5, 190, 43, 42, 21, 4, 4, 96, 46, 45, 184, 0, 202, 54, 5, 44, 42, 21, 4, 4, 96, 46]
abbrev dktL_law_38 : List UInt8 := dkwL_law_38 ++ dktL_law_39
def dkwL_law_37 : List UInt8 := [21, 5, 159, 0, 5, 3, 172, 21, 5, 154, 0, 15, 45, 3, 47, 21, 6, 133, 148, 153, 0, 5, 3, 172]
abbrev dktL_law_37 : List UInt8 := dkwL_law_37 ++ dktL_law_38
def dkwL_law_36 : List UInt8 := [96, 46, 45, 184, 0, 199, 54, 5, 44, 42, 21, 4, 4, 96, 46, 182, 0, 201, 54, 6, 44, 182, 0, 128]
abbrev dktL_law_36 : List UInt8 := dkwL_law_36 ++ dktL_law_37
def dkwL_law_35 : List UInt8 := [46, 182, 0, 195, 44, 42, 21, 4, 4, 96, 46, 182, 0, 198, 159, 5, 248, 3, 172, 43, 42, 21, 4, 4]
abbrev dktL_law_35 : List UInt8 := dkwL_law_35 ++ dktL_law_36
def dkwL_law_34 : List UInt8 := [3, 172, 167, 6, 28, 43, 182, 0, 191, 44, 182, 0, 194, 159, 6, 17, 3, 172, 43, 42, 21, 4, 4, 96]
abbrev dktL_law_34 : List UInt8 := dkwL_law_34 ++ dktL_law_35
def dkwL_law_33 : List UInt8 := [24, 5, 24, 7, 151, 153, 0, 21, 24, 5, 24, 5, 151, 153, 0, 11, 24, 7, 24, 7, 151, 154, 0, 5]
abbrev dktL_law_33 : List UInt8 := dkwL_law_33 ++ dktL_law_34
def dkwL_law_32 : List UInt8 := [182, 0, 182, 44, 182, 0, 185, 159, 6, 71, 3, 172, 43, 182, 0, 186, 57, 5, 44, 182, 0, 190, 57, 7]
abbrev dktL_law_32 : List UInt8 := dkwL_law_32 ++ dktL_law_33
def dkwL_law_31 : List UInt8 := [153, 0, 5, 3, 172, 167, 6, 95, 43, 182, 0, 178, 44, 182, 0, 181, 159, 6, 84, 3, 172, 43]
abbrev dktL_law_31 : List UInt8 := dkwL_law_31 ++ dktL_law_32
def dkwL_law_30 : List UInt8 := [159, 0, 5, 3, 172, 21, 5, 154, 0, 22, 45, 3, 47, 21, 6, 153, 0, 7, 10, 167, 0, 4, 9, 148]
abbrev dktL_law_30 : List UInt8 := dkwL_law_30 ++ dktL_law_31
def dkwL_law_29 : List UInt8 := [184, 0, 175, 54, 5, 44, 42, 21, 4, 4, 96, 46, 182, 0, 177, 54, 6, 44, 182, 0, 128, 21, 5]
abbrev dktL_law_29 : List UInt8 := dkwL_law_29 ++ dktL_law_30
def dkwL_law_28 : List UInt8 := [3, 47, 21, 6, 133, 148, 153, 0, 5, 3, 172, 167, 6, 158, 43, 42, 21, 4, 4, 96, 46, 45]
abbrev dktL_law_28 : List UInt8 := dkwL_law_28 ++ dktL_law_29
def dkwL_law_27 : List UInt8 := [96, 46, 182, 0, 174, 54, 6, 44, 182, 0, 128, 21, 5, 159, 0, 5, 3, 172, 21, 5, 154, 0, 15, 45]
abbrev dktL_law_27 : List UInt8 := dkwL_law_27 ++ dktL_law_28
def dkwL_law_26 : List UInt8 := [46, 42, 21, 4, 5, 96, 46, 45, 184, 0, 172, 54, 5, 44, 42, 21, 4, 4, 96, 46, 42, 21, 4, 5]
abbrev dktL_law_26 : List UInt8 := dkwL_law_26 ++ dktL_law_27
def dkwL_law_25 : List UInt8 := [154, 0, 15, 45, 3, 47, 21, 6, 133, 148, 153, 0, 5, 3, 172, 167, 6, 226, 43, 42, 21, 4, 4, 96]
abbrev dktL_law_25 : List UInt8 := dkwL_law_25 ++ dktL_law_26
def dkwL_law_24 : List UInt8 := [21, 4, 5, 96, 46, 182, 0, 171, 54, 6, 44, 182, 0, 128, 21, 5, 159, 0, 5, 3, 172, 21, 5]
abbrev dktL_law_24 : List UInt8 := dkwL_law_24 ++ dktL_law_25
def dkwL_law_23 : List UInt8 := [4, 96, 46, 42, 21, 4, 5, 96, 46, 45, 184, 0, 169, 54, 5, 44, 42, 21, 4, 4, 96, 46, 42]
abbrev dktL_law_23 : List UInt8 := dkwL_law_23 ++ dktL_law_24
def dkwL_law_22 : List UInt8 := [21, 5, 154, 0, 15, 45, 3, 47, 21, 6, 133, 148, 153, 0, 5, 3, 172, 167, 7, 38, 43, 42, 21, 4]
abbrev dktL_law_22 : List UInt8 := dkwL_law_22 ++ dktL_law_23
def dkwL_law_21 : List UInt8 := [96, 46, 42, 21, 4, 5, 96, 46, 182, 0, 168, 54, 6, 44, 182, 0, 128, 21, 5, 159, 0, 5, 3, 172]
abbrev dktL_law_21 : List UInt8 := dkwL_law_21 ++ dktL_law_22
def dkwL_law_20 : List UInt8 := [43, 42, 21, 4, 4, 96, 46, 42, 21, 4, 5, 96, 46, 45, 184, 0, 165, 54, 5, 44, 42, 21, 4, 4]
abbrev dktL_law_20 : List UInt8 := dkwL_law_20 ++ dktL_law_21
def dkwL_law_19 : List UInt8 := [24, 7, 151, 154, 0, 5, 3, 172, 167, 7, 119, 43, 182, 0, 161, 44, 182, 0, 164, 159, 7, 108, 3, 172]
abbrev dktL_law_19 : List UInt8 := dkwL_law_19 ++ dktL_law_20
def dkwL_law_18 : List UInt8 := [182, 0, 160, 141, 57, 7, 24, 5, 24, 7, 151, 153, 0, 21, 24, 5, 24, 5, 151, 153, 0, 11, 24, 7]
abbrev dktL_law_18 : List UInt8 := dkwL_law_18 ++ dktL_law_19
def dkwL_law_17 : List UInt8 := [167, 7, 175, 43, 182, 0, 152, 44, 182, 0, 155, 159, 7, 164, 3, 172, 43, 182, 0, 156, 141, 57, 5, 44]
abbrev dktL_law_17 : List UInt8 := dkwL_law_17 ++ dktL_law_18
def dkwL_law_16 : List UInt8 := [21, 5, 159, 0, 5, 3, 172, 21, 5, 154, 0, 15, 45, 3, 47, 21, 6, 133, 148, 153, 0, 5, 3, 172]
abbrev dktL_law_16 : List UInt8 := dkwL_law_16 ++ dktL_law_17
def dkwL_law_15 : List UInt8 := [46, 45, 184, 0, 149, 54, 5, 44, 42, 21, 4, 4, 96, 46, 182, 0, 151, 54, 6, 44, 182, 0, 128]
abbrev dktL_law_15 : List UInt8 := dkwL_law_15 ++ dktL_law_16
def dkwL_law_14 : List UInt8 := [154, 0, 15, 45, 3, 47, 21, 6, 133, 148, 153, 0, 5, 3, 172, 167, 7, 231, 43, 42, 21, 4, 4, 96]
abbrev dktL_law_14 : List UInt8 := dkwL_law_14 ++ dktL_law_15
def dkwL_law_13 : List UInt8 := [21, 4, 4, 96, 46, 182, 0, 148, 54, 6, 44, 182, 0, 128, 21, 5, 159, 0, 5, 3, 172, 21, 5]
abbrev dktL_law_13 : List UInt8 := dkwL_law_13 ++ dktL_law_14
def dkwL_law_12 : List UInt8 := [148, 153, 0, 5, 3, 172, 167, 8, 31, 43, 42, 21, 4, 4, 96, 46, 45, 184, 0, 146, 54, 5, 44, 42]
abbrev dktL_law_12 : List UInt8 := dkwL_law_12 ++ dktL_law_13
def dkwL_law_11 : List UInt8 := [54, 6, 44, 182, 0, 128, 21, 5, 159, 0, 5, 3, 172, 21, 5, 154, 0, 15, 45, 3, 47, 21, 6, 133]
abbrev dktL_law_11 : List UInt8 := dkwL_law_11 ++ dktL_law_12
def dkwL_law_10 : List UInt8 := [172, 43, 42, 21, 4, 4, 96, 46, 45, 184, 0, 143, 54, 5, 44, 42, 21, 4, 4, 96, 46, 182, 0, 145]
abbrev dktL_law_10 : List UInt8 := dkwL_law_10 ++ dktL_law_11
def dkwL_law_9 : List UInt8 := [182, 0, 135, 44, 182, 0, 138, 159, 8, 102, 3, 172, 43, 182, 0, 139, 44, 182, 0, 142, 159, 8, 89, 3]
abbrev dktL_law_9 : List UInt8 := dkwL_law_9 ++ dktL_law_10
def dkwL_law_8 : List UInt8 := [148, 153, 0, 5, 3, 172, 167, 8, 126, 43, 182, 0, 131, 44, 182, 0, 134, 159, 8, 115, 3, 172, 43]
abbrev dktL_law_8 : List UInt8 := dkwL_law_8 ++ dktL_law_9
def dkwL_law_7 : List UInt8 := [54, 6, 44, 182, 0, 128, 21, 5, 159, 0, 5, 3, 172, 21, 5, 154, 0, 15, 45, 3, 47, 21, 6, 133]
abbrev dktL_law_7 : List UInt8 := dkwL_law_7 ++ dktL_law_8
def dkwL_law_6 : List UInt8 := [172, 43, 42, 21, 4, 4, 96, 46, 45, 184, 0, 122, 54, 5, 44, 42, 21, 4, 4, 96, 46, 182, 0, 127]
abbrev dktL_law_6 : List UInt8 := dkwL_law_6 ++ dktL_law_7
def dkwL_law_5 : List UInt8 := [21, 4, 6, 96, 46, 42, 21, 4, 7, 96, 46, 42, 21, 4, 8, 96, 46, 182, 0, 121, 159, 8, 184, 3]
abbrev dktL_law_5 : List UInt8 := dkwL_law_5 ++ dktL_law_6
def dkwL_law_4 : List UInt8 := [46, 42, 21, 4, 8, 96, 46, 182, 0, 117, 44, 42, 21, 4, 4, 96, 46, 42, 21, 4, 5, 96, 46, 42]
abbrev dktL_law_4 : List UInt8 := dkwL_law_4 ++ dktL_law_5
def dkwL_law_3 : List UInt8 := [43, 42, 21, 4, 4, 96, 46, 42, 21, 4, 5, 96, 46, 42, 21, 4, 6, 96, 46, 42, 21, 4, 7, 96]
abbrev dktL_law_3 : List UInt8 := dkwL_law_3 ++ dktL_law_4
def dkwL_law_2 : List UInt8 := [170, 0, 0, 0, 0, 0, 9, 220, 0, 0, 0, 0, 0, 0, 0, 51, 0, 0, 0, 224, 0, 0, 1, 41, 0, 0, 1, 97, 0, 0, 1, 110, 0, 0, 1, 123, 0, 0, 1, 136, 0, 0, 1, 192, 0, 0, 1, 248, 0, 0, 2, 48, 0, 0, 2, 61, 0, 0, 2, 104, 0, 0, 2, 117, 0, 0, 2, 185, 0, 0, 2, 253, 0, 0, 3, 65, 0, 0, 3, 128, 0, 0, 3, 141, 0, 0, 3, 154, 0, 0, 3, 195, 0, 0, 3, 208, 0, 0, 3, 233, 0, 0, 4, 33, 0, 0, 4, 89, 0, 0, 4, 145, 0, 0, 4, 201, 0, 0, 5, 1, 0, 0, 5, 69, 0, 0, 5, 82, 0, 0, 5, 138, 0, 0, 5, 218, 0, 0, 6, 30, 0, 0, 6, 86, 0, 0, 6, 142, 0, 0, 6, 155, 0, 0, 6, 168, 0, 0, 6, 181, 0, 0, 6, 194, 0, 0, 6, 207, 0, 0, 6, 220, 0, 0, 7, 44, 0, 0, 7, 124, 0, 0, 7, 180, 0, 0, 7, 236, 0, 0, 8, 60, 0, 0, 8, 128, 0, 0, 8, 196, 0, 0, 8, 252, 0, 0, 9, 52, 0, 0, 9, 108, 0, 0, 9, 121, 0, 0, 9, 165, 0, 0, 9, 176]
abbrev dktL_law_2 : List UInt8 := dkwL_law_2 ++ dktL_law_3
def dkwL_law_1 : List UInt8 := [21, 4, 42, 190, 16, 6, 100, 163, 9, 236, 42, 21, 4, 46, 16, 63, 126]
abbrev dktL_law_1 : List UInt8 := dkwL_law_1 ++ dktL_law_2
def dkwL_law_0 : List UInt8 := [187, 0, 8, 89, 183, 0, 113, 76, 187, 0, 114, 89, 183, 0, 116, 77, 4, 188, 11, 78, 3, 54, 4]
abbrev dktL_law_0 : List UInt8 := dkwL_law_0 ++ dktL_law_1
theorem dksL_law_0 : cL_law.data.toList.drop 0 = dktL_law_0 := by decide +kernel
theorem dksL_law_1 : cL_law.data.toList.drop 23 = dktL_law_1 := dk_seg dksL_law_0 23 rfl rfl
theorem dksL_law_2 : cL_law.data.toList.drop 40 = dktL_law_2 := dk_seg dksL_law_1 17 rfl rfl
theorem dksL_law_3 : cL_law.data.toList.drop 264 = dktL_law_3 := dk_seg dksL_law_2 224 rfl rfl
theorem dksL_law_4 : cL_law.data.toList.drop 288 = dktL_law_4 := dk_seg dksL_law_3 24 rfl rfl
theorem dksL_law_5 : cL_law.data.toList.drop 312 = dktL_law_5 := dk_seg dksL_law_4 24 rfl rfl
theorem dksL_law_6 : cL_law.data.toList.drop 336 = dktL_law_6 := dk_seg dksL_law_5 24 rfl rfl
theorem dksL_law_7 : cL_law.data.toList.drop 360 = dktL_law_7 := dk_seg dksL_law_6 24 rfl rfl
theorem dksL_law_8 : cL_law.data.toList.drop 384 = dktL_law_8 := dk_seg dksL_law_7 24 rfl rfl
theorem dksL_law_9 : cL_law.data.toList.drop 407 = dktL_law_9 := dk_seg dksL_law_8 23 rfl rfl
theorem dksL_law_10 : cL_law.data.toList.drop 431 = dktL_law_10 := dk_seg dksL_law_9 24 rfl rfl
theorem dksL_law_11 : cL_law.data.toList.drop 455 = dktL_law_11 := dk_seg dksL_law_10 24 rfl rfl
theorem dksL_law_12 : cL_law.data.toList.drop 479 = dktL_law_12 := dk_seg dksL_law_11 24 rfl rfl
theorem dksL_law_13 : cL_law.data.toList.drop 503 = dktL_law_13 := dk_seg dksL_law_12 24 rfl rfl
theorem dksL_law_14 : cL_law.data.toList.drop 526 = dktL_law_14 := dk_seg dksL_law_13 23 rfl rfl
theorem dksL_law_15 : cL_law.data.toList.drop 550 = dktL_law_15 := dk_seg dksL_law_14 24 rfl rfl
theorem dksL_law_16 : cL_law.data.toList.drop 573 = dktL_law_16 := dk_seg dksL_law_15 23 rfl rfl
theorem dksL_law_17 : cL_law.data.toList.drop 597 = dktL_law_17 := dk_seg dksL_law_16 24 rfl rfl
theorem dksL_law_18 : cL_law.data.toList.drop 621 = dktL_law_18 := dk_seg dksL_law_17 24 rfl rfl
theorem dksL_law_19 : cL_law.data.toList.drop 645 = dktL_law_19 := dk_seg dksL_law_18 24 rfl rfl
theorem dksL_law_20 : cL_law.data.toList.drop 669 = dktL_law_20 := dk_seg dksL_law_19 24 rfl rfl
theorem dksL_law_21 : cL_law.data.toList.drop 693 = dktL_law_21 := dk_seg dksL_law_20 24 rfl rfl
theorem dksL_law_22 : cL_law.data.toList.drop 717 = dktL_law_22 := dk_seg dksL_law_21 24 rfl rfl
theorem dksL_law_23 : cL_law.data.toList.drop 741 = dktL_law_23 := dk_seg dksL_law_22 24 rfl rfl
theorem dksL_law_24 : cL_law.data.toList.drop 764 = dktL_law_24 := dk_seg dksL_law_23 23 rfl rfl
theorem dksL_law_25 : cL_law.data.toList.drop 787 = dktL_law_25 := dk_seg dksL_law_24 23 rfl rfl
theorem dksL_law_26 : cL_law.data.toList.drop 811 = dktL_law_26 := dk_seg dksL_law_25 24 rfl rfl
theorem dksL_law_27 : cL_law.data.toList.drop 835 = dktL_law_27 := dk_seg dksL_law_26 24 rfl rfl
theorem dksL_law_28 : cL_law.data.toList.drop 859 = dktL_law_28 := dk_seg dksL_law_27 24 rfl rfl
theorem dksL_law_29 : cL_law.data.toList.drop 881 = dktL_law_29 := dk_seg dksL_law_28 22 rfl rfl
theorem dksL_law_30 : cL_law.data.toList.drop 904 = dktL_law_30 := dk_seg dksL_law_29 23 rfl rfl
theorem dksL_law_31 : cL_law.data.toList.drop 928 = dktL_law_31 := dk_seg dksL_law_30 24 rfl rfl
theorem dksL_law_32 : cL_law.data.toList.drop 950 = dktL_law_32 := dk_seg dksL_law_31 22 rfl rfl
theorem dksL_law_33 : cL_law.data.toList.drop 974 = dktL_law_33 := dk_seg dksL_law_32 24 rfl rfl
theorem dksL_law_34 : cL_law.data.toList.drop 998 = dktL_law_34 := dk_seg dksL_law_33 24 rfl rfl
theorem dksL_law_35 : cL_law.data.toList.drop 1022 = dktL_law_35 := dk_seg dksL_law_34 24 rfl rfl
theorem dksL_law_36 : cL_law.data.toList.drop 1046 = dktL_law_36 := dk_seg dksL_law_35 24 rfl rfl
theorem dksL_law_37 : cL_law.data.toList.drop 1070 = dktL_law_37 := dk_seg dksL_law_36 24 rfl rfl
theorem dksL_law_38 : cL_law.data.toList.drop 1094 = dktL_law_38 := dk_seg dksL_law_37 24 rfl rfl
theorem dksL_law_39 : cL_law.data.toList.drop 1117 = dktL_law_39 := dk_seg dksL_law_38 23 rfl rfl
theorem dksL_law_40 : cL_law.data.toList.drop 1141 = dktL_law_40 := dk_seg dksL_law_39 24 rfl rfl
theorem dksL_law_41 : cL_law.data.toList.drop 1164 = dktL_law_41 := dk_seg dksL_law_40 23 rfl rfl
theorem dksL_law_42 : cL_law.data.toList.drop 1188 = dktL_law_42 := dk_seg dksL_law_41 24 rfl rfl
theorem dksL_law_43 : cL_law.data.toList.drop 1211 = dktL_law_43 := dk_seg dksL_law_42 23 rfl rfl
theorem dksL_law_44 : cL_law.data.toList.drop 1235 = dktL_law_44 := dk_seg dksL_law_43 24 rfl rfl
theorem dksL_law_45 : cL_law.data.toList.drop 1257 = dktL_law_45 := dk_seg dksL_law_44 22 rfl rfl
theorem dksL_law_46 : cL_law.data.toList.drop 1280 = dktL_law_46 := dk_seg dksL_law_45 23 rfl rfl
theorem dksL_law_47 : cL_law.data.toList.drop 1303 = dktL_law_47 := dk_seg dksL_law_46 23 rfl rfl
theorem dksL_law_48 : cL_law.data.toList.drop 1327 = dktL_law_48 := dk_seg dksL_law_47 24 rfl rfl
theorem dksL_law_49 : cL_law.data.toList.drop 1351 = dktL_law_49 := dk_seg dksL_law_48 24 rfl rfl
theorem dksL_law_50 : cL_law.data.toList.drop 1375 = dktL_law_50 := dk_seg dksL_law_49 24 rfl rfl
theorem dksL_law_51 : cL_law.data.toList.drop 1397 = dktL_law_51 := dk_seg dksL_law_50 22 rfl rfl
theorem dksL_law_52 : cL_law.data.toList.drop 1421 = dktL_law_52 := dk_seg dksL_law_51 24 rfl rfl
theorem dksL_law_53 : cL_law.data.toList.drop 1445 = dktL_law_53 := dk_seg dksL_law_52 24 rfl rfl
theorem dksL_law_54 : cL_law.data.toList.drop 1469 = dktL_law_54 := dk_seg dksL_law_53 24 rfl rfl
theorem dksL_law_55 : cL_law.data.toList.drop 1493 = dktL_law_55 := dk_seg dksL_law_54 24 rfl rfl
theorem dksL_law_56 : cL_law.data.toList.drop 1517 = dktL_law_56 := dk_seg dksL_law_55 24 rfl rfl
theorem dksL_law_57 : cL_law.data.toList.drop 1540 = dktL_law_57 := dk_seg dksL_law_56 23 rfl rfl
theorem dksL_law_58 : cL_law.data.toList.drop 1564 = dktL_law_58 := dk_seg dksL_law_57 24 rfl rfl
theorem dksL_law_59 : cL_law.data.toList.drop 1588 = dktL_law_59 := dk_seg dksL_law_58 24 rfl rfl
theorem dksL_law_60 : cL_law.data.toList.drop 1612 = dktL_law_60 := dk_seg dksL_law_59 24 rfl rfl
theorem dksL_law_61 : cL_law.data.toList.drop 1635 = dktL_law_61 := dk_seg dksL_law_60 23 rfl rfl
theorem dksL_law_62 : cL_law.data.toList.drop 1659 = dktL_law_62 := dk_seg dksL_law_61 24 rfl rfl
theorem dksL_law_63 : cL_law.data.toList.drop 1682 = dktL_law_63 := dk_seg dksL_law_62 23 rfl rfl
theorem dksL_law_64 : cL_law.data.toList.drop 1706 = dktL_law_64 := dk_seg dksL_law_63 24 rfl rfl
theorem dksL_law_65 : cL_law.data.toList.drop 1730 = dktL_law_65 := dk_seg dksL_law_64 24 rfl rfl
theorem dksL_law_66 : cL_law.data.toList.drop 1752 = dktL_law_66 := dk_seg dksL_law_65 22 rfl rfl
theorem dksL_law_67 : cL_law.data.toList.drop 1775 = dktL_law_67 := dk_seg dksL_law_66 23 rfl rfl
theorem dksL_law_68 : cL_law.data.toList.drop 1798 = dktL_law_68 := dk_seg dksL_law_67 23 rfl rfl
theorem dksL_law_69 : cL_law.data.toList.drop 1822 = dktL_law_69 := dk_seg dksL_law_68 24 rfl rfl
theorem dksL_law_70 : cL_law.data.toList.drop 1846 = dktL_law_70 := dk_seg dksL_law_69 24 rfl rfl
theorem dksL_law_71 : cL_law.data.toList.drop 1868 = dktL_law_71 := dk_seg dksL_law_70 22 rfl rfl
theorem dksL_law_72 : cL_law.data.toList.drop 1892 = dktL_law_72 := dk_seg dksL_law_71 24 rfl rfl
theorem dksL_law_73 : cL_law.data.toList.drop 1915 = dktL_law_73 := dk_seg dksL_law_72 23 rfl rfl
theorem dksL_law_74 : cL_law.data.toList.drop 1938 = dktL_law_74 := dk_seg dksL_law_73 23 rfl rfl
theorem dksL_law_75 : cL_law.data.toList.drop 1962 = dktL_law_75 := dk_seg dksL_law_74 24 rfl rfl
theorem dksL_law_76 : cL_law.data.toList.drop 1985 = dktL_law_76 := dk_seg dksL_law_75 23 rfl rfl
theorem dksL_law_77 : cL_law.data.toList.drop 2009 = dktL_law_77 := dk_seg dksL_law_76 24 rfl rfl
theorem dksL_law_78 : cL_law.data.toList.drop 2032 = dktL_law_78 := dk_seg dksL_law_77 23 rfl rfl
theorem dksL_law_79 : cL_law.data.toList.drop 2056 = dktL_law_79 := dk_seg dksL_law_78 24 rfl rfl
theorem dksL_law_80 : cL_law.data.toList.drop 2080 = dktL_law_80 := dk_seg dksL_law_79 24 rfl rfl
theorem dksL_law_81 : cL_law.data.toList.drop 2104 = dktL_law_81 := dk_seg dksL_law_80 24 rfl rfl
theorem dksL_law_82 : cL_law.data.toList.drop 2128 = dktL_law_82 := dk_seg dksL_law_81 24 rfl rfl
theorem dksL_law_83 : cL_law.data.toList.drop 2152 = dktL_law_83 := dk_seg dksL_law_82 24 rfl rfl
theorem dksL_law_84 : cL_law.data.toList.drop 2175 = dktL_law_84 := dk_seg dksL_law_83 23 rfl rfl
theorem dksL_law_85 : cL_law.data.toList.drop 2198 = dktL_law_85 := dk_seg dksL_law_84 23 rfl rfl
theorem dksL_law_86 : cL_law.data.toList.drop 2222 = dktL_law_86 := dk_seg dksL_law_85 24 rfl rfl
theorem dksL_law_87 : cL_law.data.toList.drop 2246 = dktL_law_87 := dk_seg dksL_law_86 24 rfl rfl
theorem dksL_law_88 : cL_law.data.toList.drop 2270 = dktL_law_88 := dk_seg dksL_law_87 24 rfl rfl
theorem dksL_law_89 : cL_law.data.toList.drop 2292 = dktL_law_89 := dk_seg dksL_law_88 22 rfl rfl
theorem dksL_law_90 : cL_law.data.toList.drop 2315 = dktL_law_90 := dk_seg dksL_law_89 23 rfl rfl
theorem dksL_law_91 : cL_law.data.toList.drop 2337 = dktL_law_91 := dk_seg dksL_law_90 22 rfl rfl
theorem dksL_law_92 : cL_law.data.toList.drop 2360 = dktL_law_92 := dk_seg dksL_law_91 23 rfl rfl
theorem dksL_law_93 : cL_law.data.toList.drop 2384 = dktL_law_93 := dk_seg dksL_law_92 24 rfl rfl
theorem dksL_law_94 : cL_law.data.toList.drop 2407 = dktL_law_94 := dk_seg dksL_law_93 23 rfl rfl
theorem dksL_law_95 : cL_law.data.toList.drop 2431 = dktL_law_95 := dk_seg dksL_law_94 24 rfl rfl
theorem dksL_law_96 : cL_law.data.toList.drop 2453 = dktL_law_96 := dk_seg dksL_law_95 22 rfl rfl
theorem dksL_law_97 : cL_law.data.toList.drop 2476 = dktL_law_97 := dk_seg dksL_law_96 23 rfl rfl
theorem dksL_law_98 : cL_law.data.toList.drop 2500 = dktL_law_98 := dk_seg dksL_law_97 24 rfl rfl
theorem dksL_law_99 : cL_law.data.toList.drop 2522 = dktL_law_99 := dk_seg dksL_law_98 22 rfl rfl
theorem dksL_law_100 : cL_law.data.toList.drop 2546 = dktL_law_100 := dk_seg dksL_law_99 24 rfl rfl
theorem dksL_law_101 : cL_law.data.toList.drop 2570 = dktL_law_101 := dk_seg dksL_law_100 24 rfl rfl
theorem dL_law_0 : decode cL_law 0 = .ok (.new 8, 3) := dk_187 0 8 (dk_at dksL_law_0 0 rfl rfl)
theorem dL_law_3 : decode cL_law 3 = .ok (.dup, 1) := dk_89 (dk_at dksL_law_0 3 rfl rfl)
theorem dL_law_4 : decode cL_law 4 = .ok (.invokespecial 113, 3) := dk_183 0 113 (dk_at dksL_law_0 4 rfl rfl)
theorem dL_law_7 : decode cL_law 7 = .ok (.astore_n 1, 1) := dk_76 (dk_at dksL_law_0 7 rfl rfl)
theorem dL_law_8 : decode cL_law 8 = .ok (.new 114, 3) := dk_187 0 114 (dk_at dksL_law_0 8 rfl rfl)
theorem dL_law_11 : decode cL_law 11 = .ok (.dup, 1) := dk_89 (dk_at dksL_law_0 11 rfl rfl)
theorem dL_law_12 : decode cL_law 12 = .ok (.invokespecial 116, 3) := dk_183 0 116 (dk_at dksL_law_0 12 rfl rfl)
theorem dL_law_15 : decode cL_law 15 = .ok (.astore_n 2, 1) := dk_77 (dk_at dksL_law_0 15 rfl rfl)
theorem dL_law_16 : decode cL_law 16 = .ok (.iconst 1, 1) := dk_4 (dk_at dksL_law_0 16 rfl rfl)
theorem dL_law_17 : decode cL_law 17 = .ok (.newarray .long, 2) := dk_188_11 (dk_at dksL_law_0 17 rfl rfl)
theorem dL_law_19 : decode cL_law 19 = .ok (.astore_n 3, 1) := dk_78 (dk_at dksL_law_0 19 rfl rfl)
theorem dL_law_20 : decode cL_law 20 = .ok (.iconst 0, 1) := dk_3 (dk_at dksL_law_0 20 rfl rfl)
theorem dL_law_21 : decode cL_law 21 = .ok (.istore 4, 2) := dk_54 4 (dk_at dksL_law_0 21 rfl rfl)
theorem dL_law_23 : decode cL_law 23 = .ok (.iload 4, 2) := dk_21 4 (dk_at dksL_law_1 0 rfl rfl)
theorem dL_law_25 : decode cL_law 25 = .ok (.aload_n 0, 1) := dk_42 (dk_at dksL_law_1 2 rfl rfl)
theorem dL_law_26 : decode cL_law 26 = .ok (.arraylength, 1) := dk_190 (dk_at dksL_law_1 3 rfl rfl)
theorem dL_law_27 : decode cL_law 27 = .ok (.bipush 6, 2) := dk_16 6 (dk_at dksL_law_1 4 rfl rfl)
theorem dL_law_29 : decode cL_law 29 = .ok (.isub, 1) := dk_100 (dk_at dksL_law_1 6 rfl rfl)
theorem dL_law_30 : decode cL_law 30 = .ok (.if_icmp .gt 2540, 3) := dk_163 9 236 (dk_at dksL_law_1 7 rfl rfl)
theorem dL_law_33 : decode cL_law 33 = .ok (.aload_n 0, 1) := dk_42 (dk_at dksL_law_1 10 rfl rfl)
theorem dL_law_34 : decode cL_law 34 = .ok (.iload 4, 2) := dk_21 4 (dk_at dksL_law_1 11 rfl rfl)
theorem dL_law_36 : decode cL_law 36 = .ok (.iaload, 1) := dk_46 (dk_at dksL_law_1 13 rfl rfl)
theorem dL_law_37 : decode cL_law 37 = .ok (.bipush 63, 2) := dk_16 63 (dk_at dksL_law_1 14 rfl rfl)
theorem dL_law_39 : decode cL_law 39 = .ok (.iand, 1) := dk_126 (dk_at dksL_law_1 16 rfl rfl)
theorem dL_law_40 : decode cL_law 40 = .ok (.tableswitch 2524 0 51 #[224, 297, 353, 366, 379, 392, 448, 504, 560, 573, 616, 629, 697, 765, 833, 896, 909, 922, 963, 976, 1001, 1057, 1113, 1169, 1225, 1281, 1349, 1362, 1418, 1498, 1566, 1622, 1678, 1691, 1704, 1717, 1730, 1743, 1756, 1836, 1916, 1972, 2028, 2108, 2176, 2244, 2300, 2356, 2412, 2425, 2469, 2480], 224) := by decide +kernel
theorem dL_law_264 : decode cL_law 264 = .ok (.aload_n 1, 1) := dk_43 (dk_at dksL_law_3 0 rfl rfl)
theorem dL_law_265 : decode cL_law 265 = .ok (.aload_n 0, 1) := dk_42 (dk_at dksL_law_3 1 rfl rfl)
theorem dL_law_266 : decode cL_law 266 = .ok (.iload 4, 2) := dk_21 4 (dk_at dksL_law_3 2 rfl rfl)
theorem dL_law_268 : decode cL_law 268 = .ok (.iconst 1, 1) := dk_4 (dk_at dksL_law_3 4 rfl rfl)
theorem dL_law_269 : decode cL_law 269 = .ok (.iadd, 1) := dk_96 (dk_at dksL_law_3 5 rfl rfl)
theorem dL_law_270 : decode cL_law 270 = .ok (.iaload, 1) := dk_46 (dk_at dksL_law_3 6 rfl rfl)
theorem dL_law_271 : decode cL_law 271 = .ok (.aload_n 0, 1) := dk_42 (dk_at dksL_law_3 7 rfl rfl)
theorem dL_law_272 : decode cL_law 272 = .ok (.iload 4, 2) := dk_21 4 (dk_at dksL_law_3 8 rfl rfl)
theorem dL_law_274 : decode cL_law 274 = .ok (.iconst 2, 1) := dk_5 (dk_at dksL_law_3 10 rfl rfl)
theorem dL_law_275 : decode cL_law 275 = .ok (.iadd, 1) := dk_96 (dk_at dksL_law_3 11 rfl rfl)
theorem dL_law_276 : decode cL_law 276 = .ok (.iaload, 1) := dk_46 (dk_at dksL_law_3 12 rfl rfl)
theorem dL_law_277 : decode cL_law 277 = .ok (.aload_n 0, 1) := dk_42 (dk_at dksL_law_3 13 rfl rfl)
theorem dL_law_278 : decode cL_law 278 = .ok (.iload 4, 2) := dk_21 4 (dk_at dksL_law_3 14 rfl rfl)
theorem dL_law_280 : decode cL_law 280 = .ok (.iconst 3, 1) := dk_6 (dk_at dksL_law_3 16 rfl rfl)
theorem dL_law_281 : decode cL_law 281 = .ok (.iadd, 1) := dk_96 (dk_at dksL_law_3 17 rfl rfl)
theorem dL_law_282 : decode cL_law 282 = .ok (.iaload, 1) := dk_46 (dk_at dksL_law_3 18 rfl rfl)
theorem dL_law_283 : decode cL_law 283 = .ok (.aload_n 0, 1) := dk_42 (dk_at dksL_law_3 19 rfl rfl)
theorem dL_law_284 : decode cL_law 284 = .ok (.iload 4, 2) := dk_21 4 (dk_at dksL_law_3 20 rfl rfl)
theorem dL_law_286 : decode cL_law 286 = .ok (.iconst 4, 1) := dk_7 (dk_at dksL_law_3 22 rfl rfl)
theorem dL_law_287 : decode cL_law 287 = .ok (.iadd, 1) := dk_96 (dk_at dksL_law_3 23 rfl rfl)
theorem dL_law_288 : decode cL_law 288 = .ok (.iaload, 1) := dk_46 (dk_at dksL_law_4 0 rfl rfl)
theorem dL_law_289 : decode cL_law 289 = .ok (.aload_n 0, 1) := dk_42 (dk_at dksL_law_4 1 rfl rfl)
theorem dL_law_290 : decode cL_law 290 = .ok (.iload 4, 2) := dk_21 4 (dk_at dksL_law_4 2 rfl rfl)
theorem dL_law_292 : decode cL_law 292 = .ok (.iconst 5, 1) := dk_8 (dk_at dksL_law_4 4 rfl rfl)
theorem dL_law_293 : decode cL_law 293 = .ok (.iadd, 1) := dk_96 (dk_at dksL_law_4 5 rfl rfl)
theorem dL_law_294 : decode cL_law 294 = .ok (.iaload, 1) := dk_46 (dk_at dksL_law_4 6 rfl rfl)
theorem dL_law_295 : decode cL_law 295 = .ok (.invokevirtual 117, 3) := dk_182 0 117 (dk_at dksL_law_4 7 rfl rfl)
theorem dL_law_298 : decode cL_law 298 = .ok (.aload_n 2, 1) := dk_44 (dk_at dksL_law_4 10 rfl rfl)
theorem dL_law_299 : decode cL_law 299 = .ok (.aload_n 0, 1) := dk_42 (dk_at dksL_law_4 11 rfl rfl)
theorem dL_law_300 : decode cL_law 300 = .ok (.iload 4, 2) := dk_21 4 (dk_at dksL_law_4 12 rfl rfl)
theorem dL_law_302 : decode cL_law 302 = .ok (.iconst 1, 1) := dk_4 (dk_at dksL_law_4 14 rfl rfl)
theorem dL_law_303 : decode cL_law 303 = .ok (.iadd, 1) := dk_96 (dk_at dksL_law_4 15 rfl rfl)
theorem dL_law_304 : decode cL_law 304 = .ok (.iaload, 1) := dk_46 (dk_at dksL_law_4 16 rfl rfl)
theorem dL_law_305 : decode cL_law 305 = .ok (.aload_n 0, 1) := dk_42 (dk_at dksL_law_4 17 rfl rfl)
theorem dL_law_306 : decode cL_law 306 = .ok (.iload 4, 2) := dk_21 4 (dk_at dksL_law_4 18 rfl rfl)
theorem dL_law_308 : decode cL_law 308 = .ok (.iconst 2, 1) := dk_5 (dk_at dksL_law_4 20 rfl rfl)
theorem dL_law_309 : decode cL_law 309 = .ok (.iadd, 1) := dk_96 (dk_at dksL_law_4 21 rfl rfl)
theorem dL_law_310 : decode cL_law 310 = .ok (.iaload, 1) := dk_46 (dk_at dksL_law_4 22 rfl rfl)
theorem dL_law_311 : decode cL_law 311 = .ok (.aload_n 0, 1) := dk_42 (dk_at dksL_law_4 23 rfl rfl)
theorem dL_law_312 : decode cL_law 312 = .ok (.iload 4, 2) := dk_21 4 (dk_at dksL_law_5 0 rfl rfl)
theorem dL_law_314 : decode cL_law 314 = .ok (.iconst 3, 1) := dk_6 (dk_at dksL_law_5 2 rfl rfl)
theorem dL_law_315 : decode cL_law 315 = .ok (.iadd, 1) := dk_96 (dk_at dksL_law_5 3 rfl rfl)
theorem dL_law_316 : decode cL_law 316 = .ok (.iaload, 1) := dk_46 (dk_at dksL_law_5 4 rfl rfl)
theorem dL_law_317 : decode cL_law 317 = .ok (.aload_n 0, 1) := dk_42 (dk_at dksL_law_5 5 rfl rfl)
theorem dL_law_318 : decode cL_law 318 = .ok (.iload 4, 2) := dk_21 4 (dk_at dksL_law_5 6 rfl rfl)
theorem dL_law_320 : decode cL_law 320 = .ok (.iconst 4, 1) := dk_7 (dk_at dksL_law_5 8 rfl rfl)
theorem dL_law_321 : decode cL_law 321 = .ok (.iadd, 1) := dk_96 (dk_at dksL_law_5 9 rfl rfl)
theorem dL_law_322 : decode cL_law 322 = .ok (.iaload, 1) := dk_46 (dk_at dksL_law_5 10 rfl rfl)
theorem dL_law_323 : decode cL_law 323 = .ok (.aload_n 0, 1) := dk_42 (dk_at dksL_law_5 11 rfl rfl)
theorem dL_law_324 : decode cL_law 324 = .ok (.iload 4, 2) := dk_21 4 (dk_at dksL_law_5 12 rfl rfl)
theorem dL_law_326 : decode cL_law 326 = .ok (.iconst 5, 1) := dk_8 (dk_at dksL_law_5 14 rfl rfl)
theorem dL_law_327 : decode cL_law 327 = .ok (.iadd, 1) := dk_96 (dk_at dksL_law_5 15 rfl rfl)
theorem dL_law_328 : decode cL_law 328 = .ok (.iaload, 1) := dk_46 (dk_at dksL_law_5 16 rfl rfl)
theorem dL_law_329 : decode cL_law 329 = .ok (.invokevirtual 121, 3) := dk_182 0 121 (dk_at dksL_law_5 17 rfl rfl)
theorem dL_law_332 : decode cL_law 332 = .ok (.if_icmp .eq 2232, 3) := dk_159 8 184 (dk_at dksL_law_5 20 rfl rfl)
theorem dL_law_335 : decode cL_law 335 = .ok (.iconst 0, 1) := dk_3 (dk_at dksL_law_5 23 rfl rfl)
theorem dL_law_336 : decode cL_law 336 = .ok (.ireturn, 1) := dk_172 (dk_at dksL_law_6 0 rfl rfl)
theorem dL_law_337 : decode cL_law 337 = .ok (.aload_n 1, 1) := dk_43 (dk_at dksL_law_6 1 rfl rfl)
theorem dL_law_338 : decode cL_law 338 = .ok (.aload_n 0, 1) := dk_42 (dk_at dksL_law_6 2 rfl rfl)
theorem dL_law_339 : decode cL_law 339 = .ok (.iload 4, 2) := dk_21 4 (dk_at dksL_law_6 3 rfl rfl)
theorem dL_law_341 : decode cL_law 341 = .ok (.iconst 1, 1) := dk_4 (dk_at dksL_law_6 5 rfl rfl)
theorem dL_law_342 : decode cL_law 342 = .ok (.iadd, 1) := dk_96 (dk_at dksL_law_6 6 rfl rfl)
theorem dL_law_343 : decode cL_law 343 = .ok (.iaload, 1) := dk_46 (dk_at dksL_law_6 7 rfl rfl)
theorem dL_law_344 : decode cL_law 344 = .ok (.aload_n 3, 1) := dk_45 (dk_at dksL_law_6 8 rfl rfl)
theorem dL_law_345 : decode cL_law 345 = .ok (.invokestatic 122, 3) := dk_184 0 122 (dk_at dksL_law_6 9 rfl rfl)
theorem dL_law_348 : decode cL_law 348 = .ok (.istore 5, 2) := dk_54 5 (dk_at dksL_law_6 12 rfl rfl)
theorem dL_law_350 : decode cL_law 350 = .ok (.aload_n 2, 1) := dk_44 (dk_at dksL_law_6 14 rfl rfl)
theorem dL_law_351 : decode cL_law 351 = .ok (.aload_n 0, 1) := dk_42 (dk_at dksL_law_6 15 rfl rfl)
theorem dL_law_352 : decode cL_law 352 = .ok (.iload 4, 2) := dk_21 4 (dk_at dksL_law_6 16 rfl rfl)
theorem dL_law_354 : decode cL_law 354 = .ok (.iconst 1, 1) := dk_4 (dk_at dksL_law_6 18 rfl rfl)
theorem dL_law_355 : decode cL_law 355 = .ok (.iadd, 1) := dk_96 (dk_at dksL_law_6 19 rfl rfl)
theorem dL_law_356 : decode cL_law 356 = .ok (.iaload, 1) := dk_46 (dk_at dksL_law_6 20 rfl rfl)
theorem dL_law_357 : decode cL_law 357 = .ok (.invokevirtual 127, 3) := dk_182 0 127 (dk_at dksL_law_6 21 rfl rfl)
theorem dL_law_360 : decode cL_law 360 = .ok (.istore 6, 2) := dk_54 6 (dk_at dksL_law_7 0 rfl rfl)
theorem dL_law_362 : decode cL_law 362 = .ok (.aload_n 2, 1) := dk_44 (dk_at dksL_law_7 2 rfl rfl)
theorem dL_law_363 : decode cL_law 363 = .ok (.invokevirtual 128, 3) := dk_182 0 128 (dk_at dksL_law_7 3 rfl rfl)
theorem dL_law_366 : decode cL_law 366 = .ok (.iload 5, 2) := dk_21 5 (dk_at dksL_law_7 6 rfl rfl)
theorem dL_law_368 : decode cL_law 368 = .ok (.if_icmp .eq 5, 3) := dk_159 0 5 (dk_at dksL_law_7 8 rfl rfl)
theorem dL_law_371 : decode cL_law 371 = .ok (.iconst 0, 1) := dk_3 (dk_at dksL_law_7 11 rfl rfl)
theorem dL_law_372 : decode cL_law 372 = .ok (.ireturn, 1) := dk_172 (dk_at dksL_law_7 12 rfl rfl)
theorem dL_law_373 : decode cL_law 373 = .ok (.iload 5, 2) := dk_21 5 (dk_at dksL_law_7 13 rfl rfl)
theorem dL_law_375 : decode cL_law 375 = .ok (.ifCond .ne 15, 3) := dk_154 0 15 (dk_at dksL_law_7 15 rfl rfl)
theorem dL_law_378 : decode cL_law 378 = .ok (.aload_n 3, 1) := dk_45 (dk_at dksL_law_7 18 rfl rfl)
theorem dL_law_379 : decode cL_law 379 = .ok (.iconst 0, 1) := dk_3 (dk_at dksL_law_7 19 rfl rfl)
theorem dL_law_380 : decode cL_law 380 = .ok (.laload, 1) := dk_47 (dk_at dksL_law_7 20 rfl rfl)
theorem dL_law_381 : decode cL_law 381 = .ok (.iload 6, 2) := dk_21 6 (dk_at dksL_law_7 21 rfl rfl)
theorem dL_law_383 : decode cL_law 383 = .ok (.i2l, 1) := dk_133 (dk_at dksL_law_7 23 rfl rfl)
theorem dL_law_384 : decode cL_law 384 = .ok (.lcmp, 1) := dk_148 (dk_at dksL_law_8 0 rfl rfl)
theorem dL_law_385 : decode cL_law 385 = .ok (.ifCond .eq 5, 3) := dk_153 0 5 (dk_at dksL_law_8 1 rfl rfl)
theorem dL_law_388 : decode cL_law 388 = .ok (.iconst 0, 1) := dk_3 (dk_at dksL_law_8 4 rfl rfl)
theorem dL_law_389 : decode cL_law 389 = .ok (.ireturn, 1) := dk_172 (dk_at dksL_law_8 5 rfl rfl)
theorem dL_law_390 : decode cL_law 390 = .ok (.goto 2174, 3) := dk_167 8 126 (dk_at dksL_law_8 6 rfl rfl)
theorem dL_law_393 : decode cL_law 393 = .ok (.aload_n 1, 1) := dk_43 (dk_at dksL_law_8 9 rfl rfl)
theorem dL_law_394 : decode cL_law 394 = .ok (.invokevirtual 131, 3) := dk_182 0 131 (dk_at dksL_law_8 10 rfl rfl)
theorem dL_law_397 : decode cL_law 397 = .ok (.aload_n 2, 1) := dk_44 (dk_at dksL_law_8 13 rfl rfl)
theorem dL_law_398 : decode cL_law 398 = .ok (.invokevirtual 134, 3) := dk_182 0 134 (dk_at dksL_law_8 14 rfl rfl)
theorem dL_law_401 : decode cL_law 401 = .ok (.if_icmp .eq 2163, 3) := dk_159 8 115 (dk_at dksL_law_8 17 rfl rfl)
theorem dL_law_404 : decode cL_law 404 = .ok (.iconst 0, 1) := dk_3 (dk_at dksL_law_8 20 rfl rfl)
theorem dL_law_405 : decode cL_law 405 = .ok (.ireturn, 1) := dk_172 (dk_at dksL_law_8 21 rfl rfl)
theorem dL_law_406 : decode cL_law 406 = .ok (.aload_n 1, 1) := dk_43 (dk_at dksL_law_8 22 rfl rfl)
theorem dL_law_407 : decode cL_law 407 = .ok (.invokevirtual 135, 3) := dk_182 0 135 (dk_at dksL_law_9 0 rfl rfl)
theorem dL_law_410 : decode cL_law 410 = .ok (.aload_n 2, 1) := dk_44 (dk_at dksL_law_9 3 rfl rfl)
theorem dL_law_411 : decode cL_law 411 = .ok (.invokevirtual 138, 3) := dk_182 0 138 (dk_at dksL_law_9 4 rfl rfl)
theorem dL_law_414 : decode cL_law 414 = .ok (.if_icmp .eq 2150, 3) := dk_159 8 102 (dk_at dksL_law_9 7 rfl rfl)
theorem dL_law_417 : decode cL_law 417 = .ok (.iconst 0, 1) := dk_3 (dk_at dksL_law_9 10 rfl rfl)
theorem dL_law_418 : decode cL_law 418 = .ok (.ireturn, 1) := dk_172 (dk_at dksL_law_9 11 rfl rfl)
theorem dL_law_419 : decode cL_law 419 = .ok (.aload_n 1, 1) := dk_43 (dk_at dksL_law_9 12 rfl rfl)
theorem dL_law_420 : decode cL_law 420 = .ok (.invokevirtual 139, 3) := dk_182 0 139 (dk_at dksL_law_9 13 rfl rfl)
theorem dL_law_423 : decode cL_law 423 = .ok (.aload_n 2, 1) := dk_44 (dk_at dksL_law_9 16 rfl rfl)
theorem dL_law_424 : decode cL_law 424 = .ok (.invokevirtual 142, 3) := dk_182 0 142 (dk_at dksL_law_9 17 rfl rfl)
theorem dL_law_427 : decode cL_law 427 = .ok (.if_icmp .eq 2137, 3) := dk_159 8 89 (dk_at dksL_law_9 20 rfl rfl)
theorem dL_law_430 : decode cL_law 430 = .ok (.iconst 0, 1) := dk_3 (dk_at dksL_law_9 23 rfl rfl)
theorem dL_law_431 : decode cL_law 431 = .ok (.ireturn, 1) := dk_172 (dk_at dksL_law_10 0 rfl rfl)
theorem dL_law_432 : decode cL_law 432 = .ok (.aload_n 1, 1) := dk_43 (dk_at dksL_law_10 1 rfl rfl)
theorem dL_law_433 : decode cL_law 433 = .ok (.aload_n 0, 1) := dk_42 (dk_at dksL_law_10 2 rfl rfl)
theorem dL_law_434 : decode cL_law 434 = .ok (.iload 4, 2) := dk_21 4 (dk_at dksL_law_10 3 rfl rfl)
theorem dL_law_436 : decode cL_law 436 = .ok (.iconst 1, 1) := dk_4 (dk_at dksL_law_10 5 rfl rfl)
theorem dL_law_437 : decode cL_law 437 = .ok (.iadd, 1) := dk_96 (dk_at dksL_law_10 6 rfl rfl)
theorem dL_law_438 : decode cL_law 438 = .ok (.iaload, 1) := dk_46 (dk_at dksL_law_10 7 rfl rfl)
theorem dL_law_439 : decode cL_law 439 = .ok (.aload_n 3, 1) := dk_45 (dk_at dksL_law_10 8 rfl rfl)
theorem dL_law_440 : decode cL_law 440 = .ok (.invokestatic 143, 3) := dk_184 0 143 (dk_at dksL_law_10 9 rfl rfl)
theorem dL_law_443 : decode cL_law 443 = .ok (.istore 5, 2) := dk_54 5 (dk_at dksL_law_10 12 rfl rfl)
theorem dL_law_445 : decode cL_law 445 = .ok (.aload_n 2, 1) := dk_44 (dk_at dksL_law_10 14 rfl rfl)
theorem dL_law_446 : decode cL_law 446 = .ok (.aload_n 0, 1) := dk_42 (dk_at dksL_law_10 15 rfl rfl)
theorem dL_law_447 : decode cL_law 447 = .ok (.iload 4, 2) := dk_21 4 (dk_at dksL_law_10 16 rfl rfl)
theorem dL_law_449 : decode cL_law 449 = .ok (.iconst 1, 1) := dk_4 (dk_at dksL_law_10 18 rfl rfl)
theorem dL_law_450 : decode cL_law 450 = .ok (.iadd, 1) := dk_96 (dk_at dksL_law_10 19 rfl rfl)
theorem dL_law_451 : decode cL_law 451 = .ok (.iaload, 1) := dk_46 (dk_at dksL_law_10 20 rfl rfl)
theorem dL_law_452 : decode cL_law 452 = .ok (.invokevirtual 145, 3) := dk_182 0 145 (dk_at dksL_law_10 21 rfl rfl)
theorem dL_law_455 : decode cL_law 455 = .ok (.istore 6, 2) := dk_54 6 (dk_at dksL_law_11 0 rfl rfl)
theorem dL_law_457 : decode cL_law 457 = .ok (.aload_n 2, 1) := dk_44 (dk_at dksL_law_11 2 rfl rfl)
theorem dL_law_458 : decode cL_law 458 = .ok (.invokevirtual 128, 3) := dk_182 0 128 (dk_at dksL_law_11 3 rfl rfl)
theorem dL_law_461 : decode cL_law 461 = .ok (.iload 5, 2) := dk_21 5 (dk_at dksL_law_11 6 rfl rfl)
theorem dL_law_463 : decode cL_law 463 = .ok (.if_icmp .eq 5, 3) := dk_159 0 5 (dk_at dksL_law_11 8 rfl rfl)
theorem dL_law_466 : decode cL_law 466 = .ok (.iconst 0, 1) := dk_3 (dk_at dksL_law_11 11 rfl rfl)
theorem dL_law_467 : decode cL_law 467 = .ok (.ireturn, 1) := dk_172 (dk_at dksL_law_11 12 rfl rfl)
theorem dL_law_468 : decode cL_law 468 = .ok (.iload 5, 2) := dk_21 5 (dk_at dksL_law_11 13 rfl rfl)
theorem dL_law_470 : decode cL_law 470 = .ok (.ifCond .ne 15, 3) := dk_154 0 15 (dk_at dksL_law_11 15 rfl rfl)
theorem dL_law_473 : decode cL_law 473 = .ok (.aload_n 3, 1) := dk_45 (dk_at dksL_law_11 18 rfl rfl)
theorem dL_law_474 : decode cL_law 474 = .ok (.iconst 0, 1) := dk_3 (dk_at dksL_law_11 19 rfl rfl)
theorem dL_law_475 : decode cL_law 475 = .ok (.laload, 1) := dk_47 (dk_at dksL_law_11 20 rfl rfl)
theorem dL_law_476 : decode cL_law 476 = .ok (.iload 6, 2) := dk_21 6 (dk_at dksL_law_11 21 rfl rfl)
theorem dL_law_478 : decode cL_law 478 = .ok (.i2l, 1) := dk_133 (dk_at dksL_law_11 23 rfl rfl)
theorem dL_law_479 : decode cL_law 479 = .ok (.lcmp, 1) := dk_148 (dk_at dksL_law_12 0 rfl rfl)
theorem dL_law_480 : decode cL_law 480 = .ok (.ifCond .eq 5, 3) := dk_153 0 5 (dk_at dksL_law_12 1 rfl rfl)
theorem dL_law_483 : decode cL_law 483 = .ok (.iconst 0, 1) := dk_3 (dk_at dksL_law_12 4 rfl rfl)
theorem dL_law_484 : decode cL_law 484 = .ok (.ireturn, 1) := dk_172 (dk_at dksL_law_12 5 rfl rfl)
theorem dL_law_485 : decode cL_law 485 = .ok (.goto 2079, 3) := dk_167 8 31 (dk_at dksL_law_12 6 rfl rfl)
theorem dL_law_488 : decode cL_law 488 = .ok (.aload_n 1, 1) := dk_43 (dk_at dksL_law_12 9 rfl rfl)
theorem dL_law_489 : decode cL_law 489 = .ok (.aload_n 0, 1) := dk_42 (dk_at dksL_law_12 10 rfl rfl)
theorem dL_law_490 : decode cL_law 490 = .ok (.iload 4, 2) := dk_21 4 (dk_at dksL_law_12 11 rfl rfl)
theorem dL_law_492 : decode cL_law 492 = .ok (.iconst 1, 1) := dk_4 (dk_at dksL_law_12 13 rfl rfl)
theorem dL_law_493 : decode cL_law 493 = .ok (.iadd, 1) := dk_96 (dk_at dksL_law_12 14 rfl rfl)
theorem dL_law_494 : decode cL_law 494 = .ok (.iaload, 1) := dk_46 (dk_at dksL_law_12 15 rfl rfl)
theorem dL_law_495 : decode cL_law 495 = .ok (.aload_n 3, 1) := dk_45 (dk_at dksL_law_12 16 rfl rfl)
theorem dL_law_496 : decode cL_law 496 = .ok (.invokestatic 146, 3) := dk_184 0 146 (dk_at dksL_law_12 17 rfl rfl)
theorem dL_law_499 : decode cL_law 499 = .ok (.istore 5, 2) := dk_54 5 (dk_at dksL_law_12 20 rfl rfl)
theorem dL_law_501 : decode cL_law 501 = .ok (.aload_n 2, 1) := dk_44 (dk_at dksL_law_12 22 rfl rfl)
theorem dL_law_502 : decode cL_law 502 = .ok (.aload_n 0, 1) := dk_42 (dk_at dksL_law_12 23 rfl rfl)
theorem dL_law_503 : decode cL_law 503 = .ok (.iload 4, 2) := dk_21 4 (dk_at dksL_law_13 0 rfl rfl)
theorem dL_law_505 : decode cL_law 505 = .ok (.iconst 1, 1) := dk_4 (dk_at dksL_law_13 2 rfl rfl)
theorem dL_law_506 : decode cL_law 506 = .ok (.iadd, 1) := dk_96 (dk_at dksL_law_13 3 rfl rfl)
theorem dL_law_507 : decode cL_law 507 = .ok (.iaload, 1) := dk_46 (dk_at dksL_law_13 4 rfl rfl)
theorem dL_law_508 : decode cL_law 508 = .ok (.invokevirtual 148, 3) := dk_182 0 148 (dk_at dksL_law_13 5 rfl rfl)
theorem dL_law_511 : decode cL_law 511 = .ok (.istore 6, 2) := dk_54 6 (dk_at dksL_law_13 8 rfl rfl)
theorem dL_law_513 : decode cL_law 513 = .ok (.aload_n 2, 1) := dk_44 (dk_at dksL_law_13 10 rfl rfl)
theorem dL_law_514 : decode cL_law 514 = .ok (.invokevirtual 128, 3) := dk_182 0 128 (dk_at dksL_law_13 11 rfl rfl)
theorem dL_law_517 : decode cL_law 517 = .ok (.iload 5, 2) := dk_21 5 (dk_at dksL_law_13 14 rfl rfl)
theorem dL_law_519 : decode cL_law 519 = .ok (.if_icmp .eq 5, 3) := dk_159 0 5 (dk_at dksL_law_13 16 rfl rfl)
theorem dL_law_522 : decode cL_law 522 = .ok (.iconst 0, 1) := dk_3 (dk_at dksL_law_13 19 rfl rfl)
theorem dL_law_523 : decode cL_law 523 = .ok (.ireturn, 1) := dk_172 (dk_at dksL_law_13 20 rfl rfl)
theorem dL_law_524 : decode cL_law 524 = .ok (.iload 5, 2) := dk_21 5 (dk_at dksL_law_13 21 rfl rfl)
theorem dL_law_526 : decode cL_law 526 = .ok (.ifCond .ne 15, 3) := dk_154 0 15 (dk_at dksL_law_14 0 rfl rfl)
theorem dL_law_529 : decode cL_law 529 = .ok (.aload_n 3, 1) := dk_45 (dk_at dksL_law_14 3 rfl rfl)
theorem dL_law_530 : decode cL_law 530 = .ok (.iconst 0, 1) := dk_3 (dk_at dksL_law_14 4 rfl rfl)
theorem dL_law_531 : decode cL_law 531 = .ok (.laload, 1) := dk_47 (dk_at dksL_law_14 5 rfl rfl)
theorem dL_law_532 : decode cL_law 532 = .ok (.iload 6, 2) := dk_21 6 (dk_at dksL_law_14 6 rfl rfl)
theorem dL_law_534 : decode cL_law 534 = .ok (.i2l, 1) := dk_133 (dk_at dksL_law_14 8 rfl rfl)
theorem dL_law_535 : decode cL_law 535 = .ok (.lcmp, 1) := dk_148 (dk_at dksL_law_14 9 rfl rfl)
theorem dL_law_536 : decode cL_law 536 = .ok (.ifCond .eq 5, 3) := dk_153 0 5 (dk_at dksL_law_14 10 rfl rfl)
theorem dL_law_539 : decode cL_law 539 = .ok (.iconst 0, 1) := dk_3 (dk_at dksL_law_14 13 rfl rfl)
theorem dL_law_540 : decode cL_law 540 = .ok (.ireturn, 1) := dk_172 (dk_at dksL_law_14 14 rfl rfl)
theorem dL_law_541 : decode cL_law 541 = .ok (.goto 2023, 3) := dk_167 7 231 (dk_at dksL_law_14 15 rfl rfl)
theorem dL_law_544 : decode cL_law 544 = .ok (.aload_n 1, 1) := dk_43 (dk_at dksL_law_14 18 rfl rfl)
theorem dL_law_545 : decode cL_law 545 = .ok (.aload_n 0, 1) := dk_42 (dk_at dksL_law_14 19 rfl rfl)
theorem dL_law_546 : decode cL_law 546 = .ok (.iload 4, 2) := dk_21 4 (dk_at dksL_law_14 20 rfl rfl)
theorem dL_law_548 : decode cL_law 548 = .ok (.iconst 1, 1) := dk_4 (dk_at dksL_law_14 22 rfl rfl)
theorem dL_law_549 : decode cL_law 549 = .ok (.iadd, 1) := dk_96 (dk_at dksL_law_14 23 rfl rfl)
theorem dL_law_550 : decode cL_law 550 = .ok (.iaload, 1) := dk_46 (dk_at dksL_law_15 0 rfl rfl)
theorem dL_law_551 : decode cL_law 551 = .ok (.aload_n 3, 1) := dk_45 (dk_at dksL_law_15 1 rfl rfl)
theorem dL_law_552 : decode cL_law 552 = .ok (.invokestatic 149, 3) := dk_184 0 149 (dk_at dksL_law_15 2 rfl rfl)
theorem dL_law_555 : decode cL_law 555 = .ok (.istore 5, 2) := dk_54 5 (dk_at dksL_law_15 5 rfl rfl)
theorem dL_law_557 : decode cL_law 557 = .ok (.aload_n 2, 1) := dk_44 (dk_at dksL_law_15 7 rfl rfl)
theorem dL_law_558 : decode cL_law 558 = .ok (.aload_n 0, 1) := dk_42 (dk_at dksL_law_15 8 rfl rfl)
theorem dL_law_559 : decode cL_law 559 = .ok (.iload 4, 2) := dk_21 4 (dk_at dksL_law_15 9 rfl rfl)
theorem dL_law_561 : decode cL_law 561 = .ok (.iconst 1, 1) := dk_4 (dk_at dksL_law_15 11 rfl rfl)
theorem dL_law_562 : decode cL_law 562 = .ok (.iadd, 1) := dk_96 (dk_at dksL_law_15 12 rfl rfl)
theorem dL_law_563 : decode cL_law 563 = .ok (.iaload, 1) := dk_46 (dk_at dksL_law_15 13 rfl rfl)
theorem dL_law_564 : decode cL_law 564 = .ok (.invokevirtual 151, 3) := dk_182 0 151 (dk_at dksL_law_15 14 rfl rfl)
theorem dL_law_567 : decode cL_law 567 = .ok (.istore 6, 2) := dk_54 6 (dk_at dksL_law_15 17 rfl rfl)
theorem dL_law_569 : decode cL_law 569 = .ok (.aload_n 2, 1) := dk_44 (dk_at dksL_law_15 19 rfl rfl)
theorem dL_law_570 : decode cL_law 570 = .ok (.invokevirtual 128, 3) := dk_182 0 128 (dk_at dksL_law_15 20 rfl rfl)
theorem dL_law_573 : decode cL_law 573 = .ok (.iload 5, 2) := dk_21 5 (dk_at dksL_law_16 0 rfl rfl)
theorem dL_law_575 : decode cL_law 575 = .ok (.if_icmp .eq 5, 3) := dk_159 0 5 (dk_at dksL_law_16 2 rfl rfl)
theorem dL_law_578 : decode cL_law 578 = .ok (.iconst 0, 1) := dk_3 (dk_at dksL_law_16 5 rfl rfl)
theorem dL_law_579 : decode cL_law 579 = .ok (.ireturn, 1) := dk_172 (dk_at dksL_law_16 6 rfl rfl)
theorem dL_law_580 : decode cL_law 580 = .ok (.iload 5, 2) := dk_21 5 (dk_at dksL_law_16 7 rfl rfl)
theorem dL_law_582 : decode cL_law 582 = .ok (.ifCond .ne 15, 3) := dk_154 0 15 (dk_at dksL_law_16 9 rfl rfl)
theorem dL_law_585 : decode cL_law 585 = .ok (.aload_n 3, 1) := dk_45 (dk_at dksL_law_16 12 rfl rfl)
theorem dL_law_586 : decode cL_law 586 = .ok (.iconst 0, 1) := dk_3 (dk_at dksL_law_16 13 rfl rfl)
theorem dL_law_587 : decode cL_law 587 = .ok (.laload, 1) := dk_47 (dk_at dksL_law_16 14 rfl rfl)
theorem dL_law_588 : decode cL_law 588 = .ok (.iload 6, 2) := dk_21 6 (dk_at dksL_law_16 15 rfl rfl)
theorem dL_law_590 : decode cL_law 590 = .ok (.i2l, 1) := dk_133 (dk_at dksL_law_16 17 rfl rfl)
theorem dL_law_591 : decode cL_law 591 = .ok (.lcmp, 1) := dk_148 (dk_at dksL_law_16 18 rfl rfl)
theorem dL_law_592 : decode cL_law 592 = .ok (.ifCond .eq 5, 3) := dk_153 0 5 (dk_at dksL_law_16 19 rfl rfl)
theorem dL_law_595 : decode cL_law 595 = .ok (.iconst 0, 1) := dk_3 (dk_at dksL_law_16 22 rfl rfl)
theorem dL_law_596 : decode cL_law 596 = .ok (.ireturn, 1) := dk_172 (dk_at dksL_law_16 23 rfl rfl)
theorem dL_law_597 : decode cL_law 597 = .ok (.goto 1967, 3) := dk_167 7 175 (dk_at dksL_law_17 0 rfl rfl)
theorem dL_law_600 : decode cL_law 600 = .ok (.aload_n 1, 1) := dk_43 (dk_at dksL_law_17 3 rfl rfl)
theorem dL_law_601 : decode cL_law 601 = .ok (.invokevirtual 152, 3) := dk_182 0 152 (dk_at dksL_law_17 4 rfl rfl)
theorem dL_law_604 : decode cL_law 604 = .ok (.aload_n 2, 1) := dk_44 (dk_at dksL_law_17 7 rfl rfl)
theorem dL_law_605 : decode cL_law 605 = .ok (.invokevirtual 155, 3) := dk_182 0 155 (dk_at dksL_law_17 8 rfl rfl)
theorem dL_law_608 : decode cL_law 608 = .ok (.if_icmp .eq 1956, 3) := dk_159 7 164 (dk_at dksL_law_17 11 rfl rfl)
theorem dL_law_611 : decode cL_law 611 = .ok (.iconst 0, 1) := dk_3 (dk_at dksL_law_17 14 rfl rfl)
theorem dL_law_612 : decode cL_law 612 = .ok (.ireturn, 1) := dk_172 (dk_at dksL_law_17 15 rfl rfl)
theorem dL_law_613 : decode cL_law 613 = .ok (.aload_n 1, 1) := dk_43 (dk_at dksL_law_17 16 rfl rfl)
theorem dL_law_614 : decode cL_law 614 = .ok (.invokevirtual 156, 3) := dk_182 0 156 (dk_at dksL_law_17 17 rfl rfl)
theorem dL_law_617 : decode cL_law 617 = .ok (.f2d, 1) := dk_141 (dk_at dksL_law_17 20 rfl rfl)
theorem dL_law_618 : decode cL_law 618 = .ok (.dstore 5, 2) := dk_57 5 (dk_at dksL_law_17 21 rfl rfl)
theorem dL_law_620 : decode cL_law 620 = .ok (.aload_n 2, 1) := dk_44 (dk_at dksL_law_17 23 rfl rfl)
theorem dL_law_621 : decode cL_law 621 = .ok (.invokevirtual 160, 3) := dk_182 0 160 (dk_at dksL_law_18 0 rfl rfl)
theorem dL_law_624 : decode cL_law 624 = .ok (.f2d, 1) := dk_141 (dk_at dksL_law_18 3 rfl rfl)
theorem dL_law_625 : decode cL_law 625 = .ok (.dstore 7, 2) := dk_57 7 (dk_at dksL_law_18 4 rfl rfl)
theorem dL_law_627 : decode cL_law 627 = .ok (.dload 5, 2) := dk_24 5 (dk_at dksL_law_18 6 rfl rfl)
theorem dL_law_629 : decode cL_law 629 = .ok (.dload 7, 2) := dk_24 7 (dk_at dksL_law_18 8 rfl rfl)
theorem dL_law_631 : decode cL_law 631 = .ok (.dcmp .l, 1) := dk_151 (dk_at dksL_law_18 10 rfl rfl)
theorem dL_law_632 : decode cL_law 632 = .ok (.ifCond .eq 21, 3) := dk_153 0 21 (dk_at dksL_law_18 11 rfl rfl)
theorem dL_law_635 : decode cL_law 635 = .ok (.dload 5, 2) := dk_24 5 (dk_at dksL_law_18 14 rfl rfl)
theorem dL_law_637 : decode cL_law 637 = .ok (.dload 5, 2) := dk_24 5 (dk_at dksL_law_18 16 rfl rfl)
theorem dL_law_639 : decode cL_law 639 = .ok (.dcmp .l, 1) := dk_151 (dk_at dksL_law_18 18 rfl rfl)
theorem dL_law_640 : decode cL_law 640 = .ok (.ifCond .eq 11, 3) := dk_153 0 11 (dk_at dksL_law_18 19 rfl rfl)
theorem dL_law_643 : decode cL_law 643 = .ok (.dload 7, 2) := dk_24 7 (dk_at dksL_law_18 22 rfl rfl)
theorem dL_law_645 : decode cL_law 645 = .ok (.dload 7, 2) := dk_24 7 (dk_at dksL_law_19 0 rfl rfl)
theorem dL_law_647 : decode cL_law 647 = .ok (.dcmp .l, 1) := dk_151 (dk_at dksL_law_19 2 rfl rfl)
theorem dL_law_648 : decode cL_law 648 = .ok (.ifCond .ne 5, 3) := dk_154 0 5 (dk_at dksL_law_19 3 rfl rfl)
theorem dL_law_651 : decode cL_law 651 = .ok (.iconst 0, 1) := dk_3 (dk_at dksL_law_19 6 rfl rfl)
theorem dL_law_652 : decode cL_law 652 = .ok (.ireturn, 1) := dk_172 (dk_at dksL_law_19 7 rfl rfl)
theorem dL_law_653 : decode cL_law 653 = .ok (.goto 1911, 3) := dk_167 7 119 (dk_at dksL_law_19 8 rfl rfl)
theorem dL_law_656 : decode cL_law 656 = .ok (.aload_n 1, 1) := dk_43 (dk_at dksL_law_19 11 rfl rfl)
theorem dL_law_657 : decode cL_law 657 = .ok (.invokevirtual 161, 3) := dk_182 0 161 (dk_at dksL_law_19 12 rfl rfl)
theorem dL_law_660 : decode cL_law 660 = .ok (.aload_n 2, 1) := dk_44 (dk_at dksL_law_19 15 rfl rfl)
theorem dL_law_661 : decode cL_law 661 = .ok (.invokevirtual 164, 3) := dk_182 0 164 (dk_at dksL_law_19 16 rfl rfl)
theorem dL_law_664 : decode cL_law 664 = .ok (.if_icmp .eq 1900, 3) := dk_159 7 108 (dk_at dksL_law_19 19 rfl rfl)
theorem dL_law_667 : decode cL_law 667 = .ok (.iconst 0, 1) := dk_3 (dk_at dksL_law_19 22 rfl rfl)
theorem dL_law_668 : decode cL_law 668 = .ok (.ireturn, 1) := dk_172 (dk_at dksL_law_19 23 rfl rfl)
theorem dL_law_669 : decode cL_law 669 = .ok (.aload_n 1, 1) := dk_43 (dk_at dksL_law_20 0 rfl rfl)
theorem dL_law_670 : decode cL_law 670 = .ok (.aload_n 0, 1) := dk_42 (dk_at dksL_law_20 1 rfl rfl)
theorem dL_law_671 : decode cL_law 671 = .ok (.iload 4, 2) := dk_21 4 (dk_at dksL_law_20 2 rfl rfl)
theorem dL_law_673 : decode cL_law 673 = .ok (.iconst 1, 1) := dk_4 (dk_at dksL_law_20 4 rfl rfl)
theorem dL_law_674 : decode cL_law 674 = .ok (.iadd, 1) := dk_96 (dk_at dksL_law_20 5 rfl rfl)
theorem dL_law_675 : decode cL_law 675 = .ok (.iaload, 1) := dk_46 (dk_at dksL_law_20 6 rfl rfl)
theorem dL_law_676 : decode cL_law 676 = .ok (.aload_n 0, 1) := dk_42 (dk_at dksL_law_20 7 rfl rfl)
theorem dL_law_677 : decode cL_law 677 = .ok (.iload 4, 2) := dk_21 4 (dk_at dksL_law_20 8 rfl rfl)
theorem dL_law_679 : decode cL_law 679 = .ok (.iconst 2, 1) := dk_5 (dk_at dksL_law_20 10 rfl rfl)
theorem dL_law_680 : decode cL_law 680 = .ok (.iadd, 1) := dk_96 (dk_at dksL_law_20 11 rfl rfl)
theorem dL_law_681 : decode cL_law 681 = .ok (.iaload, 1) := dk_46 (dk_at dksL_law_20 12 rfl rfl)
theorem dL_law_682 : decode cL_law 682 = .ok (.aload_n 3, 1) := dk_45 (dk_at dksL_law_20 13 rfl rfl)
theorem dL_law_683 : decode cL_law 683 = .ok (.invokestatic 165, 3) := dk_184 0 165 (dk_at dksL_law_20 14 rfl rfl)
theorem dL_law_686 : decode cL_law 686 = .ok (.istore 5, 2) := dk_54 5 (dk_at dksL_law_20 17 rfl rfl)
theorem dL_law_688 : decode cL_law 688 = .ok (.aload_n 2, 1) := dk_44 (dk_at dksL_law_20 19 rfl rfl)
theorem dL_law_689 : decode cL_law 689 = .ok (.aload_n 0, 1) := dk_42 (dk_at dksL_law_20 20 rfl rfl)
theorem dL_law_690 : decode cL_law 690 = .ok (.iload 4, 2) := dk_21 4 (dk_at dksL_law_20 21 rfl rfl)
theorem dL_law_692 : decode cL_law 692 = .ok (.iconst 1, 1) := dk_4 (dk_at dksL_law_20 23 rfl rfl)
theorem dL_law_693 : decode cL_law 693 = .ok (.iadd, 1) := dk_96 (dk_at dksL_law_21 0 rfl rfl)
theorem dL_law_694 : decode cL_law 694 = .ok (.iaload, 1) := dk_46 (dk_at dksL_law_21 1 rfl rfl)
theorem dL_law_695 : decode cL_law 695 = .ok (.aload_n 0, 1) := dk_42 (dk_at dksL_law_21 2 rfl rfl)
theorem dL_law_696 : decode cL_law 696 = .ok (.iload 4, 2) := dk_21 4 (dk_at dksL_law_21 3 rfl rfl)
theorem dL_law_698 : decode cL_law 698 = .ok (.iconst 2, 1) := dk_5 (dk_at dksL_law_21 5 rfl rfl)
theorem dL_law_699 : decode cL_law 699 = .ok (.iadd, 1) := dk_96 (dk_at dksL_law_21 6 rfl rfl)
theorem dL_law_700 : decode cL_law 700 = .ok (.iaload, 1) := dk_46 (dk_at dksL_law_21 7 rfl rfl)
theorem dL_law_701 : decode cL_law 701 = .ok (.invokevirtual 168, 3) := dk_182 0 168 (dk_at dksL_law_21 8 rfl rfl)
theorem dL_law_704 : decode cL_law 704 = .ok (.istore 6, 2) := dk_54 6 (dk_at dksL_law_21 11 rfl rfl)
theorem dL_law_706 : decode cL_law 706 = .ok (.aload_n 2, 1) := dk_44 (dk_at dksL_law_21 13 rfl rfl)
theorem dL_law_707 : decode cL_law 707 = .ok (.invokevirtual 128, 3) := dk_182 0 128 (dk_at dksL_law_21 14 rfl rfl)
theorem dL_law_710 : decode cL_law 710 = .ok (.iload 5, 2) := dk_21 5 (dk_at dksL_law_21 17 rfl rfl)
theorem dL_law_712 : decode cL_law 712 = .ok (.if_icmp .eq 5, 3) := dk_159 0 5 (dk_at dksL_law_21 19 rfl rfl)
theorem dL_law_715 : decode cL_law 715 = .ok (.iconst 0, 1) := dk_3 (dk_at dksL_law_21 22 rfl rfl)
theorem dL_law_716 : decode cL_law 716 = .ok (.ireturn, 1) := dk_172 (dk_at dksL_law_21 23 rfl rfl)
theorem dL_law_717 : decode cL_law 717 = .ok (.iload 5, 2) := dk_21 5 (dk_at dksL_law_22 0 rfl rfl)
theorem dL_law_719 : decode cL_law 719 = .ok (.ifCond .ne 15, 3) := dk_154 0 15 (dk_at dksL_law_22 2 rfl rfl)
theorem dL_law_722 : decode cL_law 722 = .ok (.aload_n 3, 1) := dk_45 (dk_at dksL_law_22 5 rfl rfl)
theorem dL_law_723 : decode cL_law 723 = .ok (.iconst 0, 1) := dk_3 (dk_at dksL_law_22 6 rfl rfl)
theorem dL_law_724 : decode cL_law 724 = .ok (.laload, 1) := dk_47 (dk_at dksL_law_22 7 rfl rfl)
theorem dL_law_725 : decode cL_law 725 = .ok (.iload 6, 2) := dk_21 6 (dk_at dksL_law_22 8 rfl rfl)
theorem dL_law_727 : decode cL_law 727 = .ok (.i2l, 1) := dk_133 (dk_at dksL_law_22 10 rfl rfl)
theorem dL_law_728 : decode cL_law 728 = .ok (.lcmp, 1) := dk_148 (dk_at dksL_law_22 11 rfl rfl)
theorem dL_law_729 : decode cL_law 729 = .ok (.ifCond .eq 5, 3) := dk_153 0 5 (dk_at dksL_law_22 12 rfl rfl)
theorem dL_law_732 : decode cL_law 732 = .ok (.iconst 0, 1) := dk_3 (dk_at dksL_law_22 15 rfl rfl)
theorem dL_law_733 : decode cL_law 733 = .ok (.ireturn, 1) := dk_172 (dk_at dksL_law_22 16 rfl rfl)
theorem dL_law_734 : decode cL_law 734 = .ok (.goto 1830, 3) := dk_167 7 38 (dk_at dksL_law_22 17 rfl rfl)
theorem dL_law_737 : decode cL_law 737 = .ok (.aload_n 1, 1) := dk_43 (dk_at dksL_law_22 20 rfl rfl)
theorem dL_law_738 : decode cL_law 738 = .ok (.aload_n 0, 1) := dk_42 (dk_at dksL_law_22 21 rfl rfl)
theorem dL_law_739 : decode cL_law 739 = .ok (.iload 4, 2) := dk_21 4 (dk_at dksL_law_22 22 rfl rfl)
theorem dL_law_741 : decode cL_law 741 = .ok (.iconst 1, 1) := dk_4 (dk_at dksL_law_23 0 rfl rfl)
theorem dL_law_742 : decode cL_law 742 = .ok (.iadd, 1) := dk_96 (dk_at dksL_law_23 1 rfl rfl)
theorem dL_law_743 : decode cL_law 743 = .ok (.iaload, 1) := dk_46 (dk_at dksL_law_23 2 rfl rfl)
theorem dL_law_744 : decode cL_law 744 = .ok (.aload_n 0, 1) := dk_42 (dk_at dksL_law_23 3 rfl rfl)
theorem dL_law_745 : decode cL_law 745 = .ok (.iload 4, 2) := dk_21 4 (dk_at dksL_law_23 4 rfl rfl)
theorem dL_law_747 : decode cL_law 747 = .ok (.iconst 2, 1) := dk_5 (dk_at dksL_law_23 6 rfl rfl)
theorem dL_law_748 : decode cL_law 748 = .ok (.iadd, 1) := dk_96 (dk_at dksL_law_23 7 rfl rfl)
theorem dL_law_749 : decode cL_law 749 = .ok (.iaload, 1) := dk_46 (dk_at dksL_law_23 8 rfl rfl)
theorem dL_law_750 : decode cL_law 750 = .ok (.aload_n 3, 1) := dk_45 (dk_at dksL_law_23 9 rfl rfl)
theorem dL_law_751 : decode cL_law 751 = .ok (.invokestatic 169, 3) := dk_184 0 169 (dk_at dksL_law_23 10 rfl rfl)
theorem dL_law_754 : decode cL_law 754 = .ok (.istore 5, 2) := dk_54 5 (dk_at dksL_law_23 13 rfl rfl)
theorem dL_law_756 : decode cL_law 756 = .ok (.aload_n 2, 1) := dk_44 (dk_at dksL_law_23 15 rfl rfl)
theorem dL_law_757 : decode cL_law 757 = .ok (.aload_n 0, 1) := dk_42 (dk_at dksL_law_23 16 rfl rfl)
theorem dL_law_758 : decode cL_law 758 = .ok (.iload 4, 2) := dk_21 4 (dk_at dksL_law_23 17 rfl rfl)
theorem dL_law_760 : decode cL_law 760 = .ok (.iconst 1, 1) := dk_4 (dk_at dksL_law_23 19 rfl rfl)
theorem dL_law_761 : decode cL_law 761 = .ok (.iadd, 1) := dk_96 (dk_at dksL_law_23 20 rfl rfl)
theorem dL_law_762 : decode cL_law 762 = .ok (.iaload, 1) := dk_46 (dk_at dksL_law_23 21 rfl rfl)
theorem dL_law_763 : decode cL_law 763 = .ok (.aload_n 0, 1) := dk_42 (dk_at dksL_law_23 22 rfl rfl)
theorem dL_law_764 : decode cL_law 764 = .ok (.iload 4, 2) := dk_21 4 (dk_at dksL_law_24 0 rfl rfl)
theorem dL_law_766 : decode cL_law 766 = .ok (.iconst 2, 1) := dk_5 (dk_at dksL_law_24 2 rfl rfl)
theorem dL_law_767 : decode cL_law 767 = .ok (.iadd, 1) := dk_96 (dk_at dksL_law_24 3 rfl rfl)
theorem dL_law_768 : decode cL_law 768 = .ok (.iaload, 1) := dk_46 (dk_at dksL_law_24 4 rfl rfl)
theorem dL_law_769 : decode cL_law 769 = .ok (.invokevirtual 171, 3) := dk_182 0 171 (dk_at dksL_law_24 5 rfl rfl)
theorem dL_law_772 : decode cL_law 772 = .ok (.istore 6, 2) := dk_54 6 (dk_at dksL_law_24 8 rfl rfl)
theorem dL_law_774 : decode cL_law 774 = .ok (.aload_n 2, 1) := dk_44 (dk_at dksL_law_24 10 rfl rfl)
theorem dL_law_775 : decode cL_law 775 = .ok (.invokevirtual 128, 3) := dk_182 0 128 (dk_at dksL_law_24 11 rfl rfl)
theorem dL_law_778 : decode cL_law 778 = .ok (.iload 5, 2) := dk_21 5 (dk_at dksL_law_24 14 rfl rfl)
theorem dL_law_780 : decode cL_law 780 = .ok (.if_icmp .eq 5, 3) := dk_159 0 5 (dk_at dksL_law_24 16 rfl rfl)
theorem dL_law_783 : decode cL_law 783 = .ok (.iconst 0, 1) := dk_3 (dk_at dksL_law_24 19 rfl rfl)
theorem dL_law_784 : decode cL_law 784 = .ok (.ireturn, 1) := dk_172 (dk_at dksL_law_24 20 rfl rfl)
theorem dL_law_785 : decode cL_law 785 = .ok (.iload 5, 2) := dk_21 5 (dk_at dksL_law_24 21 rfl rfl)
theorem dL_law_787 : decode cL_law 787 = .ok (.ifCond .ne 15, 3) := dk_154 0 15 (dk_at dksL_law_25 0 rfl rfl)
theorem dL_law_790 : decode cL_law 790 = .ok (.aload_n 3, 1) := dk_45 (dk_at dksL_law_25 3 rfl rfl)
theorem dL_law_791 : decode cL_law 791 = .ok (.iconst 0, 1) := dk_3 (dk_at dksL_law_25 4 rfl rfl)
theorem dL_law_792 : decode cL_law 792 = .ok (.laload, 1) := dk_47 (dk_at dksL_law_25 5 rfl rfl)
theorem dL_law_793 : decode cL_law 793 = .ok (.iload 6, 2) := dk_21 6 (dk_at dksL_law_25 6 rfl rfl)
theorem dL_law_795 : decode cL_law 795 = .ok (.i2l, 1) := dk_133 (dk_at dksL_law_25 8 rfl rfl)
theorem dL_law_796 : decode cL_law 796 = .ok (.lcmp, 1) := dk_148 (dk_at dksL_law_25 9 rfl rfl)
theorem dL_law_797 : decode cL_law 797 = .ok (.ifCond .eq 5, 3) := dk_153 0 5 (dk_at dksL_law_25 10 rfl rfl)
theorem dL_law_800 : decode cL_law 800 = .ok (.iconst 0, 1) := dk_3 (dk_at dksL_law_25 13 rfl rfl)
theorem dL_law_801 : decode cL_law 801 = .ok (.ireturn, 1) := dk_172 (dk_at dksL_law_25 14 rfl rfl)
theorem dL_law_802 : decode cL_law 802 = .ok (.goto 1762, 3) := dk_167 6 226 (dk_at dksL_law_25 15 rfl rfl)
theorem dL_law_805 : decode cL_law 805 = .ok (.aload_n 1, 1) := dk_43 (dk_at dksL_law_25 18 rfl rfl)
theorem dL_law_806 : decode cL_law 806 = .ok (.aload_n 0, 1) := dk_42 (dk_at dksL_law_25 19 rfl rfl)
theorem dL_law_807 : decode cL_law 807 = .ok (.iload 4, 2) := dk_21 4 (dk_at dksL_law_25 20 rfl rfl)
theorem dL_law_809 : decode cL_law 809 = .ok (.iconst 1, 1) := dk_4 (dk_at dksL_law_25 22 rfl rfl)
theorem dL_law_810 : decode cL_law 810 = .ok (.iadd, 1) := dk_96 (dk_at dksL_law_25 23 rfl rfl)
theorem dL_law_811 : decode cL_law 811 = .ok (.iaload, 1) := dk_46 (dk_at dksL_law_26 0 rfl rfl)
theorem dL_law_812 : decode cL_law 812 = .ok (.aload_n 0, 1) := dk_42 (dk_at dksL_law_26 1 rfl rfl)
theorem dL_law_813 : decode cL_law 813 = .ok (.iload 4, 2) := dk_21 4 (dk_at dksL_law_26 2 rfl rfl)
theorem dL_law_815 : decode cL_law 815 = .ok (.iconst 2, 1) := dk_5 (dk_at dksL_law_26 4 rfl rfl)
theorem dL_law_816 : decode cL_law 816 = .ok (.iadd, 1) := dk_96 (dk_at dksL_law_26 5 rfl rfl)
theorem dL_law_817 : decode cL_law 817 = .ok (.iaload, 1) := dk_46 (dk_at dksL_law_26 6 rfl rfl)
theorem dL_law_818 : decode cL_law 818 = .ok (.aload_n 3, 1) := dk_45 (dk_at dksL_law_26 7 rfl rfl)
theorem dL_law_819 : decode cL_law 819 = .ok (.invokestatic 172, 3) := dk_184 0 172 (dk_at dksL_law_26 8 rfl rfl)
theorem dL_law_822 : decode cL_law 822 = .ok (.istore 5, 2) := dk_54 5 (dk_at dksL_law_26 11 rfl rfl)
theorem dL_law_824 : decode cL_law 824 = .ok (.aload_n 2, 1) := dk_44 (dk_at dksL_law_26 13 rfl rfl)
theorem dL_law_825 : decode cL_law 825 = .ok (.aload_n 0, 1) := dk_42 (dk_at dksL_law_26 14 rfl rfl)
theorem dL_law_826 : decode cL_law 826 = .ok (.iload 4, 2) := dk_21 4 (dk_at dksL_law_26 15 rfl rfl)
theorem dL_law_828 : decode cL_law 828 = .ok (.iconst 1, 1) := dk_4 (dk_at dksL_law_26 17 rfl rfl)
theorem dL_law_829 : decode cL_law 829 = .ok (.iadd, 1) := dk_96 (dk_at dksL_law_26 18 rfl rfl)
theorem dL_law_830 : decode cL_law 830 = .ok (.iaload, 1) := dk_46 (dk_at dksL_law_26 19 rfl rfl)
theorem dL_law_831 : decode cL_law 831 = .ok (.aload_n 0, 1) := dk_42 (dk_at dksL_law_26 20 rfl rfl)
theorem dL_law_832 : decode cL_law 832 = .ok (.iload 4, 2) := dk_21 4 (dk_at dksL_law_26 21 rfl rfl)
theorem dL_law_834 : decode cL_law 834 = .ok (.iconst 2, 1) := dk_5 (dk_at dksL_law_26 23 rfl rfl)
theorem dL_law_835 : decode cL_law 835 = .ok (.iadd, 1) := dk_96 (dk_at dksL_law_27 0 rfl rfl)
theorem dL_law_836 : decode cL_law 836 = .ok (.iaload, 1) := dk_46 (dk_at dksL_law_27 1 rfl rfl)
theorem dL_law_837 : decode cL_law 837 = .ok (.invokevirtual 174, 3) := dk_182 0 174 (dk_at dksL_law_27 2 rfl rfl)
theorem dL_law_840 : decode cL_law 840 = .ok (.istore 6, 2) := dk_54 6 (dk_at dksL_law_27 5 rfl rfl)
theorem dL_law_842 : decode cL_law 842 = .ok (.aload_n 2, 1) := dk_44 (dk_at dksL_law_27 7 rfl rfl)
theorem dL_law_843 : decode cL_law 843 = .ok (.invokevirtual 128, 3) := dk_182 0 128 (dk_at dksL_law_27 8 rfl rfl)
theorem dL_law_846 : decode cL_law 846 = .ok (.iload 5, 2) := dk_21 5 (dk_at dksL_law_27 11 rfl rfl)
theorem dL_law_848 : decode cL_law 848 = .ok (.if_icmp .eq 5, 3) := dk_159 0 5 (dk_at dksL_law_27 13 rfl rfl)
theorem dL_law_851 : decode cL_law 851 = .ok (.iconst 0, 1) := dk_3 (dk_at dksL_law_27 16 rfl rfl)
theorem dL_law_852 : decode cL_law 852 = .ok (.ireturn, 1) := dk_172 (dk_at dksL_law_27 17 rfl rfl)
theorem dL_law_853 : decode cL_law 853 = .ok (.iload 5, 2) := dk_21 5 (dk_at dksL_law_27 18 rfl rfl)
theorem dL_law_855 : decode cL_law 855 = .ok (.ifCond .ne 15, 3) := dk_154 0 15 (dk_at dksL_law_27 20 rfl rfl)
theorem dL_law_858 : decode cL_law 858 = .ok (.aload_n 3, 1) := dk_45 (dk_at dksL_law_27 23 rfl rfl)
theorem dL_law_859 : decode cL_law 859 = .ok (.iconst 0, 1) := dk_3 (dk_at dksL_law_28 0 rfl rfl)
theorem dL_law_860 : decode cL_law 860 = .ok (.laload, 1) := dk_47 (dk_at dksL_law_28 1 rfl rfl)
theorem dL_law_861 : decode cL_law 861 = .ok (.iload 6, 2) := dk_21 6 (dk_at dksL_law_28 2 rfl rfl)
theorem dL_law_863 : decode cL_law 863 = .ok (.i2l, 1) := dk_133 (dk_at dksL_law_28 4 rfl rfl)
theorem dL_law_864 : decode cL_law 864 = .ok (.lcmp, 1) := dk_148 (dk_at dksL_law_28 5 rfl rfl)
theorem dL_law_865 : decode cL_law 865 = .ok (.ifCond .eq 5, 3) := dk_153 0 5 (dk_at dksL_law_28 6 rfl rfl)
theorem dL_law_868 : decode cL_law 868 = .ok (.iconst 0, 1) := dk_3 (dk_at dksL_law_28 9 rfl rfl)
theorem dL_law_869 : decode cL_law 869 = .ok (.ireturn, 1) := dk_172 (dk_at dksL_law_28 10 rfl rfl)
theorem dL_law_870 : decode cL_law 870 = .ok (.goto 1694, 3) := dk_167 6 158 (dk_at dksL_law_28 11 rfl rfl)
theorem dL_law_873 : decode cL_law 873 = .ok (.aload_n 1, 1) := dk_43 (dk_at dksL_law_28 14 rfl rfl)
theorem dL_law_874 : decode cL_law 874 = .ok (.aload_n 0, 1) := dk_42 (dk_at dksL_law_28 15 rfl rfl)
theorem dL_law_875 : decode cL_law 875 = .ok (.iload 4, 2) := dk_21 4 (dk_at dksL_law_28 16 rfl rfl)
theorem dL_law_877 : decode cL_law 877 = .ok (.iconst 1, 1) := dk_4 (dk_at dksL_law_28 18 rfl rfl)
theorem dL_law_878 : decode cL_law 878 = .ok (.iadd, 1) := dk_96 (dk_at dksL_law_28 19 rfl rfl)
theorem dL_law_879 : decode cL_law 879 = .ok (.iaload, 1) := dk_46 (dk_at dksL_law_28 20 rfl rfl)
theorem dL_law_880 : decode cL_law 880 = .ok (.aload_n 3, 1) := dk_45 (dk_at dksL_law_28 21 rfl rfl)
theorem dL_law_881 : decode cL_law 881 = .ok (.invokestatic 175, 3) := dk_184 0 175 (dk_at dksL_law_29 0 rfl rfl)
theorem dL_law_884 : decode cL_law 884 = .ok (.istore 5, 2) := dk_54 5 (dk_at dksL_law_29 3 rfl rfl)
theorem dL_law_886 : decode cL_law 886 = .ok (.aload_n 2, 1) := dk_44 (dk_at dksL_law_29 5 rfl rfl)
theorem dL_law_887 : decode cL_law 887 = .ok (.aload_n 0, 1) := dk_42 (dk_at dksL_law_29 6 rfl rfl)
theorem dL_law_888 : decode cL_law 888 = .ok (.iload 4, 2) := dk_21 4 (dk_at dksL_law_29 7 rfl rfl)
theorem dL_law_890 : decode cL_law 890 = .ok (.iconst 1, 1) := dk_4 (dk_at dksL_law_29 9 rfl rfl)
theorem dL_law_891 : decode cL_law 891 = .ok (.iadd, 1) := dk_96 (dk_at dksL_law_29 10 rfl rfl)
theorem dL_law_892 : decode cL_law 892 = .ok (.iaload, 1) := dk_46 (dk_at dksL_law_29 11 rfl rfl)
theorem dL_law_893 : decode cL_law 893 = .ok (.invokevirtual 177, 3) := dk_182 0 177 (dk_at dksL_law_29 12 rfl rfl)
theorem dL_law_896 : decode cL_law 896 = .ok (.istore 6, 2) := dk_54 6 (dk_at dksL_law_29 15 rfl rfl)
theorem dL_law_898 : decode cL_law 898 = .ok (.aload_n 2, 1) := dk_44 (dk_at dksL_law_29 17 rfl rfl)
theorem dL_law_899 : decode cL_law 899 = .ok (.invokevirtual 128, 3) := dk_182 0 128 (dk_at dksL_law_29 18 rfl rfl)
theorem dL_law_902 : decode cL_law 902 = .ok (.iload 5, 2) := dk_21 5 (dk_at dksL_law_29 21 rfl rfl)
theorem dL_law_904 : decode cL_law 904 = .ok (.if_icmp .eq 5, 3) := dk_159 0 5 (dk_at dksL_law_30 0 rfl rfl)
theorem dL_law_907 : decode cL_law 907 = .ok (.iconst 0, 1) := dk_3 (dk_at dksL_law_30 3 rfl rfl)
theorem dL_law_908 : decode cL_law 908 = .ok (.ireturn, 1) := dk_172 (dk_at dksL_law_30 4 rfl rfl)
theorem dL_law_909 : decode cL_law 909 = .ok (.iload 5, 2) := dk_21 5 (dk_at dksL_law_30 5 rfl rfl)
theorem dL_law_911 : decode cL_law 911 = .ok (.ifCond .ne 22, 3) := dk_154 0 22 (dk_at dksL_law_30 7 rfl rfl)
theorem dL_law_914 : decode cL_law 914 = .ok (.aload_n 3, 1) := dk_45 (dk_at dksL_law_30 10 rfl rfl)
theorem dL_law_915 : decode cL_law 915 = .ok (.iconst 0, 1) := dk_3 (dk_at dksL_law_30 11 rfl rfl)
theorem dL_law_916 : decode cL_law 916 = .ok (.laload, 1) := dk_47 (dk_at dksL_law_30 12 rfl rfl)
theorem dL_law_917 : decode cL_law 917 = .ok (.iload 6, 2) := dk_21 6 (dk_at dksL_law_30 13 rfl rfl)
theorem dL_law_919 : decode cL_law 919 = .ok (.ifCond .eq 7, 3) := dk_153 0 7 (dk_at dksL_law_30 15 rfl rfl)
theorem dL_law_922 : decode cL_law 922 = .ok (.lconst 1, 1) := dk_10 (dk_at dksL_law_30 18 rfl rfl)
theorem dL_law_923 : decode cL_law 923 = .ok (.goto 4, 3) := dk_167 0 4 (dk_at dksL_law_30 19 rfl rfl)
theorem dL_law_926 : decode cL_law 926 = .ok (.lconst 0, 1) := dk_9 (dk_at dksL_law_30 22 rfl rfl)
theorem dL_law_927 : decode cL_law 927 = .ok (.lcmp, 1) := dk_148 (dk_at dksL_law_30 23 rfl rfl)
theorem dL_law_928 : decode cL_law 928 = .ok (.ifCond .eq 5, 3) := dk_153 0 5 (dk_at dksL_law_31 0 rfl rfl)
theorem dL_law_931 : decode cL_law 931 = .ok (.iconst 0, 1) := dk_3 (dk_at dksL_law_31 3 rfl rfl)
theorem dL_law_932 : decode cL_law 932 = .ok (.ireturn, 1) := dk_172 (dk_at dksL_law_31 4 rfl rfl)
theorem dL_law_933 : decode cL_law 933 = .ok (.goto 1631, 3) := dk_167 6 95 (dk_at dksL_law_31 5 rfl rfl)
theorem dL_law_936 : decode cL_law 936 = .ok (.aload_n 1, 1) := dk_43 (dk_at dksL_law_31 8 rfl rfl)
theorem dL_law_937 : decode cL_law 937 = .ok (.invokevirtual 178, 3) := dk_182 0 178 (dk_at dksL_law_31 9 rfl rfl)
theorem dL_law_940 : decode cL_law 940 = .ok (.aload_n 2, 1) := dk_44 (dk_at dksL_law_31 12 rfl rfl)
theorem dL_law_941 : decode cL_law 941 = .ok (.invokevirtual 181, 3) := dk_182 0 181 (dk_at dksL_law_31 13 rfl rfl)
theorem dL_law_944 : decode cL_law 944 = .ok (.if_icmp .eq 1620, 3) := dk_159 6 84 (dk_at dksL_law_31 16 rfl rfl)
theorem dL_law_947 : decode cL_law 947 = .ok (.iconst 0, 1) := dk_3 (dk_at dksL_law_31 19 rfl rfl)
theorem dL_law_948 : decode cL_law 948 = .ok (.ireturn, 1) := dk_172 (dk_at dksL_law_31 20 rfl rfl)
theorem dL_law_949 : decode cL_law 949 = .ok (.aload_n 1, 1) := dk_43 (dk_at dksL_law_31 21 rfl rfl)
theorem dL_law_950 : decode cL_law 950 = .ok (.invokevirtual 182, 3) := dk_182 0 182 (dk_at dksL_law_32 0 rfl rfl)
theorem dL_law_953 : decode cL_law 953 = .ok (.aload_n 2, 1) := dk_44 (dk_at dksL_law_32 3 rfl rfl)
theorem dL_law_954 : decode cL_law 954 = .ok (.invokevirtual 185, 3) := dk_182 0 185 (dk_at dksL_law_32 4 rfl rfl)
theorem dL_law_957 : decode cL_law 957 = .ok (.if_icmp .eq 1607, 3) := dk_159 6 71 (dk_at dksL_law_32 7 rfl rfl)
theorem dL_law_960 : decode cL_law 960 = .ok (.iconst 0, 1) := dk_3 (dk_at dksL_law_32 10 rfl rfl)
theorem dL_law_961 : decode cL_law 961 = .ok (.ireturn, 1) := dk_172 (dk_at dksL_law_32 11 rfl rfl)
theorem dL_law_962 : decode cL_law 962 = .ok (.aload_n 1, 1) := dk_43 (dk_at dksL_law_32 12 rfl rfl)
theorem dL_law_963 : decode cL_law 963 = .ok (.invokevirtual 186, 3) := dk_182 0 186 (dk_at dksL_law_32 13 rfl rfl)
theorem dL_law_966 : decode cL_law 966 = .ok (.dstore 5, 2) := dk_57 5 (dk_at dksL_law_32 16 rfl rfl)
theorem dL_law_968 : decode cL_law 968 = .ok (.aload_n 2, 1) := dk_44 (dk_at dksL_law_32 18 rfl rfl)
theorem dL_law_969 : decode cL_law 969 = .ok (.invokevirtual 190, 3) := dk_182 0 190 (dk_at dksL_law_32 19 rfl rfl)
theorem dL_law_972 : decode cL_law 972 = .ok (.dstore 7, 2) := dk_57 7 (dk_at dksL_law_32 22 rfl rfl)
theorem dL_law_974 : decode cL_law 974 = .ok (.dload 5, 2) := dk_24 5 (dk_at dksL_law_33 0 rfl rfl)
theorem dL_law_976 : decode cL_law 976 = .ok (.dload 7, 2) := dk_24 7 (dk_at dksL_law_33 2 rfl rfl)
theorem dL_law_978 : decode cL_law 978 = .ok (.dcmp .l, 1) := dk_151 (dk_at dksL_law_33 4 rfl rfl)
theorem dL_law_979 : decode cL_law 979 = .ok (.ifCond .eq 21, 3) := dk_153 0 21 (dk_at dksL_law_33 5 rfl rfl)
theorem dL_law_982 : decode cL_law 982 = .ok (.dload 5, 2) := dk_24 5 (dk_at dksL_law_33 8 rfl rfl)
theorem dL_law_984 : decode cL_law 984 = .ok (.dload 5, 2) := dk_24 5 (dk_at dksL_law_33 10 rfl rfl)
theorem dL_law_986 : decode cL_law 986 = .ok (.dcmp .l, 1) := dk_151 (dk_at dksL_law_33 12 rfl rfl)
theorem dL_law_987 : decode cL_law 987 = .ok (.ifCond .eq 11, 3) := dk_153 0 11 (dk_at dksL_law_33 13 rfl rfl)
theorem dL_law_990 : decode cL_law 990 = .ok (.dload 7, 2) := dk_24 7 (dk_at dksL_law_33 16 rfl rfl)
theorem dL_law_992 : decode cL_law 992 = .ok (.dload 7, 2) := dk_24 7 (dk_at dksL_law_33 18 rfl rfl)
theorem dL_law_994 : decode cL_law 994 = .ok (.dcmp .l, 1) := dk_151 (dk_at dksL_law_33 20 rfl rfl)
theorem dL_law_995 : decode cL_law 995 = .ok (.ifCond .ne 5, 3) := dk_154 0 5 (dk_at dksL_law_33 21 rfl rfl)
theorem dL_law_998 : decode cL_law 998 = .ok (.iconst 0, 1) := dk_3 (dk_at dksL_law_34 0 rfl rfl)
theorem dL_law_999 : decode cL_law 999 = .ok (.ireturn, 1) := dk_172 (dk_at dksL_law_34 1 rfl rfl)
theorem dL_law_1000 : decode cL_law 1000 = .ok (.goto 1564, 3) := dk_167 6 28 (dk_at dksL_law_34 2 rfl rfl)
theorem dL_law_1003 : decode cL_law 1003 = .ok (.aload_n 1, 1) := dk_43 (dk_at dksL_law_34 5 rfl rfl)
theorem dL_law_1004 : decode cL_law 1004 = .ok (.invokevirtual 191, 3) := dk_182 0 191 (dk_at dksL_law_34 6 rfl rfl)
theorem dL_law_1007 : decode cL_law 1007 = .ok (.aload_n 2, 1) := dk_44 (dk_at dksL_law_34 9 rfl rfl)
theorem dL_law_1008 : decode cL_law 1008 = .ok (.invokevirtual 194, 3) := dk_182 0 194 (dk_at dksL_law_34 10 rfl rfl)
theorem dL_law_1011 : decode cL_law 1011 = .ok (.if_icmp .eq 1553, 3) := dk_159 6 17 (dk_at dksL_law_34 13 rfl rfl)
theorem dL_law_1014 : decode cL_law 1014 = .ok (.iconst 0, 1) := dk_3 (dk_at dksL_law_34 16 rfl rfl)
theorem dL_law_1015 : decode cL_law 1015 = .ok (.ireturn, 1) := dk_172 (dk_at dksL_law_34 17 rfl rfl)
theorem dL_law_1016 : decode cL_law 1016 = .ok (.aload_n 1, 1) := dk_43 (dk_at dksL_law_34 18 rfl rfl)
theorem dL_law_1017 : decode cL_law 1017 = .ok (.aload_n 0, 1) := dk_42 (dk_at dksL_law_34 19 rfl rfl)
theorem dL_law_1018 : decode cL_law 1018 = .ok (.iload 4, 2) := dk_21 4 (dk_at dksL_law_34 20 rfl rfl)
theorem dL_law_1020 : decode cL_law 1020 = .ok (.iconst 1, 1) := dk_4 (dk_at dksL_law_34 22 rfl rfl)
theorem dL_law_1021 : decode cL_law 1021 = .ok (.iadd, 1) := dk_96 (dk_at dksL_law_34 23 rfl rfl)
theorem dL_law_1022 : decode cL_law 1022 = .ok (.iaload, 1) := dk_46 (dk_at dksL_law_35 0 rfl rfl)
theorem dL_law_1023 : decode cL_law 1023 = .ok (.invokevirtual 195, 3) := dk_182 0 195 (dk_at dksL_law_35 1 rfl rfl)
theorem dL_law_1026 : decode cL_law 1026 = .ok (.aload_n 2, 1) := dk_44 (dk_at dksL_law_35 4 rfl rfl)
theorem dL_law_1027 : decode cL_law 1027 = .ok (.aload_n 0, 1) := dk_42 (dk_at dksL_law_35 5 rfl rfl)
theorem dL_law_1028 : decode cL_law 1028 = .ok (.iload 4, 2) := dk_21 4 (dk_at dksL_law_35 6 rfl rfl)
theorem dL_law_1030 : decode cL_law 1030 = .ok (.iconst 1, 1) := dk_4 (dk_at dksL_law_35 8 rfl rfl)
theorem dL_law_1031 : decode cL_law 1031 = .ok (.iadd, 1) := dk_96 (dk_at dksL_law_35 9 rfl rfl)
theorem dL_law_1032 : decode cL_law 1032 = .ok (.iaload, 1) := dk_46 (dk_at dksL_law_35 10 rfl rfl)
theorem dL_law_1033 : decode cL_law 1033 = .ok (.invokevirtual 198, 3) := dk_182 0 198 (dk_at dksL_law_35 11 rfl rfl)
theorem dL_law_1036 : decode cL_law 1036 = .ok (.if_icmp .eq 1528, 3) := dk_159 5 248 (dk_at dksL_law_35 14 rfl rfl)
theorem dL_law_1039 : decode cL_law 1039 = .ok (.iconst 0, 1) := dk_3 (dk_at dksL_law_35 17 rfl rfl)
theorem dL_law_1040 : decode cL_law 1040 = .ok (.ireturn, 1) := dk_172 (dk_at dksL_law_35 18 rfl rfl)
theorem dL_law_1041 : decode cL_law 1041 = .ok (.aload_n 1, 1) := dk_43 (dk_at dksL_law_35 19 rfl rfl)
theorem dL_law_1042 : decode cL_law 1042 = .ok (.aload_n 0, 1) := dk_42 (dk_at dksL_law_35 20 rfl rfl)
theorem dL_law_1043 : decode cL_law 1043 = .ok (.iload 4, 2) := dk_21 4 (dk_at dksL_law_35 21 rfl rfl)
theorem dL_law_1045 : decode cL_law 1045 = .ok (.iconst 1, 1) := dk_4 (dk_at dksL_law_35 23 rfl rfl)
theorem dL_law_1046 : decode cL_law 1046 = .ok (.iadd, 1) := dk_96 (dk_at dksL_law_36 0 rfl rfl)
theorem dL_law_1047 : decode cL_law 1047 = .ok (.iaload, 1) := dk_46 (dk_at dksL_law_36 1 rfl rfl)
theorem dL_law_1048 : decode cL_law 1048 = .ok (.aload_n 3, 1) := dk_45 (dk_at dksL_law_36 2 rfl rfl)
theorem dL_law_1049 : decode cL_law 1049 = .ok (.invokestatic 199, 3) := dk_184 0 199 (dk_at dksL_law_36 3 rfl rfl)
theorem dL_law_1052 : decode cL_law 1052 = .ok (.istore 5, 2) := dk_54 5 (dk_at dksL_law_36 6 rfl rfl)
theorem dL_law_1054 : decode cL_law 1054 = .ok (.aload_n 2, 1) := dk_44 (dk_at dksL_law_36 8 rfl rfl)
theorem dL_law_1055 : decode cL_law 1055 = .ok (.aload_n 0, 1) := dk_42 (dk_at dksL_law_36 9 rfl rfl)
theorem dL_law_1056 : decode cL_law 1056 = .ok (.iload 4, 2) := dk_21 4 (dk_at dksL_law_36 10 rfl rfl)
theorem dL_law_1058 : decode cL_law 1058 = .ok (.iconst 1, 1) := dk_4 (dk_at dksL_law_36 12 rfl rfl)
theorem dL_law_1059 : decode cL_law 1059 = .ok (.iadd, 1) := dk_96 (dk_at dksL_law_36 13 rfl rfl)
theorem dL_law_1060 : decode cL_law 1060 = .ok (.iaload, 1) := dk_46 (dk_at dksL_law_36 14 rfl rfl)
theorem dL_law_1061 : decode cL_law 1061 = .ok (.invokevirtual 201, 3) := dk_182 0 201 (dk_at dksL_law_36 15 rfl rfl)
theorem dL_law_1064 : decode cL_law 1064 = .ok (.istore 6, 2) := dk_54 6 (dk_at dksL_law_36 18 rfl rfl)
theorem dL_law_1066 : decode cL_law 1066 = .ok (.aload_n 2, 1) := dk_44 (dk_at dksL_law_36 20 rfl rfl)
theorem dL_law_1067 : decode cL_law 1067 = .ok (.invokevirtual 128, 3) := dk_182 0 128 (dk_at dksL_law_36 21 rfl rfl)
theorem dL_law_1070 : decode cL_law 1070 = .ok (.iload 5, 2) := dk_21 5 (dk_at dksL_law_37 0 rfl rfl)
theorem dL_law_1072 : decode cL_law 1072 = .ok (.if_icmp .eq 5, 3) := dk_159 0 5 (dk_at dksL_law_37 2 rfl rfl)
theorem dL_law_1075 : decode cL_law 1075 = .ok (.iconst 0, 1) := dk_3 (dk_at dksL_law_37 5 rfl rfl)
theorem dL_law_1076 : decode cL_law 1076 = .ok (.ireturn, 1) := dk_172 (dk_at dksL_law_37 6 rfl rfl)
theorem dL_law_1077 : decode cL_law 1077 = .ok (.iload 5, 2) := dk_21 5 (dk_at dksL_law_37 7 rfl rfl)
theorem dL_law_1079 : decode cL_law 1079 = .ok (.ifCond .ne 15, 3) := dk_154 0 15 (dk_at dksL_law_37 9 rfl rfl)
theorem dL_law_1082 : decode cL_law 1082 = .ok (.aload_n 3, 1) := dk_45 (dk_at dksL_law_37 12 rfl rfl)
theorem dL_law_1083 : decode cL_law 1083 = .ok (.iconst 0, 1) := dk_3 (dk_at dksL_law_37 13 rfl rfl)
theorem dL_law_1084 : decode cL_law 1084 = .ok (.laload, 1) := dk_47 (dk_at dksL_law_37 14 rfl rfl)
theorem dL_law_1085 : decode cL_law 1085 = .ok (.iload 6, 2) := dk_21 6 (dk_at dksL_law_37 15 rfl rfl)
theorem dL_law_1087 : decode cL_law 1087 = .ok (.i2l, 1) := dk_133 (dk_at dksL_law_37 17 rfl rfl)
theorem dL_law_1088 : decode cL_law 1088 = .ok (.lcmp, 1) := dk_148 (dk_at dksL_law_37 18 rfl rfl)
theorem dL_law_1089 : decode cL_law 1089 = .ok (.ifCond .eq 5, 3) := dk_153 0 5 (dk_at dksL_law_37 19 rfl rfl)
theorem dL_law_1092 : decode cL_law 1092 = .ok (.iconst 0, 1) := dk_3 (dk_at dksL_law_37 22 rfl rfl)
theorem dL_law_1093 : decode cL_law 1093 = .ok (.ireturn, 1) := dk_172 (dk_at dksL_law_37 23 rfl rfl)
theorem dL_law_1094 : decode cL_law 1094 = .ok (.goto 1470, 3) := dk_167 5 190 (dk_at dksL_law_38 0 rfl rfl)
theorem dL_law_1097 : decode cL_law 1097 = .ok (.aload_n 1, 1) := dk_43 (dk_at dksL_law_38 3 rfl rfl)
theorem dL_law_1098 : decode cL_law 1098 = .ok (.aload_n 0, 1) := dk_42 (dk_at dksL_law_38 4 rfl rfl)
theorem dL_law_1099 : decode cL_law 1099 = .ok (.iload 4, 2) := dk_21 4 (dk_at dksL_law_38 5 rfl rfl)
theorem dL_law_1101 : decode cL_law 1101 = .ok (.iconst 1, 1) := dk_4 (dk_at dksL_law_38 7 rfl rfl)
theorem dL_law_1102 : decode cL_law 1102 = .ok (.iadd, 1) := dk_96 (dk_at dksL_law_38 8 rfl rfl)
theorem dL_law_1103 : decode cL_law 1103 = .ok (.iaload, 1) := dk_46 (dk_at dksL_law_38 9 rfl rfl)
theorem dL_law_1104 : decode cL_law 1104 = .ok (.aload_n 3, 1) := dk_45 (dk_at dksL_law_38 10 rfl rfl)
theorem dL_law_1105 : decode cL_law 1105 = .ok (.invokestatic 202, 3) := dk_184 0 202 (dk_at dksL_law_38 11 rfl rfl)
theorem dL_law_1108 : decode cL_law 1108 = .ok (.istore 5, 2) := dk_54 5 (dk_at dksL_law_38 14 rfl rfl)
theorem dL_law_1110 : decode cL_law 1110 = .ok (.aload_n 2, 1) := dk_44 (dk_at dksL_law_38 16 rfl rfl)
theorem dL_law_1111 : decode cL_law 1111 = .ok (.aload_n 0, 1) := dk_42 (dk_at dksL_law_38 17 rfl rfl)
theorem dL_law_1112 : decode cL_law 1112 = .ok (.iload 4, 2) := dk_21 4 (dk_at dksL_law_38 18 rfl rfl)
theorem dL_law_1114 : decode cL_law 1114 = .ok (.iconst 1, 1) := dk_4 (dk_at dksL_law_38 20 rfl rfl)
theorem dL_law_1115 : decode cL_law 1115 = .ok (.iadd, 1) := dk_96 (dk_at dksL_law_38 21 rfl rfl)
theorem dL_law_1116 : decode cL_law 1116 = .ok (.iaload, 1) := dk_46 (dk_at dksL_law_38 22 rfl rfl)
theorem dL_law_1117 : decode cL_law 1117 = .ok (.invokevirtual 204, 3) := dk_182 0 204 (dk_at dksL_law_39 0 rfl rfl)
theorem dL_law_1120 : decode cL_law 1120 = .ok (.istore 6, 2) := dk_54 6 (dk_at dksL_law_39 3 rfl rfl)
theorem dL_law_1122 : decode cL_law 1122 = .ok (.aload_n 2, 1) := dk_44 (dk_at dksL_law_39 5 rfl rfl)
theorem dL_law_1123 : decode cL_law 1123 = .ok (.invokevirtual 128, 3) := dk_182 0 128 (dk_at dksL_law_39 6 rfl rfl)
theorem dL_law_1126 : decode cL_law 1126 = .ok (.iload 5, 2) := dk_21 5 (dk_at dksL_law_39 9 rfl rfl)
theorem dL_law_1128 : decode cL_law 1128 = .ok (.if_icmp .eq 5, 3) := dk_159 0 5 (dk_at dksL_law_39 11 rfl rfl)
theorem dL_law_1131 : decode cL_law 1131 = .ok (.iconst 0, 1) := dk_3 (dk_at dksL_law_39 14 rfl rfl)
theorem dL_law_1132 : decode cL_law 1132 = .ok (.ireturn, 1) := dk_172 (dk_at dksL_law_39 15 rfl rfl)
theorem dL_law_1133 : decode cL_law 1133 = .ok (.iload 5, 2) := dk_21 5 (dk_at dksL_law_39 16 rfl rfl)
theorem dL_law_1135 : decode cL_law 1135 = .ok (.ifCond .ne 15, 3) := dk_154 0 15 (dk_at dksL_law_39 18 rfl rfl)
theorem dL_law_1138 : decode cL_law 1138 = .ok (.aload_n 3, 1) := dk_45 (dk_at dksL_law_39 21 rfl rfl)
theorem dL_law_1139 : decode cL_law 1139 = .ok (.iconst 0, 1) := dk_3 (dk_at dksL_law_39 22 rfl rfl)
theorem dL_law_1140 : decode cL_law 1140 = .ok (.laload, 1) := dk_47 (dk_at dksL_law_39 23 rfl rfl)
theorem dL_law_1141 : decode cL_law 1141 = .ok (.iload 6, 2) := dk_21 6 (dk_at dksL_law_40 0 rfl rfl)
theorem dL_law_1143 : decode cL_law 1143 = .ok (.i2l, 1) := dk_133 (dk_at dksL_law_40 2 rfl rfl)
theorem dL_law_1144 : decode cL_law 1144 = .ok (.lcmp, 1) := dk_148 (dk_at dksL_law_40 3 rfl rfl)
theorem dL_law_1145 : decode cL_law 1145 = .ok (.ifCond .eq 5, 3) := dk_153 0 5 (dk_at dksL_law_40 4 rfl rfl)
theorem dL_law_1148 : decode cL_law 1148 = .ok (.iconst 0, 1) := dk_3 (dk_at dksL_law_40 7 rfl rfl)
theorem dL_law_1149 : decode cL_law 1149 = .ok (.ireturn, 1) := dk_172 (dk_at dksL_law_40 8 rfl rfl)
theorem dL_law_1150 : decode cL_law 1150 = .ok (.goto 1414, 3) := dk_167 5 134 (dk_at dksL_law_40 9 rfl rfl)
theorem dL_law_1153 : decode cL_law 1153 = .ok (.aload_n 1, 1) := dk_43 (dk_at dksL_law_40 12 rfl rfl)
theorem dL_law_1154 : decode cL_law 1154 = .ok (.aload_n 0, 1) := dk_42 (dk_at dksL_law_40 13 rfl rfl)
theorem dL_law_1155 : decode cL_law 1155 = .ok (.iload 4, 2) := dk_21 4 (dk_at dksL_law_40 14 rfl rfl)
theorem dL_law_1157 : decode cL_law 1157 = .ok (.iconst 1, 1) := dk_4 (dk_at dksL_law_40 16 rfl rfl)
theorem dL_law_1158 : decode cL_law 1158 = .ok (.iadd, 1) := dk_96 (dk_at dksL_law_40 17 rfl rfl)
theorem dL_law_1159 : decode cL_law 1159 = .ok (.iaload, 1) := dk_46 (dk_at dksL_law_40 18 rfl rfl)
theorem dL_law_1160 : decode cL_law 1160 = .ok (.aload_n 3, 1) := dk_45 (dk_at dksL_law_40 19 rfl rfl)
theorem dL_law_1161 : decode cL_law 1161 = .ok (.invokestatic 205, 3) := dk_184 0 205 (dk_at dksL_law_40 20 rfl rfl)
theorem dL_law_1164 : decode cL_law 1164 = .ok (.istore 5, 2) := dk_54 5 (dk_at dksL_law_41 0 rfl rfl)
theorem dL_law_1166 : decode cL_law 1166 = .ok (.aload_n 2, 1) := dk_44 (dk_at dksL_law_41 2 rfl rfl)
theorem dL_law_1167 : decode cL_law 1167 = .ok (.aload_n 0, 1) := dk_42 (dk_at dksL_law_41 3 rfl rfl)
theorem dL_law_1168 : decode cL_law 1168 = .ok (.iload 4, 2) := dk_21 4 (dk_at dksL_law_41 4 rfl rfl)
theorem dL_law_1170 : decode cL_law 1170 = .ok (.iconst 1, 1) := dk_4 (dk_at dksL_law_41 6 rfl rfl)
theorem dL_law_1171 : decode cL_law 1171 = .ok (.iadd, 1) := dk_96 (dk_at dksL_law_41 7 rfl rfl)
theorem dL_law_1172 : decode cL_law 1172 = .ok (.iaload, 1) := dk_46 (dk_at dksL_law_41 8 rfl rfl)
theorem dL_law_1173 : decode cL_law 1173 = .ok (.invokevirtual 207, 3) := dk_182 0 207 (dk_at dksL_law_41 9 rfl rfl)
theorem dL_law_1176 : decode cL_law 1176 = .ok (.istore 6, 2) := dk_54 6 (dk_at dksL_law_41 12 rfl rfl)
theorem dL_law_1178 : decode cL_law 1178 = .ok (.aload_n 2, 1) := dk_44 (dk_at dksL_law_41 14 rfl rfl)
theorem dL_law_1179 : decode cL_law 1179 = .ok (.invokevirtual 128, 3) := dk_182 0 128 (dk_at dksL_law_41 15 rfl rfl)
theorem dL_law_1182 : decode cL_law 1182 = .ok (.iload 5, 2) := dk_21 5 (dk_at dksL_law_41 18 rfl rfl)
theorem dL_law_1184 : decode cL_law 1184 = .ok (.if_icmp .eq 5, 3) := dk_159 0 5 (dk_at dksL_law_41 20 rfl rfl)
theorem dL_law_1187 : decode cL_law 1187 = .ok (.iconst 0, 1) := dk_3 (dk_at dksL_law_41 23 rfl rfl)
theorem dL_law_1188 : decode cL_law 1188 = .ok (.ireturn, 1) := dk_172 (dk_at dksL_law_42 0 rfl rfl)
theorem dL_law_1189 : decode cL_law 1189 = .ok (.iload 5, 2) := dk_21 5 (dk_at dksL_law_42 1 rfl rfl)
theorem dL_law_1191 : decode cL_law 1191 = .ok (.ifCond .ne 15, 3) := dk_154 0 15 (dk_at dksL_law_42 3 rfl rfl)
theorem dL_law_1194 : decode cL_law 1194 = .ok (.aload_n 3, 1) := dk_45 (dk_at dksL_law_42 6 rfl rfl)
theorem dL_law_1195 : decode cL_law 1195 = .ok (.iconst 0, 1) := dk_3 (dk_at dksL_law_42 7 rfl rfl)
theorem dL_law_1196 : decode cL_law 1196 = .ok (.laload, 1) := dk_47 (dk_at dksL_law_42 8 rfl rfl)
theorem dL_law_1197 : decode cL_law 1197 = .ok (.iload 6, 2) := dk_21 6 (dk_at dksL_law_42 9 rfl rfl)
theorem dL_law_1199 : decode cL_law 1199 = .ok (.i2l, 1) := dk_133 (dk_at dksL_law_42 11 rfl rfl)
theorem dL_law_1200 : decode cL_law 1200 = .ok (.lcmp, 1) := dk_148 (dk_at dksL_law_42 12 rfl rfl)
theorem dL_law_1201 : decode cL_law 1201 = .ok (.ifCond .eq 5, 3) := dk_153 0 5 (dk_at dksL_law_42 13 rfl rfl)
theorem dL_law_1204 : decode cL_law 1204 = .ok (.iconst 0, 1) := dk_3 (dk_at dksL_law_42 16 rfl rfl)
theorem dL_law_1205 : decode cL_law 1205 = .ok (.ireturn, 1) := dk_172 (dk_at dksL_law_42 17 rfl rfl)
theorem dL_law_1206 : decode cL_law 1206 = .ok (.goto 1358, 3) := dk_167 5 78 (dk_at dksL_law_42 18 rfl rfl)
theorem dL_law_1209 : decode cL_law 1209 = .ok (.aload_n 1, 1) := dk_43 (dk_at dksL_law_42 21 rfl rfl)
theorem dL_law_1210 : decode cL_law 1210 = .ok (.aload_n 0, 1) := dk_42 (dk_at dksL_law_42 22 rfl rfl)
theorem dL_law_1211 : decode cL_law 1211 = .ok (.iload 4, 2) := dk_21 4 (dk_at dksL_law_43 0 rfl rfl)
theorem dL_law_1213 : decode cL_law 1213 = .ok (.iconst 1, 1) := dk_4 (dk_at dksL_law_43 2 rfl rfl)
theorem dL_law_1214 : decode cL_law 1214 = .ok (.iadd, 1) := dk_96 (dk_at dksL_law_43 3 rfl rfl)
theorem dL_law_1215 : decode cL_law 1215 = .ok (.iaload, 1) := dk_46 (dk_at dksL_law_43 4 rfl rfl)
theorem dL_law_1216 : decode cL_law 1216 = .ok (.aload_n 3, 1) := dk_45 (dk_at dksL_law_43 5 rfl rfl)
theorem dL_law_1217 : decode cL_law 1217 = .ok (.invokestatic 208, 3) := dk_184 0 208 (dk_at dksL_law_43 6 rfl rfl)
theorem dL_law_1220 : decode cL_law 1220 = .ok (.istore 5, 2) := dk_54 5 (dk_at dksL_law_43 9 rfl rfl)
theorem dL_law_1222 : decode cL_law 1222 = .ok (.aload_n 2, 1) := dk_44 (dk_at dksL_law_43 11 rfl rfl)
theorem dL_law_1223 : decode cL_law 1223 = .ok (.aload_n 0, 1) := dk_42 (dk_at dksL_law_43 12 rfl rfl)
theorem dL_law_1224 : decode cL_law 1224 = .ok (.iload 4, 2) := dk_21 4 (dk_at dksL_law_43 13 rfl rfl)
theorem dL_law_1226 : decode cL_law 1226 = .ok (.iconst 1, 1) := dk_4 (dk_at dksL_law_43 15 rfl rfl)
theorem dL_law_1227 : decode cL_law 1227 = .ok (.iadd, 1) := dk_96 (dk_at dksL_law_43 16 rfl rfl)
theorem dL_law_1228 : decode cL_law 1228 = .ok (.iaload, 1) := dk_46 (dk_at dksL_law_43 17 rfl rfl)
theorem dL_law_1229 : decode cL_law 1229 = .ok (.invokevirtual 210, 3) := dk_182 0 210 (dk_at dksL_law_43 18 rfl rfl)
theorem dL_law_1232 : decode cL_law 1232 = .ok (.istore 6, 2) := dk_54 6 (dk_at dksL_law_43 21 rfl rfl)
theorem dL_law_1234 : decode cL_law 1234 = .ok (.aload_n 2, 1) := dk_44 (dk_at dksL_law_43 23 rfl rfl)
theorem dL_law_1235 : decode cL_law 1235 = .ok (.invokevirtual 128, 3) := dk_182 0 128 (dk_at dksL_law_44 0 rfl rfl)
theorem dL_law_1238 : decode cL_law 1238 = .ok (.iload 5, 2) := dk_21 5 (dk_at dksL_law_44 3 rfl rfl)
theorem dL_law_1240 : decode cL_law 1240 = .ok (.if_icmp .eq 5, 3) := dk_159 0 5 (dk_at dksL_law_44 5 rfl rfl)
theorem dL_law_1243 : decode cL_law 1243 = .ok (.iconst 0, 1) := dk_3 (dk_at dksL_law_44 8 rfl rfl)
theorem dL_law_1244 : decode cL_law 1244 = .ok (.ireturn, 1) := dk_172 (dk_at dksL_law_44 9 rfl rfl)
theorem dL_law_1245 : decode cL_law 1245 = .ok (.iload 5, 2) := dk_21 5 (dk_at dksL_law_44 10 rfl rfl)
theorem dL_law_1247 : decode cL_law 1247 = .ok (.ifCond .ne 15, 3) := dk_154 0 15 (dk_at dksL_law_44 12 rfl rfl)
theorem dL_law_1250 : decode cL_law 1250 = .ok (.aload_n 3, 1) := dk_45 (dk_at dksL_law_44 15 rfl rfl)
theorem dL_law_1251 : decode cL_law 1251 = .ok (.iconst 0, 1) := dk_3 (dk_at dksL_law_44 16 rfl rfl)
theorem dL_law_1252 : decode cL_law 1252 = .ok (.laload, 1) := dk_47 (dk_at dksL_law_44 17 rfl rfl)
theorem dL_law_1253 : decode cL_law 1253 = .ok (.iload 6, 2) := dk_21 6 (dk_at dksL_law_44 18 rfl rfl)
theorem dL_law_1255 : decode cL_law 1255 = .ok (.i2l, 1) := dk_133 (dk_at dksL_law_44 20 rfl rfl)
theorem dL_law_1256 : decode cL_law 1256 = .ok (.lcmp, 1) := dk_148 (dk_at dksL_law_44 21 rfl rfl)
theorem dL_law_1257 : decode cL_law 1257 = .ok (.ifCond .eq 5, 3) := dk_153 0 5 (dk_at dksL_law_45 0 rfl rfl)
theorem dL_law_1260 : decode cL_law 1260 = .ok (.iconst 0, 1) := dk_3 (dk_at dksL_law_45 3 rfl rfl)
theorem dL_law_1261 : decode cL_law 1261 = .ok (.ireturn, 1) := dk_172 (dk_at dksL_law_45 4 rfl rfl)
theorem dL_law_1262 : decode cL_law 1262 = .ok (.goto 1302, 3) := dk_167 5 22 (dk_at dksL_law_45 5 rfl rfl)
theorem dL_law_1265 : decode cL_law 1265 = .ok (.aload_n 1, 1) := dk_43 (dk_at dksL_law_45 8 rfl rfl)
theorem dL_law_1266 : decode cL_law 1266 = .ok (.aload_n 0, 1) := dk_42 (dk_at dksL_law_45 9 rfl rfl)
theorem dL_law_1267 : decode cL_law 1267 = .ok (.iload 4, 2) := dk_21 4 (dk_at dksL_law_45 10 rfl rfl)
theorem dL_law_1269 : decode cL_law 1269 = .ok (.iconst 1, 1) := dk_4 (dk_at dksL_law_45 12 rfl rfl)
theorem dL_law_1270 : decode cL_law 1270 = .ok (.iadd, 1) := dk_96 (dk_at dksL_law_45 13 rfl rfl)
theorem dL_law_1271 : decode cL_law 1271 = .ok (.iaload, 1) := dk_46 (dk_at dksL_law_45 14 rfl rfl)
theorem dL_law_1272 : decode cL_law 1272 = .ok (.aload_n 3, 1) := dk_45 (dk_at dksL_law_45 15 rfl rfl)
theorem dL_law_1273 : decode cL_law 1273 = .ok (.invokestatic 211, 3) := dk_184 0 211 (dk_at dksL_law_45 16 rfl rfl)
theorem dL_law_1276 : decode cL_law 1276 = .ok (.istore 5, 2) := dk_54 5 (dk_at dksL_law_45 19 rfl rfl)
theorem dL_law_1278 : decode cL_law 1278 = .ok (.aload_n 2, 1) := dk_44 (dk_at dksL_law_45 21 rfl rfl)
theorem dL_law_1279 : decode cL_law 1279 = .ok (.aload_n 0, 1) := dk_42 (dk_at dksL_law_45 22 rfl rfl)
theorem dL_law_1280 : decode cL_law 1280 = .ok (.iload 4, 2) := dk_21 4 (dk_at dksL_law_46 0 rfl rfl)
theorem dL_law_1282 : decode cL_law 1282 = .ok (.iconst 1, 1) := dk_4 (dk_at dksL_law_46 2 rfl rfl)
theorem dL_law_1283 : decode cL_law 1283 = .ok (.iadd, 1) := dk_96 (dk_at dksL_law_46 3 rfl rfl)
theorem dL_law_1284 : decode cL_law 1284 = .ok (.iaload, 1) := dk_46 (dk_at dksL_law_46 4 rfl rfl)
theorem dL_law_1285 : decode cL_law 1285 = .ok (.invokevirtual 213, 3) := dk_182 0 213 (dk_at dksL_law_46 5 rfl rfl)
theorem dL_law_1288 : decode cL_law 1288 = .ok (.istore 6, 2) := dk_54 6 (dk_at dksL_law_46 8 rfl rfl)
theorem dL_law_1290 : decode cL_law 1290 = .ok (.aload_n 2, 1) := dk_44 (dk_at dksL_law_46 10 rfl rfl)
theorem dL_law_1291 : decode cL_law 1291 = .ok (.invokevirtual 128, 3) := dk_182 0 128 (dk_at dksL_law_46 11 rfl rfl)
theorem dL_law_1294 : decode cL_law 1294 = .ok (.iload 5, 2) := dk_21 5 (dk_at dksL_law_46 14 rfl rfl)
theorem dL_law_1296 : decode cL_law 1296 = .ok (.if_icmp .eq 5, 3) := dk_159 0 5 (dk_at dksL_law_46 16 rfl rfl)
theorem dL_law_1299 : decode cL_law 1299 = .ok (.iconst 0, 1) := dk_3 (dk_at dksL_law_46 19 rfl rfl)
theorem dL_law_1300 : decode cL_law 1300 = .ok (.ireturn, 1) := dk_172 (dk_at dksL_law_46 20 rfl rfl)
theorem dL_law_1301 : decode cL_law 1301 = .ok (.iload 5, 2) := dk_21 5 (dk_at dksL_law_46 21 rfl rfl)
theorem dL_law_1303 : decode cL_law 1303 = .ok (.ifCond .ne 15, 3) := dk_154 0 15 (dk_at dksL_law_47 0 rfl rfl)
theorem dL_law_1306 : decode cL_law 1306 = .ok (.aload_n 3, 1) := dk_45 (dk_at dksL_law_47 3 rfl rfl)
theorem dL_law_1307 : decode cL_law 1307 = .ok (.iconst 0, 1) := dk_3 (dk_at dksL_law_47 4 rfl rfl)
theorem dL_law_1308 : decode cL_law 1308 = .ok (.laload, 1) := dk_47 (dk_at dksL_law_47 5 rfl rfl)
theorem dL_law_1309 : decode cL_law 1309 = .ok (.iload 6, 2) := dk_21 6 (dk_at dksL_law_47 6 rfl rfl)
theorem dL_law_1311 : decode cL_law 1311 = .ok (.i2l, 1) := dk_133 (dk_at dksL_law_47 8 rfl rfl)
theorem dL_law_1312 : decode cL_law 1312 = .ok (.lcmp, 1) := dk_148 (dk_at dksL_law_47 9 rfl rfl)
theorem dL_law_1313 : decode cL_law 1313 = .ok (.ifCond .eq 5, 3) := dk_153 0 5 (dk_at dksL_law_47 10 rfl rfl)
theorem dL_law_1316 : decode cL_law 1316 = .ok (.iconst 0, 1) := dk_3 (dk_at dksL_law_47 13 rfl rfl)
theorem dL_law_1317 : decode cL_law 1317 = .ok (.ireturn, 1) := dk_172 (dk_at dksL_law_47 14 rfl rfl)
theorem dL_law_1318 : decode cL_law 1318 = .ok (.goto 1246, 3) := dk_167 4 222 (dk_at dksL_law_47 15 rfl rfl)
theorem dL_law_1321 : decode cL_law 1321 = .ok (.aload_n 1, 1) := dk_43 (dk_at dksL_law_47 18 rfl rfl)
theorem dL_law_1322 : decode cL_law 1322 = .ok (.aload_n 0, 1) := dk_42 (dk_at dksL_law_47 19 rfl rfl)
theorem dL_law_1323 : decode cL_law 1323 = .ok (.iload 4, 2) := dk_21 4 (dk_at dksL_law_47 20 rfl rfl)
theorem dL_law_1325 : decode cL_law 1325 = .ok (.iconst 1, 1) := dk_4 (dk_at dksL_law_47 22 rfl rfl)
theorem dL_law_1326 : decode cL_law 1326 = .ok (.iadd, 1) := dk_96 (dk_at dksL_law_47 23 rfl rfl)
theorem dL_law_1327 : decode cL_law 1327 = .ok (.iaload, 1) := dk_46 (dk_at dksL_law_48 0 rfl rfl)
theorem dL_law_1328 : decode cL_law 1328 = .ok (.aload_n 0, 1) := dk_42 (dk_at dksL_law_48 1 rfl rfl)
theorem dL_law_1329 : decode cL_law 1329 = .ok (.iload 4, 2) := dk_21 4 (dk_at dksL_law_48 2 rfl rfl)
theorem dL_law_1331 : decode cL_law 1331 = .ok (.iconst 2, 1) := dk_5 (dk_at dksL_law_48 4 rfl rfl)
theorem dL_law_1332 : decode cL_law 1332 = .ok (.iadd, 1) := dk_96 (dk_at dksL_law_48 5 rfl rfl)
theorem dL_law_1333 : decode cL_law 1333 = .ok (.iaload, 1) := dk_46 (dk_at dksL_law_48 6 rfl rfl)
theorem dL_law_1334 : decode cL_law 1334 = .ok (.aload_n 3, 1) := dk_45 (dk_at dksL_law_48 7 rfl rfl)
theorem dL_law_1335 : decode cL_law 1335 = .ok (.invokestatic 214, 3) := dk_184 0 214 (dk_at dksL_law_48 8 rfl rfl)
theorem dL_law_1338 : decode cL_law 1338 = .ok (.istore 5, 2) := dk_54 5 (dk_at dksL_law_48 11 rfl rfl)
theorem dL_law_1340 : decode cL_law 1340 = .ok (.aload_n 2, 1) := dk_44 (dk_at dksL_law_48 13 rfl rfl)
theorem dL_law_1341 : decode cL_law 1341 = .ok (.aload_n 0, 1) := dk_42 (dk_at dksL_law_48 14 rfl rfl)
theorem dL_law_1342 : decode cL_law 1342 = .ok (.iload 4, 2) := dk_21 4 (dk_at dksL_law_48 15 rfl rfl)
theorem dL_law_1344 : decode cL_law 1344 = .ok (.iconst 1, 1) := dk_4 (dk_at dksL_law_48 17 rfl rfl)
theorem dL_law_1345 : decode cL_law 1345 = .ok (.iadd, 1) := dk_96 (dk_at dksL_law_48 18 rfl rfl)
theorem dL_law_1346 : decode cL_law 1346 = .ok (.iaload, 1) := dk_46 (dk_at dksL_law_48 19 rfl rfl)
theorem dL_law_1347 : decode cL_law 1347 = .ok (.aload_n 0, 1) := dk_42 (dk_at dksL_law_48 20 rfl rfl)
theorem dL_law_1348 : decode cL_law 1348 = .ok (.iload 4, 2) := dk_21 4 (dk_at dksL_law_48 21 rfl rfl)
theorem dL_law_1350 : decode cL_law 1350 = .ok (.iconst 2, 1) := dk_5 (dk_at dksL_law_48 23 rfl rfl)
theorem dL_law_1351 : decode cL_law 1351 = .ok (.iadd, 1) := dk_96 (dk_at dksL_law_49 0 rfl rfl)
theorem dL_law_1352 : decode cL_law 1352 = .ok (.iaload, 1) := dk_46 (dk_at dksL_law_49 1 rfl rfl)
theorem dL_law_1353 : decode cL_law 1353 = .ok (.invokevirtual 216, 3) := dk_182 0 216 (dk_at dksL_law_49 2 rfl rfl)
theorem dL_law_1356 : decode cL_law 1356 = .ok (.istore 6, 2) := dk_54 6 (dk_at dksL_law_49 5 rfl rfl)
theorem dL_law_1358 : decode cL_law 1358 = .ok (.aload_n 2, 1) := dk_44 (dk_at dksL_law_49 7 rfl rfl)
theorem dL_law_1359 : decode cL_law 1359 = .ok (.invokevirtual 128, 3) := dk_182 0 128 (dk_at dksL_law_49 8 rfl rfl)
theorem dL_law_1362 : decode cL_law 1362 = .ok (.iload 5, 2) := dk_21 5 (dk_at dksL_law_49 11 rfl rfl)
theorem dL_law_1364 : decode cL_law 1364 = .ok (.if_icmp .eq 5, 3) := dk_159 0 5 (dk_at dksL_law_49 13 rfl rfl)
theorem dL_law_1367 : decode cL_law 1367 = .ok (.iconst 0, 1) := dk_3 (dk_at dksL_law_49 16 rfl rfl)
theorem dL_law_1368 : decode cL_law 1368 = .ok (.ireturn, 1) := dk_172 (dk_at dksL_law_49 17 rfl rfl)
theorem dL_law_1369 : decode cL_law 1369 = .ok (.iload 5, 2) := dk_21 5 (dk_at dksL_law_49 18 rfl rfl)
theorem dL_law_1371 : decode cL_law 1371 = .ok (.ifCond .ne 15, 3) := dk_154 0 15 (dk_at dksL_law_49 20 rfl rfl)
theorem dL_law_1374 : decode cL_law 1374 = .ok (.aload_n 3, 1) := dk_45 (dk_at dksL_law_49 23 rfl rfl)
theorem dL_law_1375 : decode cL_law 1375 = .ok (.iconst 0, 1) := dk_3 (dk_at dksL_law_50 0 rfl rfl)
theorem dL_law_1376 : decode cL_law 1376 = .ok (.laload, 1) := dk_47 (dk_at dksL_law_50 1 rfl rfl)
theorem dL_law_1377 : decode cL_law 1377 = .ok (.iload 6, 2) := dk_21 6 (dk_at dksL_law_50 2 rfl rfl)
theorem dL_law_1379 : decode cL_law 1379 = .ok (.i2l, 1) := dk_133 (dk_at dksL_law_50 4 rfl rfl)
theorem dL_law_1380 : decode cL_law 1380 = .ok (.lcmp, 1) := dk_148 (dk_at dksL_law_50 5 rfl rfl)
theorem dL_law_1381 : decode cL_law 1381 = .ok (.ifCond .eq 5, 3) := dk_153 0 5 (dk_at dksL_law_50 6 rfl rfl)
theorem dL_law_1384 : decode cL_law 1384 = .ok (.iconst 0, 1) := dk_3 (dk_at dksL_law_50 9 rfl rfl)
theorem dL_law_1385 : decode cL_law 1385 = .ok (.ireturn, 1) := dk_172 (dk_at dksL_law_50 10 rfl rfl)
theorem dL_law_1386 : decode cL_law 1386 = .ok (.goto 1178, 3) := dk_167 4 154 (dk_at dksL_law_50 11 rfl rfl)
theorem dL_law_1389 : decode cL_law 1389 = .ok (.aload_n 1, 1) := dk_43 (dk_at dksL_law_50 14 rfl rfl)
theorem dL_law_1390 : decode cL_law 1390 = .ok (.invokevirtual 217, 3) := dk_182 0 217 (dk_at dksL_law_50 15 rfl rfl)
theorem dL_law_1393 : decode cL_law 1393 = .ok (.aload_n 2, 1) := dk_44 (dk_at dksL_law_50 18 rfl rfl)
theorem dL_law_1394 : decode cL_law 1394 = .ok (.invokevirtual 220, 3) := dk_182 0 220 (dk_at dksL_law_50 19 rfl rfl)
theorem dL_law_1397 : decode cL_law 1397 = .ok (.if_icmp .eq 1167, 3) := dk_159 4 143 (dk_at dksL_law_51 0 rfl rfl)
theorem dL_law_1400 : decode cL_law 1400 = .ok (.iconst 0, 1) := dk_3 (dk_at dksL_law_51 3 rfl rfl)
theorem dL_law_1401 : decode cL_law 1401 = .ok (.ireturn, 1) := dk_172 (dk_at dksL_law_51 4 rfl rfl)
theorem dL_law_1402 : decode cL_law 1402 = .ok (.aload_n 1, 1) := dk_43 (dk_at dksL_law_51 5 rfl rfl)
theorem dL_law_1403 : decode cL_law 1403 = .ok (.aload_n 0, 1) := dk_42 (dk_at dksL_law_51 6 rfl rfl)
theorem dL_law_1404 : decode cL_law 1404 = .ok (.iload 4, 2) := dk_21 4 (dk_at dksL_law_51 7 rfl rfl)
theorem dL_law_1406 : decode cL_law 1406 = .ok (.iconst 1, 1) := dk_4 (dk_at dksL_law_51 9 rfl rfl)
theorem dL_law_1407 : decode cL_law 1407 = .ok (.iadd, 1) := dk_96 (dk_at dksL_law_51 10 rfl rfl)
theorem dL_law_1408 : decode cL_law 1408 = .ok (.iaload, 1) := dk_46 (dk_at dksL_law_51 11 rfl rfl)
theorem dL_law_1409 : decode cL_law 1409 = .ok (.aload_n 3, 1) := dk_45 (dk_at dksL_law_51 12 rfl rfl)
theorem dL_law_1410 : decode cL_law 1410 = .ok (.invokestatic 221, 3) := dk_184 0 221 (dk_at dksL_law_51 13 rfl rfl)
theorem dL_law_1413 : decode cL_law 1413 = .ok (.istore 5, 2) := dk_54 5 (dk_at dksL_law_51 16 rfl rfl)
theorem dL_law_1415 : decode cL_law 1415 = .ok (.aload_n 2, 1) := dk_44 (dk_at dksL_law_51 18 rfl rfl)
theorem dL_law_1416 : decode cL_law 1416 = .ok (.aload_n 0, 1) := dk_42 (dk_at dksL_law_51 19 rfl rfl)
theorem dL_law_1417 : decode cL_law 1417 = .ok (.iload 4, 2) := dk_21 4 (dk_at dksL_law_51 20 rfl rfl)
theorem dL_law_1419 : decode cL_law 1419 = .ok (.iconst 1, 1) := dk_4 (dk_at dksL_law_51 22 rfl rfl)
theorem dL_law_1420 : decode cL_law 1420 = .ok (.iadd, 1) := dk_96 (dk_at dksL_law_51 23 rfl rfl)
theorem dL_law_1421 : decode cL_law 1421 = .ok (.iaload, 1) := dk_46 (dk_at dksL_law_52 0 rfl rfl)
theorem dL_law_1422 : decode cL_law 1422 = .ok (.invokevirtual 223, 3) := dk_182 0 223 (dk_at dksL_law_52 1 rfl rfl)
theorem dL_law_1425 : decode cL_law 1425 = .ok (.istore 6, 2) := dk_54 6 (dk_at dksL_law_52 4 rfl rfl)
theorem dL_law_1427 : decode cL_law 1427 = .ok (.aload_n 2, 1) := dk_44 (dk_at dksL_law_52 6 rfl rfl)
theorem dL_law_1428 : decode cL_law 1428 = .ok (.invokevirtual 128, 3) := dk_182 0 128 (dk_at dksL_law_52 7 rfl rfl)
theorem dL_law_1431 : decode cL_law 1431 = .ok (.iload 5, 2) := dk_21 5 (dk_at dksL_law_52 10 rfl rfl)
theorem dL_law_1433 : decode cL_law 1433 = .ok (.if_icmp .eq 5, 3) := dk_159 0 5 (dk_at dksL_law_52 12 rfl rfl)
theorem dL_law_1436 : decode cL_law 1436 = .ok (.iconst 0, 1) := dk_3 (dk_at dksL_law_52 15 rfl rfl)
theorem dL_law_1437 : decode cL_law 1437 = .ok (.ireturn, 1) := dk_172 (dk_at dksL_law_52 16 rfl rfl)
theorem dL_law_1438 : decode cL_law 1438 = .ok (.iload 5, 2) := dk_21 5 (dk_at dksL_law_52 17 rfl rfl)
theorem dL_law_1440 : decode cL_law 1440 = .ok (.ifCond .ne 15, 3) := dk_154 0 15 (dk_at dksL_law_52 19 rfl rfl)
theorem dL_law_1443 : decode cL_law 1443 = .ok (.aload_n 3, 1) := dk_45 (dk_at dksL_law_52 22 rfl rfl)
theorem dL_law_1444 : decode cL_law 1444 = .ok (.iconst 0, 1) := dk_3 (dk_at dksL_law_52 23 rfl rfl)
theorem dL_law_1445 : decode cL_law 1445 = .ok (.laload, 1) := dk_47 (dk_at dksL_law_53 0 rfl rfl)
theorem dL_law_1446 : decode cL_law 1446 = .ok (.iload 6, 2) := dk_21 6 (dk_at dksL_law_53 1 rfl rfl)
theorem dL_law_1448 : decode cL_law 1448 = .ok (.i2l, 1) := dk_133 (dk_at dksL_law_53 3 rfl rfl)
theorem dL_law_1449 : decode cL_law 1449 = .ok (.lcmp, 1) := dk_148 (dk_at dksL_law_53 4 rfl rfl)
theorem dL_law_1450 : decode cL_law 1450 = .ok (.ifCond .eq 5, 3) := dk_153 0 5 (dk_at dksL_law_53 5 rfl rfl)
theorem dL_law_1453 : decode cL_law 1453 = .ok (.iconst 0, 1) := dk_3 (dk_at dksL_law_53 8 rfl rfl)
theorem dL_law_1454 : decode cL_law 1454 = .ok (.ireturn, 1) := dk_172 (dk_at dksL_law_53 9 rfl rfl)
theorem dL_law_1455 : decode cL_law 1455 = .ok (.goto 1109, 3) := dk_167 4 85 (dk_at dksL_law_53 10 rfl rfl)
theorem dL_law_1458 : decode cL_law 1458 = .ok (.aload_n 1, 1) := dk_43 (dk_at dksL_law_53 13 rfl rfl)
theorem dL_law_1459 : decode cL_law 1459 = .ok (.aload_n 0, 1) := dk_42 (dk_at dksL_law_53 14 rfl rfl)
theorem dL_law_1460 : decode cL_law 1460 = .ok (.iload 4, 2) := dk_21 4 (dk_at dksL_law_53 15 rfl rfl)
theorem dL_law_1462 : decode cL_law 1462 = .ok (.iconst 1, 1) := dk_4 (dk_at dksL_law_53 17 rfl rfl)
theorem dL_law_1463 : decode cL_law 1463 = .ok (.iadd, 1) := dk_96 (dk_at dksL_law_53 18 rfl rfl)
theorem dL_law_1464 : decode cL_law 1464 = .ok (.iaload, 1) := dk_46 (dk_at dksL_law_53 19 rfl rfl)
theorem dL_law_1465 : decode cL_law 1465 = .ok (.aload_n 0, 1) := dk_42 (dk_at dksL_law_53 20 rfl rfl)
theorem dL_law_1466 : decode cL_law 1466 = .ok (.iload 4, 2) := dk_21 4 (dk_at dksL_law_53 21 rfl rfl)
theorem dL_law_1468 : decode cL_law 1468 = .ok (.iconst 2, 1) := dk_5 (dk_at dksL_law_53 23 rfl rfl)
theorem dL_law_1469 : decode cL_law 1469 = .ok (.iadd, 1) := dk_96 (dk_at dksL_law_54 0 rfl rfl)
theorem dL_law_1470 : decode cL_law 1470 = .ok (.iaload, 1) := dk_46 (dk_at dksL_law_54 1 rfl rfl)
theorem dL_law_1471 : decode cL_law 1471 = .ok (.aload_n 0, 1) := dk_42 (dk_at dksL_law_54 2 rfl rfl)
theorem dL_law_1472 : decode cL_law 1472 = .ok (.iload 4, 2) := dk_21 4 (dk_at dksL_law_54 3 rfl rfl)
theorem dL_law_1474 : decode cL_law 1474 = .ok (.iconst 3, 1) := dk_6 (dk_at dksL_law_54 5 rfl rfl)
theorem dL_law_1475 : decode cL_law 1475 = .ok (.iadd, 1) := dk_96 (dk_at dksL_law_54 6 rfl rfl)
theorem dL_law_1476 : decode cL_law 1476 = .ok (.iaload, 1) := dk_46 (dk_at dksL_law_54 7 rfl rfl)
theorem dL_law_1477 : decode cL_law 1477 = .ok (.aload_n 3, 1) := dk_45 (dk_at dksL_law_54 8 rfl rfl)
theorem dL_law_1478 : decode cL_law 1478 = .ok (.invokestatic 224, 3) := dk_184 0 224 (dk_at dksL_law_54 9 rfl rfl)
theorem dL_law_1481 : decode cL_law 1481 = .ok (.istore 5, 2) := dk_54 5 (dk_at dksL_law_54 12 rfl rfl)
theorem dL_law_1483 : decode cL_law 1483 = .ok (.aload_n 2, 1) := dk_44 (dk_at dksL_law_54 14 rfl rfl)
theorem dL_law_1484 : decode cL_law 1484 = .ok (.aload_n 0, 1) := dk_42 (dk_at dksL_law_54 15 rfl rfl)
theorem dL_law_1485 : decode cL_law 1485 = .ok (.iload 4, 2) := dk_21 4 (dk_at dksL_law_54 16 rfl rfl)
theorem dL_law_1487 : decode cL_law 1487 = .ok (.iconst 1, 1) := dk_4 (dk_at dksL_law_54 18 rfl rfl)
theorem dL_law_1488 : decode cL_law 1488 = .ok (.iadd, 1) := dk_96 (dk_at dksL_law_54 19 rfl rfl)
theorem dL_law_1489 : decode cL_law 1489 = .ok (.iaload, 1) := dk_46 (dk_at dksL_law_54 20 rfl rfl)
theorem dL_law_1490 : decode cL_law 1490 = .ok (.aload_n 0, 1) := dk_42 (dk_at dksL_law_54 21 rfl rfl)
theorem dL_law_1491 : decode cL_law 1491 = .ok (.iload 4, 2) := dk_21 4 (dk_at dksL_law_54 22 rfl rfl)
theorem dL_law_1493 : decode cL_law 1493 = .ok (.iconst 2, 1) := dk_5 (dk_at dksL_law_55 0 rfl rfl)
theorem dL_law_1494 : decode cL_law 1494 = .ok (.iadd, 1) := dk_96 (dk_at dksL_law_55 1 rfl rfl)
theorem dL_law_1495 : decode cL_law 1495 = .ok (.iaload, 1) := dk_46 (dk_at dksL_law_55 2 rfl rfl)
theorem dL_law_1496 : decode cL_law 1496 = .ok (.aload_n 0, 1) := dk_42 (dk_at dksL_law_55 3 rfl rfl)
theorem dL_law_1497 : decode cL_law 1497 = .ok (.iload 4, 2) := dk_21 4 (dk_at dksL_law_55 4 rfl rfl)
theorem dL_law_1499 : decode cL_law 1499 = .ok (.iconst 3, 1) := dk_6 (dk_at dksL_law_55 6 rfl rfl)
theorem dL_law_1500 : decode cL_law 1500 = .ok (.iadd, 1) := dk_96 (dk_at dksL_law_55 7 rfl rfl)
theorem dL_law_1501 : decode cL_law 1501 = .ok (.iaload, 1) := dk_46 (dk_at dksL_law_55 8 rfl rfl)
theorem dL_law_1502 : decode cL_law 1502 = .ok (.invokevirtual 227, 3) := dk_182 0 227 (dk_at dksL_law_55 9 rfl rfl)
theorem dL_law_1505 : decode cL_law 1505 = .ok (.istore 6, 2) := dk_54 6 (dk_at dksL_law_55 12 rfl rfl)
theorem dL_law_1507 : decode cL_law 1507 = .ok (.aload_n 2, 1) := dk_44 (dk_at dksL_law_55 14 rfl rfl)
theorem dL_law_1508 : decode cL_law 1508 = .ok (.invokevirtual 128, 3) := dk_182 0 128 (dk_at dksL_law_55 15 rfl rfl)
theorem dL_law_1511 : decode cL_law 1511 = .ok (.iload 5, 2) := dk_21 5 (dk_at dksL_law_55 18 rfl rfl)
theorem dL_law_1513 : decode cL_law 1513 = .ok (.if_icmp .eq 5, 3) := dk_159 0 5 (dk_at dksL_law_55 20 rfl rfl)
theorem dL_law_1516 : decode cL_law 1516 = .ok (.iconst 0, 1) := dk_3 (dk_at dksL_law_55 23 rfl rfl)
theorem dL_law_1517 : decode cL_law 1517 = .ok (.ireturn, 1) := dk_172 (dk_at dksL_law_56 0 rfl rfl)
theorem dL_law_1518 : decode cL_law 1518 = .ok (.iload 5, 2) := dk_21 5 (dk_at dksL_law_56 1 rfl rfl)
theorem dL_law_1520 : decode cL_law 1520 = .ok (.ifCond .ne 15, 3) := dk_154 0 15 (dk_at dksL_law_56 3 rfl rfl)
theorem dL_law_1523 : decode cL_law 1523 = .ok (.aload_n 3, 1) := dk_45 (dk_at dksL_law_56 6 rfl rfl)
theorem dL_law_1524 : decode cL_law 1524 = .ok (.iconst 0, 1) := dk_3 (dk_at dksL_law_56 7 rfl rfl)
theorem dL_law_1525 : decode cL_law 1525 = .ok (.laload, 1) := dk_47 (dk_at dksL_law_56 8 rfl rfl)
theorem dL_law_1526 : decode cL_law 1526 = .ok (.iload 6, 2) := dk_21 6 (dk_at dksL_law_56 9 rfl rfl)
theorem dL_law_1528 : decode cL_law 1528 = .ok (.i2l, 1) := dk_133 (dk_at dksL_law_56 11 rfl rfl)
theorem dL_law_1529 : decode cL_law 1529 = .ok (.lcmp, 1) := dk_148 (dk_at dksL_law_56 12 rfl rfl)
theorem dL_law_1530 : decode cL_law 1530 = .ok (.ifCond .eq 5, 3) := dk_153 0 5 (dk_at dksL_law_56 13 rfl rfl)
theorem dL_law_1533 : decode cL_law 1533 = .ok (.iconst 0, 1) := dk_3 (dk_at dksL_law_56 16 rfl rfl)
theorem dL_law_1534 : decode cL_law 1534 = .ok (.ireturn, 1) := dk_172 (dk_at dksL_law_56 17 rfl rfl)
theorem dL_law_1535 : decode cL_law 1535 = .ok (.goto 1029, 3) := dk_167 4 5 (dk_at dksL_law_56 18 rfl rfl)
theorem dL_law_1538 : decode cL_law 1538 = .ok (.aload_n 1, 1) := dk_43 (dk_at dksL_law_56 21 rfl rfl)
theorem dL_law_1539 : decode cL_law 1539 = .ok (.aload_n 0, 1) := dk_42 (dk_at dksL_law_56 22 rfl rfl)
theorem dL_law_1540 : decode cL_law 1540 = .ok (.iload 4, 2) := dk_21 4 (dk_at dksL_law_57 0 rfl rfl)
theorem dL_law_1542 : decode cL_law 1542 = .ok (.iconst 1, 1) := dk_4 (dk_at dksL_law_57 2 rfl rfl)
theorem dL_law_1543 : decode cL_law 1543 = .ok (.iadd, 1) := dk_96 (dk_at dksL_law_57 3 rfl rfl)
theorem dL_law_1544 : decode cL_law 1544 = .ok (.iaload, 1) := dk_46 (dk_at dksL_law_57 4 rfl rfl)
theorem dL_law_1545 : decode cL_law 1545 = .ok (.aload_n 0, 1) := dk_42 (dk_at dksL_law_57 5 rfl rfl)
theorem dL_law_1546 : decode cL_law 1546 = .ok (.iload 4, 2) := dk_21 4 (dk_at dksL_law_57 6 rfl rfl)
theorem dL_law_1548 : decode cL_law 1548 = .ok (.iconst 2, 1) := dk_5 (dk_at dksL_law_57 8 rfl rfl)
theorem dL_law_1549 : decode cL_law 1549 = .ok (.iadd, 1) := dk_96 (dk_at dksL_law_57 9 rfl rfl)
theorem dL_law_1550 : decode cL_law 1550 = .ok (.iaload, 1) := dk_46 (dk_at dksL_law_57 10 rfl rfl)
theorem dL_law_1551 : decode cL_law 1551 = .ok (.aload_n 3, 1) := dk_45 (dk_at dksL_law_57 11 rfl rfl)
theorem dL_law_1552 : decode cL_law 1552 = .ok (.invokestatic 228, 3) := dk_184 0 228 (dk_at dksL_law_57 12 rfl rfl)
theorem dL_law_1555 : decode cL_law 1555 = .ok (.istore 5, 2) := dk_54 5 (dk_at dksL_law_57 15 rfl rfl)
theorem dL_law_1557 : decode cL_law 1557 = .ok (.aload_n 2, 1) := dk_44 (dk_at dksL_law_57 17 rfl rfl)
theorem dL_law_1558 : decode cL_law 1558 = .ok (.aload_n 0, 1) := dk_42 (dk_at dksL_law_57 18 rfl rfl)
theorem dL_law_1559 : decode cL_law 1559 = .ok (.iload 4, 2) := dk_21 4 (dk_at dksL_law_57 19 rfl rfl)
theorem dL_law_1561 : decode cL_law 1561 = .ok (.iconst 1, 1) := dk_4 (dk_at dksL_law_57 21 rfl rfl)
theorem dL_law_1562 : decode cL_law 1562 = .ok (.iadd, 1) := dk_96 (dk_at dksL_law_57 22 rfl rfl)
theorem dL_law_1563 : decode cL_law 1563 = .ok (.iaload, 1) := dk_46 (dk_at dksL_law_57 23 rfl rfl)
theorem dL_law_1564 : decode cL_law 1564 = .ok (.aload_n 0, 1) := dk_42 (dk_at dksL_law_58 0 rfl rfl)
theorem dL_law_1565 : decode cL_law 1565 = .ok (.iload 4, 2) := dk_21 4 (dk_at dksL_law_58 1 rfl rfl)
theorem dL_law_1567 : decode cL_law 1567 = .ok (.iconst 2, 1) := dk_5 (dk_at dksL_law_58 3 rfl rfl)
theorem dL_law_1568 : decode cL_law 1568 = .ok (.iadd, 1) := dk_96 (dk_at dksL_law_58 4 rfl rfl)
theorem dL_law_1569 : decode cL_law 1569 = .ok (.iaload, 1) := dk_46 (dk_at dksL_law_58 5 rfl rfl)
theorem dL_law_1570 : decode cL_law 1570 = .ok (.invokevirtual 230, 3) := dk_182 0 230 (dk_at dksL_law_58 6 rfl rfl)
theorem dL_law_1573 : decode cL_law 1573 = .ok (.istore 6, 2) := dk_54 6 (dk_at dksL_law_58 9 rfl rfl)
theorem dL_law_1575 : decode cL_law 1575 = .ok (.aload_n 2, 1) := dk_44 (dk_at dksL_law_58 11 rfl rfl)
theorem dL_law_1576 : decode cL_law 1576 = .ok (.invokevirtual 128, 3) := dk_182 0 128 (dk_at dksL_law_58 12 rfl rfl)
theorem dL_law_1579 : decode cL_law 1579 = .ok (.iload 5, 2) := dk_21 5 (dk_at dksL_law_58 15 rfl rfl)
theorem dL_law_1581 : decode cL_law 1581 = .ok (.if_icmp .eq 5, 3) := dk_159 0 5 (dk_at dksL_law_58 17 rfl rfl)
theorem dL_law_1584 : decode cL_law 1584 = .ok (.iconst 0, 1) := dk_3 (dk_at dksL_law_58 20 rfl rfl)
theorem dL_law_1585 : decode cL_law 1585 = .ok (.ireturn, 1) := dk_172 (dk_at dksL_law_58 21 rfl rfl)
theorem dL_law_1586 : decode cL_law 1586 = .ok (.iload 5, 2) := dk_21 5 (dk_at dksL_law_58 22 rfl rfl)
theorem dL_law_1588 : decode cL_law 1588 = .ok (.ifCond .ne 15, 3) := dk_154 0 15 (dk_at dksL_law_59 0 rfl rfl)
theorem dL_law_1591 : decode cL_law 1591 = .ok (.aload_n 3, 1) := dk_45 (dk_at dksL_law_59 3 rfl rfl)
theorem dL_law_1592 : decode cL_law 1592 = .ok (.iconst 0, 1) := dk_3 (dk_at dksL_law_59 4 rfl rfl)
theorem dL_law_1593 : decode cL_law 1593 = .ok (.laload, 1) := dk_47 (dk_at dksL_law_59 5 rfl rfl)
theorem dL_law_1594 : decode cL_law 1594 = .ok (.iload 6, 2) := dk_21 6 (dk_at dksL_law_59 6 rfl rfl)
theorem dL_law_1596 : decode cL_law 1596 = .ok (.i2l, 1) := dk_133 (dk_at dksL_law_59 8 rfl rfl)
theorem dL_law_1597 : decode cL_law 1597 = .ok (.lcmp, 1) := dk_148 (dk_at dksL_law_59 9 rfl rfl)
theorem dL_law_1598 : decode cL_law 1598 = .ok (.ifCond .eq 5, 3) := dk_153 0 5 (dk_at dksL_law_59 10 rfl rfl)
theorem dL_law_1601 : decode cL_law 1601 = .ok (.iconst 0, 1) := dk_3 (dk_at dksL_law_59 13 rfl rfl)
theorem dL_law_1602 : decode cL_law 1602 = .ok (.ireturn, 1) := dk_172 (dk_at dksL_law_59 14 rfl rfl)
theorem dL_law_1603 : decode cL_law 1603 = .ok (.goto 961, 3) := dk_167 3 193 (dk_at dksL_law_59 15 rfl rfl)
theorem dL_law_1606 : decode cL_law 1606 = .ok (.aload_n 1, 1) := dk_43 (dk_at dksL_law_59 18 rfl rfl)
theorem dL_law_1607 : decode cL_law 1607 = .ok (.aload_n 0, 1) := dk_42 (dk_at dksL_law_59 19 rfl rfl)
theorem dL_law_1608 : decode cL_law 1608 = .ok (.iload 4, 2) := dk_21 4 (dk_at dksL_law_59 20 rfl rfl)
theorem dL_law_1610 : decode cL_law 1610 = .ok (.iconst 1, 1) := dk_4 (dk_at dksL_law_59 22 rfl rfl)
theorem dL_law_1611 : decode cL_law 1611 = .ok (.iadd, 1) := dk_96 (dk_at dksL_law_59 23 rfl rfl)
theorem dL_law_1612 : decode cL_law 1612 = .ok (.iaload, 1) := dk_46 (dk_at dksL_law_60 0 rfl rfl)
theorem dL_law_1613 : decode cL_law 1613 = .ok (.aload_n 3, 1) := dk_45 (dk_at dksL_law_60 1 rfl rfl)
theorem dL_law_1614 : decode cL_law 1614 = .ok (.invokestatic 231, 3) := dk_184 0 231 (dk_at dksL_law_60 2 rfl rfl)
theorem dL_law_1617 : decode cL_law 1617 = .ok (.istore 5, 2) := dk_54 5 (dk_at dksL_law_60 5 rfl rfl)
theorem dL_law_1619 : decode cL_law 1619 = .ok (.aload_n 2, 1) := dk_44 (dk_at dksL_law_60 7 rfl rfl)
theorem dL_law_1620 : decode cL_law 1620 = .ok (.aload_n 0, 1) := dk_42 (dk_at dksL_law_60 8 rfl rfl)
theorem dL_law_1621 : decode cL_law 1621 = .ok (.iload 4, 2) := dk_21 4 (dk_at dksL_law_60 9 rfl rfl)
theorem dL_law_1623 : decode cL_law 1623 = .ok (.iconst 1, 1) := dk_4 (dk_at dksL_law_60 11 rfl rfl)
theorem dL_law_1624 : decode cL_law 1624 = .ok (.iadd, 1) := dk_96 (dk_at dksL_law_60 12 rfl rfl)
theorem dL_law_1625 : decode cL_law 1625 = .ok (.iaload, 1) := dk_46 (dk_at dksL_law_60 13 rfl rfl)
theorem dL_law_1626 : decode cL_law 1626 = .ok (.invokevirtual 233, 3) := dk_182 0 233 (dk_at dksL_law_60 14 rfl rfl)
theorem dL_law_1629 : decode cL_law 1629 = .ok (.istore 6, 2) := dk_54 6 (dk_at dksL_law_60 17 rfl rfl)
theorem dL_law_1631 : decode cL_law 1631 = .ok (.aload_n 2, 1) := dk_44 (dk_at dksL_law_60 19 rfl rfl)
theorem dL_law_1632 : decode cL_law 1632 = .ok (.invokevirtual 128, 3) := dk_182 0 128 (dk_at dksL_law_60 20 rfl rfl)
theorem dL_law_1635 : decode cL_law 1635 = .ok (.iload 5, 2) := dk_21 5 (dk_at dksL_law_61 0 rfl rfl)
theorem dL_law_1637 : decode cL_law 1637 = .ok (.if_icmp .eq 5, 3) := dk_159 0 5 (dk_at dksL_law_61 2 rfl rfl)
theorem dL_law_1640 : decode cL_law 1640 = .ok (.iconst 0, 1) := dk_3 (dk_at dksL_law_61 5 rfl rfl)
theorem dL_law_1641 : decode cL_law 1641 = .ok (.ireturn, 1) := dk_172 (dk_at dksL_law_61 6 rfl rfl)
theorem dL_law_1642 : decode cL_law 1642 = .ok (.iload 5, 2) := dk_21 5 (dk_at dksL_law_61 7 rfl rfl)
theorem dL_law_1644 : decode cL_law 1644 = .ok (.ifCond .ne 15, 3) := dk_154 0 15 (dk_at dksL_law_61 9 rfl rfl)
theorem dL_law_1647 : decode cL_law 1647 = .ok (.aload_n 3, 1) := dk_45 (dk_at dksL_law_61 12 rfl rfl)
theorem dL_law_1648 : decode cL_law 1648 = .ok (.iconst 0, 1) := dk_3 (dk_at dksL_law_61 13 rfl rfl)
theorem dL_law_1649 : decode cL_law 1649 = .ok (.laload, 1) := dk_47 (dk_at dksL_law_61 14 rfl rfl)
theorem dL_law_1650 : decode cL_law 1650 = .ok (.iload 6, 2) := dk_21 6 (dk_at dksL_law_61 15 rfl rfl)
theorem dL_law_1652 : decode cL_law 1652 = .ok (.i2l, 1) := dk_133 (dk_at dksL_law_61 17 rfl rfl)
theorem dL_law_1653 : decode cL_law 1653 = .ok (.lcmp, 1) := dk_148 (dk_at dksL_law_61 18 rfl rfl)
theorem dL_law_1654 : decode cL_law 1654 = .ok (.ifCond .eq 5, 3) := dk_153 0 5 (dk_at dksL_law_61 19 rfl rfl)
theorem dL_law_1657 : decode cL_law 1657 = .ok (.iconst 0, 1) := dk_3 (dk_at dksL_law_61 22 rfl rfl)
theorem dL_law_1658 : decode cL_law 1658 = .ok (.ireturn, 1) := dk_172 (dk_at dksL_law_61 23 rfl rfl)
theorem dL_law_1659 : decode cL_law 1659 = .ok (.goto 905, 3) := dk_167 3 137 (dk_at dksL_law_62 0 rfl rfl)
theorem dL_law_1662 : decode cL_law 1662 = .ok (.aload_n 1, 1) := dk_43 (dk_at dksL_law_62 3 rfl rfl)
theorem dL_law_1663 : decode cL_law 1663 = .ok (.aload_n 0, 1) := dk_42 (dk_at dksL_law_62 4 rfl rfl)
theorem dL_law_1664 : decode cL_law 1664 = .ok (.iload 4, 2) := dk_21 4 (dk_at dksL_law_62 5 rfl rfl)
theorem dL_law_1666 : decode cL_law 1666 = .ok (.iconst 1, 1) := dk_4 (dk_at dksL_law_62 7 rfl rfl)
theorem dL_law_1667 : decode cL_law 1667 = .ok (.iadd, 1) := dk_96 (dk_at dksL_law_62 8 rfl rfl)
theorem dL_law_1668 : decode cL_law 1668 = .ok (.iaload, 1) := dk_46 (dk_at dksL_law_62 9 rfl rfl)
theorem dL_law_1669 : decode cL_law 1669 = .ok (.aload_n 3, 1) := dk_45 (dk_at dksL_law_62 10 rfl rfl)
theorem dL_law_1670 : decode cL_law 1670 = .ok (.invokestatic 234, 3) := dk_184 0 234 (dk_at dksL_law_62 11 rfl rfl)
theorem dL_law_1673 : decode cL_law 1673 = .ok (.istore 5, 2) := dk_54 5 (dk_at dksL_law_62 14 rfl rfl)
theorem dL_law_1675 : decode cL_law 1675 = .ok (.aload_n 2, 1) := dk_44 (dk_at dksL_law_62 16 rfl rfl)
theorem dL_law_1676 : decode cL_law 1676 = .ok (.aload_n 0, 1) := dk_42 (dk_at dksL_law_62 17 rfl rfl)
theorem dL_law_1677 : decode cL_law 1677 = .ok (.iload 4, 2) := dk_21 4 (dk_at dksL_law_62 18 rfl rfl)
theorem dL_law_1679 : decode cL_law 1679 = .ok (.iconst 1, 1) := dk_4 (dk_at dksL_law_62 20 rfl rfl)
theorem dL_law_1680 : decode cL_law 1680 = .ok (.iadd, 1) := dk_96 (dk_at dksL_law_62 21 rfl rfl)
theorem dL_law_1681 : decode cL_law 1681 = .ok (.iaload, 1) := dk_46 (dk_at dksL_law_62 22 rfl rfl)
theorem dL_law_1682 : decode cL_law 1682 = .ok (.invokevirtual 236, 3) := dk_182 0 236 (dk_at dksL_law_63 0 rfl rfl)
theorem dL_law_1685 : decode cL_law 1685 = .ok (.istore 6, 2) := dk_54 6 (dk_at dksL_law_63 3 rfl rfl)
theorem dL_law_1687 : decode cL_law 1687 = .ok (.aload_n 2, 1) := dk_44 (dk_at dksL_law_63 5 rfl rfl)
theorem dL_law_1688 : decode cL_law 1688 = .ok (.invokevirtual 128, 3) := dk_182 0 128 (dk_at dksL_law_63 6 rfl rfl)
theorem dL_law_1691 : decode cL_law 1691 = .ok (.iload 5, 2) := dk_21 5 (dk_at dksL_law_63 9 rfl rfl)
theorem dL_law_1693 : decode cL_law 1693 = .ok (.if_icmp .eq 5, 3) := dk_159 0 5 (dk_at dksL_law_63 11 rfl rfl)
theorem dL_law_1696 : decode cL_law 1696 = .ok (.iconst 0, 1) := dk_3 (dk_at dksL_law_63 14 rfl rfl)
theorem dL_law_1697 : decode cL_law 1697 = .ok (.ireturn, 1) := dk_172 (dk_at dksL_law_63 15 rfl rfl)
theorem dL_law_1698 : decode cL_law 1698 = .ok (.iload 5, 2) := dk_21 5 (dk_at dksL_law_63 16 rfl rfl)
theorem dL_law_1700 : decode cL_law 1700 = .ok (.ifCond .ne 15, 3) := dk_154 0 15 (dk_at dksL_law_63 18 rfl rfl)
theorem dL_law_1703 : decode cL_law 1703 = .ok (.aload_n 3, 1) := dk_45 (dk_at dksL_law_63 21 rfl rfl)
theorem dL_law_1704 : decode cL_law 1704 = .ok (.iconst 0, 1) := dk_3 (dk_at dksL_law_63 22 rfl rfl)
theorem dL_law_1705 : decode cL_law 1705 = .ok (.laload, 1) := dk_47 (dk_at dksL_law_63 23 rfl rfl)
theorem dL_law_1706 : decode cL_law 1706 = .ok (.iload 6, 2) := dk_21 6 (dk_at dksL_law_64 0 rfl rfl)
theorem dL_law_1708 : decode cL_law 1708 = .ok (.i2l, 1) := dk_133 (dk_at dksL_law_64 2 rfl rfl)
theorem dL_law_1709 : decode cL_law 1709 = .ok (.lcmp, 1) := dk_148 (dk_at dksL_law_64 3 rfl rfl)
theorem dL_law_1710 : decode cL_law 1710 = .ok (.ifCond .eq 5, 3) := dk_153 0 5 (dk_at dksL_law_64 4 rfl rfl)
theorem dL_law_1713 : decode cL_law 1713 = .ok (.iconst 0, 1) := dk_3 (dk_at dksL_law_64 7 rfl rfl)
theorem dL_law_1714 : decode cL_law 1714 = .ok (.ireturn, 1) := dk_172 (dk_at dksL_law_64 8 rfl rfl)
theorem dL_law_1715 : decode cL_law 1715 = .ok (.goto 849, 3) := dk_167 3 81 (dk_at dksL_law_64 9 rfl rfl)
theorem dL_law_1718 : decode cL_law 1718 = .ok (.aload_n 1, 1) := dk_43 (dk_at dksL_law_64 12 rfl rfl)
theorem dL_law_1719 : decode cL_law 1719 = .ok (.invokevirtual 237, 3) := dk_182 0 237 (dk_at dksL_law_64 13 rfl rfl)
theorem dL_law_1722 : decode cL_law 1722 = .ok (.aload_n 2, 1) := dk_44 (dk_at dksL_law_64 16 rfl rfl)
theorem dL_law_1723 : decode cL_law 1723 = .ok (.invokevirtual 240, 3) := dk_182 0 240 (dk_at dksL_law_64 17 rfl rfl)
theorem dL_law_1726 : decode cL_law 1726 = .ok (.if_icmp .eq 838, 3) := dk_159 3 70 (dk_at dksL_law_64 20 rfl rfl)
theorem dL_law_1729 : decode cL_law 1729 = .ok (.iconst 0, 1) := dk_3 (dk_at dksL_law_64 23 rfl rfl)
theorem dL_law_1730 : decode cL_law 1730 = .ok (.ireturn, 1) := dk_172 (dk_at dksL_law_65 0 rfl rfl)
theorem dL_law_1731 : decode cL_law 1731 = .ok (.aload_n 1, 1) := dk_43 (dk_at dksL_law_65 1 rfl rfl)
theorem dL_law_1732 : decode cL_law 1732 = .ok (.invokevirtual 241, 3) := dk_182 0 241 (dk_at dksL_law_65 2 rfl rfl)
theorem dL_law_1735 : decode cL_law 1735 = .ok (.aload_n 2, 1) := dk_44 (dk_at dksL_law_65 5 rfl rfl)
theorem dL_law_1736 : decode cL_law 1736 = .ok (.invokevirtual 244, 3) := dk_182 0 244 (dk_at dksL_law_65 6 rfl rfl)
theorem dL_law_1739 : decode cL_law 1739 = .ok (.if_icmp .eq 825, 3) := dk_159 3 57 (dk_at dksL_law_65 9 rfl rfl)
theorem dL_law_1742 : decode cL_law 1742 = .ok (.iconst 0, 1) := dk_3 (dk_at dksL_law_65 12 rfl rfl)
theorem dL_law_1743 : decode cL_law 1743 = .ok (.ireturn, 1) := dk_172 (dk_at dksL_law_65 13 rfl rfl)
theorem dL_law_1744 : decode cL_law 1744 = .ok (.aload_n 1, 1) := dk_43 (dk_at dksL_law_65 14 rfl rfl)
theorem dL_law_1745 : decode cL_law 1745 = .ok (.invokevirtual 245, 3) := dk_182 0 245 (dk_at dksL_law_65 15 rfl rfl)
theorem dL_law_1748 : decode cL_law 1748 = .ok (.aload_n 2, 1) := dk_44 (dk_at dksL_law_65 18 rfl rfl)
theorem dL_law_1749 : decode cL_law 1749 = .ok (.invokevirtual 248, 3) := dk_182 0 248 (dk_at dksL_law_65 19 rfl rfl)
theorem dL_law_1752 : decode cL_law 1752 = .ok (.if_icmp .eq 812, 3) := dk_159 3 44 (dk_at dksL_law_66 0 rfl rfl)
theorem dL_law_1755 : decode cL_law 1755 = .ok (.iconst 0, 1) := dk_3 (dk_at dksL_law_66 3 rfl rfl)
theorem dL_law_1756 : decode cL_law 1756 = .ok (.ireturn, 1) := dk_172 (dk_at dksL_law_66 4 rfl rfl)
theorem dL_law_1757 : decode cL_law 1757 = .ok (.aload_n 1, 1) := dk_43 (dk_at dksL_law_66 5 rfl rfl)
theorem dL_law_1758 : decode cL_law 1758 = .ok (.invokevirtual 249, 3) := dk_182 0 249 (dk_at dksL_law_66 6 rfl rfl)
theorem dL_law_1761 : decode cL_law 1761 = .ok (.aload_n 2, 1) := dk_44 (dk_at dksL_law_66 9 rfl rfl)
theorem dL_law_1762 : decode cL_law 1762 = .ok (.invokevirtual 252, 3) := dk_182 0 252 (dk_at dksL_law_66 10 rfl rfl)
theorem dL_law_1765 : decode cL_law 1765 = .ok (.if_icmp .eq 799, 3) := dk_159 3 31 (dk_at dksL_law_66 13 rfl rfl)
theorem dL_law_1768 : decode cL_law 1768 = .ok (.iconst 0, 1) := dk_3 (dk_at dksL_law_66 16 rfl rfl)
theorem dL_law_1769 : decode cL_law 1769 = .ok (.ireturn, 1) := dk_172 (dk_at dksL_law_66 17 rfl rfl)
theorem dL_law_1770 : decode cL_law 1770 = .ok (.aload_n 1, 1) := dk_43 (dk_at dksL_law_66 18 rfl rfl)
theorem dL_law_1771 : decode cL_law 1771 = .ok (.invokevirtual 253, 3) := dk_182 0 253 (dk_at dksL_law_66 19 rfl rfl)
theorem dL_law_1774 : decode cL_law 1774 = .ok (.aload_n 2, 1) := dk_44 (dk_at dksL_law_66 22 rfl rfl)
theorem dL_law_1775 : decode cL_law 1775 = .ok (.invokevirtual 256, 3) := dk_182 1 0 (dk_at dksL_law_67 0 rfl rfl)
theorem dL_law_1778 : decode cL_law 1778 = .ok (.if_icmp .eq 786, 3) := dk_159 3 18 (dk_at dksL_law_67 3 rfl rfl)
theorem dL_law_1781 : decode cL_law 1781 = .ok (.iconst 0, 1) := dk_3 (dk_at dksL_law_67 6 rfl rfl)
theorem dL_law_1782 : decode cL_law 1782 = .ok (.ireturn, 1) := dk_172 (dk_at dksL_law_67 7 rfl rfl)
theorem dL_law_1783 : decode cL_law 1783 = .ok (.aload_n 1, 1) := dk_43 (dk_at dksL_law_67 8 rfl rfl)
theorem dL_law_1784 : decode cL_law 1784 = .ok (.invokevirtual 257, 3) := dk_182 1 1 (dk_at dksL_law_67 9 rfl rfl)
theorem dL_law_1787 : decode cL_law 1787 = .ok (.aload_n 2, 1) := dk_44 (dk_at dksL_law_67 12 rfl rfl)
theorem dL_law_1788 : decode cL_law 1788 = .ok (.invokevirtual 260, 3) := dk_182 1 4 (dk_at dksL_law_67 13 rfl rfl)
theorem dL_law_1791 : decode cL_law 1791 = .ok (.if_icmp .eq 773, 3) := dk_159 3 5 (dk_at dksL_law_67 16 rfl rfl)
theorem dL_law_1794 : decode cL_law 1794 = .ok (.iconst 0, 1) := dk_3 (dk_at dksL_law_67 19 rfl rfl)
theorem dL_law_1795 : decode cL_law 1795 = .ok (.ireturn, 1) := dk_172 (dk_at dksL_law_67 20 rfl rfl)
theorem dL_law_1796 : decode cL_law 1796 = .ok (.aload_n 1, 1) := dk_43 (dk_at dksL_law_67 21 rfl rfl)
theorem dL_law_1797 : decode cL_law 1797 = .ok (.aload_n 0, 1) := dk_42 (dk_at dksL_law_67 22 rfl rfl)
theorem dL_law_1798 : decode cL_law 1798 = .ok (.iload 4, 2) := dk_21 4 (dk_at dksL_law_68 0 rfl rfl)
theorem dL_law_1800 : decode cL_law 1800 = .ok (.iconst 1, 1) := dk_4 (dk_at dksL_law_68 2 rfl rfl)
theorem dL_law_1801 : decode cL_law 1801 = .ok (.iadd, 1) := dk_96 (dk_at dksL_law_68 3 rfl rfl)
theorem dL_law_1802 : decode cL_law 1802 = .ok (.iaload, 1) := dk_46 (dk_at dksL_law_68 4 rfl rfl)
theorem dL_law_1803 : decode cL_law 1803 = .ok (.aload_n 0, 1) := dk_42 (dk_at dksL_law_68 5 rfl rfl)
theorem dL_law_1804 : decode cL_law 1804 = .ok (.iload 4, 2) := dk_21 4 (dk_at dksL_law_68 6 rfl rfl)
theorem dL_law_1806 : decode cL_law 1806 = .ok (.iconst 2, 1) := dk_5 (dk_at dksL_law_68 8 rfl rfl)
theorem dL_law_1807 : decode cL_law 1807 = .ok (.iadd, 1) := dk_96 (dk_at dksL_law_68 9 rfl rfl)
theorem dL_law_1808 : decode cL_law 1808 = .ok (.iaload, 1) := dk_46 (dk_at dksL_law_68 10 rfl rfl)
theorem dL_law_1809 : decode cL_law 1809 = .ok (.aload_n 0, 1) := dk_42 (dk_at dksL_law_68 11 rfl rfl)
theorem dL_law_1810 : decode cL_law 1810 = .ok (.iload 4, 2) := dk_21 4 (dk_at dksL_law_68 12 rfl rfl)
theorem dL_law_1812 : decode cL_law 1812 = .ok (.iconst 3, 1) := dk_6 (dk_at dksL_law_68 14 rfl rfl)
theorem dL_law_1813 : decode cL_law 1813 = .ok (.iadd, 1) := dk_96 (dk_at dksL_law_68 15 rfl rfl)
theorem dL_law_1814 : decode cL_law 1814 = .ok (.iaload, 1) := dk_46 (dk_at dksL_law_68 16 rfl rfl)
theorem dL_law_1815 : decode cL_law 1815 = .ok (.aload_n 3, 1) := dk_45 (dk_at dksL_law_68 17 rfl rfl)
theorem dL_law_1816 : decode cL_law 1816 = .ok (.invokestatic 261, 3) := dk_184 1 5 (dk_at dksL_law_68 18 rfl rfl)
theorem dL_law_1819 : decode cL_law 1819 = .ok (.istore 5, 2) := dk_54 5 (dk_at dksL_law_68 21 rfl rfl)
theorem dL_law_1821 : decode cL_law 1821 = .ok (.aload_n 2, 1) := dk_44 (dk_at dksL_law_68 23 rfl rfl)
theorem dL_law_1822 : decode cL_law 1822 = .ok (.aload_n 0, 1) := dk_42 (dk_at dksL_law_69 0 rfl rfl)
theorem dL_law_1823 : decode cL_law 1823 = .ok (.iload 4, 2) := dk_21 4 (dk_at dksL_law_69 1 rfl rfl)
theorem dL_law_1825 : decode cL_law 1825 = .ok (.iconst 1, 1) := dk_4 (dk_at dksL_law_69 3 rfl rfl)
theorem dL_law_1826 : decode cL_law 1826 = .ok (.iadd, 1) := dk_96 (dk_at dksL_law_69 4 rfl rfl)
theorem dL_law_1827 : decode cL_law 1827 = .ok (.iaload, 1) := dk_46 (dk_at dksL_law_69 5 rfl rfl)
theorem dL_law_1828 : decode cL_law 1828 = .ok (.aload_n 0, 1) := dk_42 (dk_at dksL_law_69 6 rfl rfl)
theorem dL_law_1829 : decode cL_law 1829 = .ok (.iload 4, 2) := dk_21 4 (dk_at dksL_law_69 7 rfl rfl)
theorem dL_law_1831 : decode cL_law 1831 = .ok (.iconst 2, 1) := dk_5 (dk_at dksL_law_69 9 rfl rfl)
theorem dL_law_1832 : decode cL_law 1832 = .ok (.iadd, 1) := dk_96 (dk_at dksL_law_69 10 rfl rfl)
theorem dL_law_1833 : decode cL_law 1833 = .ok (.iaload, 1) := dk_46 (dk_at dksL_law_69 11 rfl rfl)
theorem dL_law_1834 : decode cL_law 1834 = .ok (.aload_n 0, 1) := dk_42 (dk_at dksL_law_69 12 rfl rfl)
theorem dL_law_1835 : decode cL_law 1835 = .ok (.iload 4, 2) := dk_21 4 (dk_at dksL_law_69 13 rfl rfl)
theorem dL_law_1837 : decode cL_law 1837 = .ok (.iconst 3, 1) := dk_6 (dk_at dksL_law_69 15 rfl rfl)
theorem dL_law_1838 : decode cL_law 1838 = .ok (.iadd, 1) := dk_96 (dk_at dksL_law_69 16 rfl rfl)
theorem dL_law_1839 : decode cL_law 1839 = .ok (.iaload, 1) := dk_46 (dk_at dksL_law_69 17 rfl rfl)
theorem dL_law_1840 : decode cL_law 1840 = .ok (.invokevirtual 263, 3) := dk_182 1 7 (dk_at dksL_law_69 18 rfl rfl)
theorem dL_law_1843 : decode cL_law 1843 = .ok (.istore 6, 2) := dk_54 6 (dk_at dksL_law_69 21 rfl rfl)
theorem dL_law_1845 : decode cL_law 1845 = .ok (.aload_n 2, 1) := dk_44 (dk_at dksL_law_69 23 rfl rfl)
theorem dL_law_1846 : decode cL_law 1846 = .ok (.invokevirtual 128, 3) := dk_182 0 128 (dk_at dksL_law_70 0 rfl rfl)
theorem dL_law_1849 : decode cL_law 1849 = .ok (.iload 5, 2) := dk_21 5 (dk_at dksL_law_70 3 rfl rfl)
theorem dL_law_1851 : decode cL_law 1851 = .ok (.if_icmp .eq 5, 3) := dk_159 0 5 (dk_at dksL_law_70 5 rfl rfl)
theorem dL_law_1854 : decode cL_law 1854 = .ok (.iconst 0, 1) := dk_3 (dk_at dksL_law_70 8 rfl rfl)
theorem dL_law_1855 : decode cL_law 1855 = .ok (.ireturn, 1) := dk_172 (dk_at dksL_law_70 9 rfl rfl)
theorem dL_law_1856 : decode cL_law 1856 = .ok (.iload 5, 2) := dk_21 5 (dk_at dksL_law_70 10 rfl rfl)
theorem dL_law_1858 : decode cL_law 1858 = .ok (.ifCond .ne 15, 3) := dk_154 0 15 (dk_at dksL_law_70 12 rfl rfl)
theorem dL_law_1861 : decode cL_law 1861 = .ok (.aload_n 3, 1) := dk_45 (dk_at dksL_law_70 15 rfl rfl)
theorem dL_law_1862 : decode cL_law 1862 = .ok (.iconst 0, 1) := dk_3 (dk_at dksL_law_70 16 rfl rfl)
theorem dL_law_1863 : decode cL_law 1863 = .ok (.laload, 1) := dk_47 (dk_at dksL_law_70 17 rfl rfl)
theorem dL_law_1864 : decode cL_law 1864 = .ok (.iload 6, 2) := dk_21 6 (dk_at dksL_law_70 18 rfl rfl)
theorem dL_law_1866 : decode cL_law 1866 = .ok (.i2l, 1) := dk_133 (dk_at dksL_law_70 20 rfl rfl)
theorem dL_law_1867 : decode cL_law 1867 = .ok (.lcmp, 1) := dk_148 (dk_at dksL_law_70 21 rfl rfl)
theorem dL_law_1868 : decode cL_law 1868 = .ok (.ifCond .eq 5, 3) := dk_153 0 5 (dk_at dksL_law_71 0 rfl rfl)
theorem dL_law_1871 : decode cL_law 1871 = .ok (.iconst 0, 1) := dk_3 (dk_at dksL_law_71 3 rfl rfl)
theorem dL_law_1872 : decode cL_law 1872 = .ok (.ireturn, 1) := dk_172 (dk_at dksL_law_71 4 rfl rfl)
theorem dL_law_1873 : decode cL_law 1873 = .ok (.goto 691, 3) := dk_167 2 179 (dk_at dksL_law_71 5 rfl rfl)
theorem dL_law_1876 : decode cL_law 1876 = .ok (.aload_n 1, 1) := dk_43 (dk_at dksL_law_71 8 rfl rfl)
theorem dL_law_1877 : decode cL_law 1877 = .ok (.aload_n 0, 1) := dk_42 (dk_at dksL_law_71 9 rfl rfl)
theorem dL_law_1878 : decode cL_law 1878 = .ok (.iload 4, 2) := dk_21 4 (dk_at dksL_law_71 10 rfl rfl)
theorem dL_law_1880 : decode cL_law 1880 = .ok (.iconst 1, 1) := dk_4 (dk_at dksL_law_71 12 rfl rfl)
theorem dL_law_1881 : decode cL_law 1881 = .ok (.iadd, 1) := dk_96 (dk_at dksL_law_71 13 rfl rfl)
theorem dL_law_1882 : decode cL_law 1882 = .ok (.iaload, 1) := dk_46 (dk_at dksL_law_71 14 rfl rfl)
theorem dL_law_1883 : decode cL_law 1883 = .ok (.aload_n 0, 1) := dk_42 (dk_at dksL_law_71 15 rfl rfl)
theorem dL_law_1884 : decode cL_law 1884 = .ok (.iload 4, 2) := dk_21 4 (dk_at dksL_law_71 16 rfl rfl)
theorem dL_law_1886 : decode cL_law 1886 = .ok (.iconst 2, 1) := dk_5 (dk_at dksL_law_71 18 rfl rfl)
theorem dL_law_1887 : decode cL_law 1887 = .ok (.iadd, 1) := dk_96 (dk_at dksL_law_71 19 rfl rfl)
theorem dL_law_1888 : decode cL_law 1888 = .ok (.iaload, 1) := dk_46 (dk_at dksL_law_71 20 rfl rfl)
theorem dL_law_1889 : decode cL_law 1889 = .ok (.aload_n 0, 1) := dk_42 (dk_at dksL_law_71 21 rfl rfl)
theorem dL_law_1890 : decode cL_law 1890 = .ok (.iload 4, 2) := dk_21 4 (dk_at dksL_law_71 22 rfl rfl)
theorem dL_law_1892 : decode cL_law 1892 = .ok (.iconst 3, 1) := dk_6 (dk_at dksL_law_72 0 rfl rfl)
theorem dL_law_1893 : decode cL_law 1893 = .ok (.iadd, 1) := dk_96 (dk_at dksL_law_72 1 rfl rfl)
theorem dL_law_1894 : decode cL_law 1894 = .ok (.iaload, 1) := dk_46 (dk_at dksL_law_72 2 rfl rfl)
theorem dL_law_1895 : decode cL_law 1895 = .ok (.aload_n 3, 1) := dk_45 (dk_at dksL_law_72 3 rfl rfl)
theorem dL_law_1896 : decode cL_law 1896 = .ok (.invokestatic 264, 3) := dk_184 1 8 (dk_at dksL_law_72 4 rfl rfl)
theorem dL_law_1899 : decode cL_law 1899 = .ok (.istore 5, 2) := dk_54 5 (dk_at dksL_law_72 7 rfl rfl)
theorem dL_law_1901 : decode cL_law 1901 = .ok (.aload_n 2, 1) := dk_44 (dk_at dksL_law_72 9 rfl rfl)
theorem dL_law_1902 : decode cL_law 1902 = .ok (.aload_n 0, 1) := dk_42 (dk_at dksL_law_72 10 rfl rfl)
theorem dL_law_1903 : decode cL_law 1903 = .ok (.iload 4, 2) := dk_21 4 (dk_at dksL_law_72 11 rfl rfl)
theorem dL_law_1905 : decode cL_law 1905 = .ok (.iconst 1, 1) := dk_4 (dk_at dksL_law_72 13 rfl rfl)
theorem dL_law_1906 : decode cL_law 1906 = .ok (.iadd, 1) := dk_96 (dk_at dksL_law_72 14 rfl rfl)
theorem dL_law_1907 : decode cL_law 1907 = .ok (.iaload, 1) := dk_46 (dk_at dksL_law_72 15 rfl rfl)
theorem dL_law_1908 : decode cL_law 1908 = .ok (.aload_n 0, 1) := dk_42 (dk_at dksL_law_72 16 rfl rfl)
theorem dL_law_1909 : decode cL_law 1909 = .ok (.iload 4, 2) := dk_21 4 (dk_at dksL_law_72 17 rfl rfl)
theorem dL_law_1911 : decode cL_law 1911 = .ok (.iconst 2, 1) := dk_5 (dk_at dksL_law_72 19 rfl rfl)
theorem dL_law_1912 : decode cL_law 1912 = .ok (.iadd, 1) := dk_96 (dk_at dksL_law_72 20 rfl rfl)
theorem dL_law_1913 : decode cL_law 1913 = .ok (.iaload, 1) := dk_46 (dk_at dksL_law_72 21 rfl rfl)
theorem dL_law_1914 : decode cL_law 1914 = .ok (.aload_n 0, 1) := dk_42 (dk_at dksL_law_72 22 rfl rfl)
theorem dL_law_1915 : decode cL_law 1915 = .ok (.iload 4, 2) := dk_21 4 (dk_at dksL_law_73 0 rfl rfl)
theorem dL_law_1917 : decode cL_law 1917 = .ok (.iconst 3, 1) := dk_6 (dk_at dksL_law_73 2 rfl rfl)
theorem dL_law_1918 : decode cL_law 1918 = .ok (.iadd, 1) := dk_96 (dk_at dksL_law_73 3 rfl rfl)
theorem dL_law_1919 : decode cL_law 1919 = .ok (.iaload, 1) := dk_46 (dk_at dksL_law_73 4 rfl rfl)
theorem dL_law_1920 : decode cL_law 1920 = .ok (.invokevirtual 266, 3) := dk_182 1 10 (dk_at dksL_law_73 5 rfl rfl)
theorem dL_law_1923 : decode cL_law 1923 = .ok (.istore 6, 2) := dk_54 6 (dk_at dksL_law_73 8 rfl rfl)
theorem dL_law_1925 : decode cL_law 1925 = .ok (.aload_n 2, 1) := dk_44 (dk_at dksL_law_73 10 rfl rfl)
theorem dL_law_1926 : decode cL_law 1926 = .ok (.invokevirtual 128, 3) := dk_182 0 128 (dk_at dksL_law_73 11 rfl rfl)
theorem dL_law_1929 : decode cL_law 1929 = .ok (.iload 5, 2) := dk_21 5 (dk_at dksL_law_73 14 rfl rfl)
theorem dL_law_1931 : decode cL_law 1931 = .ok (.if_icmp .eq 5, 3) := dk_159 0 5 (dk_at dksL_law_73 16 rfl rfl)
theorem dL_law_1934 : decode cL_law 1934 = .ok (.iconst 0, 1) := dk_3 (dk_at dksL_law_73 19 rfl rfl)
theorem dL_law_1935 : decode cL_law 1935 = .ok (.ireturn, 1) := dk_172 (dk_at dksL_law_73 20 rfl rfl)
theorem dL_law_1936 : decode cL_law 1936 = .ok (.iload 5, 2) := dk_21 5 (dk_at dksL_law_73 21 rfl rfl)
theorem dL_law_1938 : decode cL_law 1938 = .ok (.ifCond .ne 15, 3) := dk_154 0 15 (dk_at dksL_law_74 0 rfl rfl)
theorem dL_law_1941 : decode cL_law 1941 = .ok (.aload_n 3, 1) := dk_45 (dk_at dksL_law_74 3 rfl rfl)
theorem dL_law_1942 : decode cL_law 1942 = .ok (.iconst 0, 1) := dk_3 (dk_at dksL_law_74 4 rfl rfl)
theorem dL_law_1943 : decode cL_law 1943 = .ok (.laload, 1) := dk_47 (dk_at dksL_law_74 5 rfl rfl)
theorem dL_law_1944 : decode cL_law 1944 = .ok (.iload 6, 2) := dk_21 6 (dk_at dksL_law_74 6 rfl rfl)
theorem dL_law_1946 : decode cL_law 1946 = .ok (.i2l, 1) := dk_133 (dk_at dksL_law_74 8 rfl rfl)
theorem dL_law_1947 : decode cL_law 1947 = .ok (.lcmp, 1) := dk_148 (dk_at dksL_law_74 9 rfl rfl)
theorem dL_law_1948 : decode cL_law 1948 = .ok (.ifCond .eq 5, 3) := dk_153 0 5 (dk_at dksL_law_74 10 rfl rfl)
theorem dL_law_1951 : decode cL_law 1951 = .ok (.iconst 0, 1) := dk_3 (dk_at dksL_law_74 13 rfl rfl)
theorem dL_law_1952 : decode cL_law 1952 = .ok (.ireturn, 1) := dk_172 (dk_at dksL_law_74 14 rfl rfl)
theorem dL_law_1953 : decode cL_law 1953 = .ok (.goto 611, 3) := dk_167 2 99 (dk_at dksL_law_74 15 rfl rfl)
theorem dL_law_1956 : decode cL_law 1956 = .ok (.aload_n 1, 1) := dk_43 (dk_at dksL_law_74 18 rfl rfl)
theorem dL_law_1957 : decode cL_law 1957 = .ok (.aload_n 0, 1) := dk_42 (dk_at dksL_law_74 19 rfl rfl)
theorem dL_law_1958 : decode cL_law 1958 = .ok (.iload 4, 2) := dk_21 4 (dk_at dksL_law_74 20 rfl rfl)
theorem dL_law_1960 : decode cL_law 1960 = .ok (.iconst 1, 1) := dk_4 (dk_at dksL_law_74 22 rfl rfl)
theorem dL_law_1961 : decode cL_law 1961 = .ok (.iadd, 1) := dk_96 (dk_at dksL_law_74 23 rfl rfl)
theorem dL_law_1962 : decode cL_law 1962 = .ok (.iaload, 1) := dk_46 (dk_at dksL_law_75 0 rfl rfl)
theorem dL_law_1963 : decode cL_law 1963 = .ok (.aload_n 3, 1) := dk_45 (dk_at dksL_law_75 1 rfl rfl)
theorem dL_law_1964 : decode cL_law 1964 = .ok (.invokestatic 267, 3) := dk_184 1 11 (dk_at dksL_law_75 2 rfl rfl)
theorem dL_law_1967 : decode cL_law 1967 = .ok (.istore 5, 2) := dk_54 5 (dk_at dksL_law_75 5 rfl rfl)
theorem dL_law_1969 : decode cL_law 1969 = .ok (.aload_n 2, 1) := dk_44 (dk_at dksL_law_75 7 rfl rfl)
theorem dL_law_1970 : decode cL_law 1970 = .ok (.aload_n 0, 1) := dk_42 (dk_at dksL_law_75 8 rfl rfl)
theorem dL_law_1971 : decode cL_law 1971 = .ok (.iload 4, 2) := dk_21 4 (dk_at dksL_law_75 9 rfl rfl)
theorem dL_law_1973 : decode cL_law 1973 = .ok (.iconst 1, 1) := dk_4 (dk_at dksL_law_75 11 rfl rfl)
theorem dL_law_1974 : decode cL_law 1974 = .ok (.iadd, 1) := dk_96 (dk_at dksL_law_75 12 rfl rfl)
theorem dL_law_1975 : decode cL_law 1975 = .ok (.iaload, 1) := dk_46 (dk_at dksL_law_75 13 rfl rfl)
theorem dL_law_1976 : decode cL_law 1976 = .ok (.invokevirtual 269, 3) := dk_182 1 13 (dk_at dksL_law_75 14 rfl rfl)
theorem dL_law_1979 : decode cL_law 1979 = .ok (.istore 6, 2) := dk_54 6 (dk_at dksL_law_75 17 rfl rfl)
theorem dL_law_1981 : decode cL_law 1981 = .ok (.aload_n 2, 1) := dk_44 (dk_at dksL_law_75 19 rfl rfl)
theorem dL_law_1982 : decode cL_law 1982 = .ok (.invokevirtual 128, 3) := dk_182 0 128 (dk_at dksL_law_75 20 rfl rfl)
theorem dL_law_1985 : decode cL_law 1985 = .ok (.iload 5, 2) := dk_21 5 (dk_at dksL_law_76 0 rfl rfl)
theorem dL_law_1987 : decode cL_law 1987 = .ok (.if_icmp .eq 5, 3) := dk_159 0 5 (dk_at dksL_law_76 2 rfl rfl)
theorem dL_law_1990 : decode cL_law 1990 = .ok (.iconst 0, 1) := dk_3 (dk_at dksL_law_76 5 rfl rfl)
theorem dL_law_1991 : decode cL_law 1991 = .ok (.ireturn, 1) := dk_172 (dk_at dksL_law_76 6 rfl rfl)
theorem dL_law_1992 : decode cL_law 1992 = .ok (.iload 5, 2) := dk_21 5 (dk_at dksL_law_76 7 rfl rfl)
theorem dL_law_1994 : decode cL_law 1994 = .ok (.ifCond .ne 15, 3) := dk_154 0 15 (dk_at dksL_law_76 9 rfl rfl)
theorem dL_law_1997 : decode cL_law 1997 = .ok (.aload_n 3, 1) := dk_45 (dk_at dksL_law_76 12 rfl rfl)
theorem dL_law_1998 : decode cL_law 1998 = .ok (.iconst 0, 1) := dk_3 (dk_at dksL_law_76 13 rfl rfl)
theorem dL_law_1999 : decode cL_law 1999 = .ok (.laload, 1) := dk_47 (dk_at dksL_law_76 14 rfl rfl)
theorem dL_law_2000 : decode cL_law 2000 = .ok (.iload 6, 2) := dk_21 6 (dk_at dksL_law_76 15 rfl rfl)
theorem dL_law_2002 : decode cL_law 2002 = .ok (.i2l, 1) := dk_133 (dk_at dksL_law_76 17 rfl rfl)
theorem dL_law_2003 : decode cL_law 2003 = .ok (.lcmp, 1) := dk_148 (dk_at dksL_law_76 18 rfl rfl)
theorem dL_law_2004 : decode cL_law 2004 = .ok (.ifCond .eq 5, 3) := dk_153 0 5 (dk_at dksL_law_76 19 rfl rfl)
theorem dL_law_2007 : decode cL_law 2007 = .ok (.iconst 0, 1) := dk_3 (dk_at dksL_law_76 22 rfl rfl)
theorem dL_law_2008 : decode cL_law 2008 = .ok (.ireturn, 1) := dk_172 (dk_at dksL_law_76 23 rfl rfl)
theorem dL_law_2009 : decode cL_law 2009 = .ok (.goto 555, 3) := dk_167 2 43 (dk_at dksL_law_77 0 rfl rfl)
theorem dL_law_2012 : decode cL_law 2012 = .ok (.aload_n 1, 1) := dk_43 (dk_at dksL_law_77 3 rfl rfl)
theorem dL_law_2013 : decode cL_law 2013 = .ok (.aload_n 0, 1) := dk_42 (dk_at dksL_law_77 4 rfl rfl)
theorem dL_law_2014 : decode cL_law 2014 = .ok (.iload 4, 2) := dk_21 4 (dk_at dksL_law_77 5 rfl rfl)
theorem dL_law_2016 : decode cL_law 2016 = .ok (.iconst 1, 1) := dk_4 (dk_at dksL_law_77 7 rfl rfl)
theorem dL_law_2017 : decode cL_law 2017 = .ok (.iadd, 1) := dk_96 (dk_at dksL_law_77 8 rfl rfl)
theorem dL_law_2018 : decode cL_law 2018 = .ok (.iaload, 1) := dk_46 (dk_at dksL_law_77 9 rfl rfl)
theorem dL_law_2019 : decode cL_law 2019 = .ok (.aload_n 3, 1) := dk_45 (dk_at dksL_law_77 10 rfl rfl)
theorem dL_law_2020 : decode cL_law 2020 = .ok (.invokestatic 270, 3) := dk_184 1 14 (dk_at dksL_law_77 11 rfl rfl)
theorem dL_law_2023 : decode cL_law 2023 = .ok (.istore 5, 2) := dk_54 5 (dk_at dksL_law_77 14 rfl rfl)
theorem dL_law_2025 : decode cL_law 2025 = .ok (.aload_n 2, 1) := dk_44 (dk_at dksL_law_77 16 rfl rfl)
theorem dL_law_2026 : decode cL_law 2026 = .ok (.aload_n 0, 1) := dk_42 (dk_at dksL_law_77 17 rfl rfl)
theorem dL_law_2027 : decode cL_law 2027 = .ok (.iload 4, 2) := dk_21 4 (dk_at dksL_law_77 18 rfl rfl)
theorem dL_law_2029 : decode cL_law 2029 = .ok (.iconst 1, 1) := dk_4 (dk_at dksL_law_77 20 rfl rfl)
theorem dL_law_2030 : decode cL_law 2030 = .ok (.iadd, 1) := dk_96 (dk_at dksL_law_77 21 rfl rfl)
theorem dL_law_2031 : decode cL_law 2031 = .ok (.iaload, 1) := dk_46 (dk_at dksL_law_77 22 rfl rfl)
theorem dL_law_2032 : decode cL_law 2032 = .ok (.invokevirtual 272, 3) := dk_182 1 16 (dk_at dksL_law_78 0 rfl rfl)
theorem dL_law_2035 : decode cL_law 2035 = .ok (.istore 6, 2) := dk_54 6 (dk_at dksL_law_78 3 rfl rfl)
theorem dL_law_2037 : decode cL_law 2037 = .ok (.aload_n 2, 1) := dk_44 (dk_at dksL_law_78 5 rfl rfl)
theorem dL_law_2038 : decode cL_law 2038 = .ok (.invokevirtual 128, 3) := dk_182 0 128 (dk_at dksL_law_78 6 rfl rfl)
theorem dL_law_2041 : decode cL_law 2041 = .ok (.iload 5, 2) := dk_21 5 (dk_at dksL_law_78 9 rfl rfl)
theorem dL_law_2043 : decode cL_law 2043 = .ok (.if_icmp .eq 5, 3) := dk_159 0 5 (dk_at dksL_law_78 11 rfl rfl)
theorem dL_law_2046 : decode cL_law 2046 = .ok (.iconst 0, 1) := dk_3 (dk_at dksL_law_78 14 rfl rfl)
theorem dL_law_2047 : decode cL_law 2047 = .ok (.ireturn, 1) := dk_172 (dk_at dksL_law_78 15 rfl rfl)
theorem dL_law_2048 : decode cL_law 2048 = .ok (.iload 5, 2) := dk_21 5 (dk_at dksL_law_78 16 rfl rfl)
theorem dL_law_2050 : decode cL_law 2050 = .ok (.ifCond .ne 15, 3) := dk_154 0 15 (dk_at dksL_law_78 18 rfl rfl)
theorem dL_law_2053 : decode cL_law 2053 = .ok (.aload_n 3, 1) := dk_45 (dk_at dksL_law_78 21 rfl rfl)
theorem dL_law_2054 : decode cL_law 2054 = .ok (.iconst 0, 1) := dk_3 (dk_at dksL_law_78 22 rfl rfl)
theorem dL_law_2055 : decode cL_law 2055 = .ok (.laload, 1) := dk_47 (dk_at dksL_law_78 23 rfl rfl)
theorem dL_law_2056 : decode cL_law 2056 = .ok (.iload 6, 2) := dk_21 6 (dk_at dksL_law_79 0 rfl rfl)
theorem dL_law_2058 : decode cL_law 2058 = .ok (.i2l, 1) := dk_133 (dk_at dksL_law_79 2 rfl rfl)
theorem dL_law_2059 : decode cL_law 2059 = .ok (.lcmp, 1) := dk_148 (dk_at dksL_law_79 3 rfl rfl)
theorem dL_law_2060 : decode cL_law 2060 = .ok (.ifCond .eq 5, 3) := dk_153 0 5 (dk_at dksL_law_79 4 rfl rfl)
theorem dL_law_2063 : decode cL_law 2063 = .ok (.iconst 0, 1) := dk_3 (dk_at dksL_law_79 7 rfl rfl)
theorem dL_law_2064 : decode cL_law 2064 = .ok (.ireturn, 1) := dk_172 (dk_at dksL_law_79 8 rfl rfl)
theorem dL_law_2065 : decode cL_law 2065 = .ok (.goto 499, 3) := dk_167 1 243 (dk_at dksL_law_79 9 rfl rfl)
theorem dL_law_2068 : decode cL_law 2068 = .ok (.aload_n 1, 1) := dk_43 (dk_at dksL_law_79 12 rfl rfl)
theorem dL_law_2069 : decode cL_law 2069 = .ok (.aload_n 0, 1) := dk_42 (dk_at dksL_law_79 13 rfl rfl)
theorem dL_law_2070 : decode cL_law 2070 = .ok (.iload 4, 2) := dk_21 4 (dk_at dksL_law_79 14 rfl rfl)
theorem dL_law_2072 : decode cL_law 2072 = .ok (.iconst 1, 1) := dk_4 (dk_at dksL_law_79 16 rfl rfl)
theorem dL_law_2073 : decode cL_law 2073 = .ok (.iadd, 1) := dk_96 (dk_at dksL_law_79 17 rfl rfl)
theorem dL_law_2074 : decode cL_law 2074 = .ok (.iaload, 1) := dk_46 (dk_at dksL_law_79 18 rfl rfl)
theorem dL_law_2075 : decode cL_law 2075 = .ok (.aload_n 0, 1) := dk_42 (dk_at dksL_law_79 19 rfl rfl)
theorem dL_law_2076 : decode cL_law 2076 = .ok (.iload 4, 2) := dk_21 4 (dk_at dksL_law_79 20 rfl rfl)
theorem dL_law_2078 : decode cL_law 2078 = .ok (.iconst 2, 1) := dk_5 (dk_at dksL_law_79 22 rfl rfl)
theorem dL_law_2079 : decode cL_law 2079 = .ok (.iadd, 1) := dk_96 (dk_at dksL_law_79 23 rfl rfl)
theorem dL_law_2080 : decode cL_law 2080 = .ok (.iaload, 1) := dk_46 (dk_at dksL_law_80 0 rfl rfl)
theorem dL_law_2081 : decode cL_law 2081 = .ok (.aload_n 0, 1) := dk_42 (dk_at dksL_law_80 1 rfl rfl)
theorem dL_law_2082 : decode cL_law 2082 = .ok (.iload 4, 2) := dk_21 4 (dk_at dksL_law_80 2 rfl rfl)
theorem dL_law_2084 : decode cL_law 2084 = .ok (.iconst 3, 1) := dk_6 (dk_at dksL_law_80 4 rfl rfl)
theorem dL_law_2085 : decode cL_law 2085 = .ok (.iadd, 1) := dk_96 (dk_at dksL_law_80 5 rfl rfl)
theorem dL_law_2086 : decode cL_law 2086 = .ok (.iaload, 1) := dk_46 (dk_at dksL_law_80 6 rfl rfl)
theorem dL_law_2087 : decode cL_law 2087 = .ok (.aload_n 3, 1) := dk_45 (dk_at dksL_law_80 7 rfl rfl)
theorem dL_law_2088 : decode cL_law 2088 = .ok (.invokestatic 273, 3) := dk_184 1 17 (dk_at dksL_law_80 8 rfl rfl)
theorem dL_law_2091 : decode cL_law 2091 = .ok (.istore 5, 2) := dk_54 5 (dk_at dksL_law_80 11 rfl rfl)
theorem dL_law_2093 : decode cL_law 2093 = .ok (.aload_n 2, 1) := dk_44 (dk_at dksL_law_80 13 rfl rfl)
theorem dL_law_2094 : decode cL_law 2094 = .ok (.aload_n 0, 1) := dk_42 (dk_at dksL_law_80 14 rfl rfl)
theorem dL_law_2095 : decode cL_law 2095 = .ok (.iload 4, 2) := dk_21 4 (dk_at dksL_law_80 15 rfl rfl)
theorem dL_law_2097 : decode cL_law 2097 = .ok (.iconst 1, 1) := dk_4 (dk_at dksL_law_80 17 rfl rfl)
theorem dL_law_2098 : decode cL_law 2098 = .ok (.iadd, 1) := dk_96 (dk_at dksL_law_80 18 rfl rfl)
theorem dL_law_2099 : decode cL_law 2099 = .ok (.iaload, 1) := dk_46 (dk_at dksL_law_80 19 rfl rfl)
theorem dL_law_2100 : decode cL_law 2100 = .ok (.aload_n 0, 1) := dk_42 (dk_at dksL_law_80 20 rfl rfl)
theorem dL_law_2101 : decode cL_law 2101 = .ok (.iload 4, 2) := dk_21 4 (dk_at dksL_law_80 21 rfl rfl)
theorem dL_law_2103 : decode cL_law 2103 = .ok (.iconst 2, 1) := dk_5 (dk_at dksL_law_80 23 rfl rfl)
theorem dL_law_2104 : decode cL_law 2104 = .ok (.iadd, 1) := dk_96 (dk_at dksL_law_81 0 rfl rfl)
theorem dL_law_2105 : decode cL_law 2105 = .ok (.iaload, 1) := dk_46 (dk_at dksL_law_81 1 rfl rfl)
theorem dL_law_2106 : decode cL_law 2106 = .ok (.aload_n 0, 1) := dk_42 (dk_at dksL_law_81 2 rfl rfl)
theorem dL_law_2107 : decode cL_law 2107 = .ok (.iload 4, 2) := dk_21 4 (dk_at dksL_law_81 3 rfl rfl)
theorem dL_law_2109 : decode cL_law 2109 = .ok (.iconst 3, 1) := dk_6 (dk_at dksL_law_81 5 rfl rfl)
theorem dL_law_2110 : decode cL_law 2110 = .ok (.iadd, 1) := dk_96 (dk_at dksL_law_81 6 rfl rfl)
theorem dL_law_2111 : decode cL_law 2111 = .ok (.iaload, 1) := dk_46 (dk_at dksL_law_81 7 rfl rfl)
theorem dL_law_2112 : decode cL_law 2112 = .ok (.invokevirtual 275, 3) := dk_182 1 19 (dk_at dksL_law_81 8 rfl rfl)
theorem dL_law_2115 : decode cL_law 2115 = .ok (.istore 6, 2) := dk_54 6 (dk_at dksL_law_81 11 rfl rfl)
theorem dL_law_2117 : decode cL_law 2117 = .ok (.aload_n 2, 1) := dk_44 (dk_at dksL_law_81 13 rfl rfl)
theorem dL_law_2118 : decode cL_law 2118 = .ok (.invokevirtual 128, 3) := dk_182 0 128 (dk_at dksL_law_81 14 rfl rfl)
theorem dL_law_2121 : decode cL_law 2121 = .ok (.iload 5, 2) := dk_21 5 (dk_at dksL_law_81 17 rfl rfl)
theorem dL_law_2123 : decode cL_law 2123 = .ok (.if_icmp .eq 5, 3) := dk_159 0 5 (dk_at dksL_law_81 19 rfl rfl)
theorem dL_law_2126 : decode cL_law 2126 = .ok (.iconst 0, 1) := dk_3 (dk_at dksL_law_81 22 rfl rfl)
theorem dL_law_2127 : decode cL_law 2127 = .ok (.ireturn, 1) := dk_172 (dk_at dksL_law_81 23 rfl rfl)
theorem dL_law_2128 : decode cL_law 2128 = .ok (.iload 5, 2) := dk_21 5 (dk_at dksL_law_82 0 rfl rfl)
theorem dL_law_2130 : decode cL_law 2130 = .ok (.ifCond .ne 15, 3) := dk_154 0 15 (dk_at dksL_law_82 2 rfl rfl)
theorem dL_law_2133 : decode cL_law 2133 = .ok (.aload_n 3, 1) := dk_45 (dk_at dksL_law_82 5 rfl rfl)
theorem dL_law_2134 : decode cL_law 2134 = .ok (.iconst 0, 1) := dk_3 (dk_at dksL_law_82 6 rfl rfl)
theorem dL_law_2135 : decode cL_law 2135 = .ok (.laload, 1) := dk_47 (dk_at dksL_law_82 7 rfl rfl)
theorem dL_law_2136 : decode cL_law 2136 = .ok (.iload 6, 2) := dk_21 6 (dk_at dksL_law_82 8 rfl rfl)
theorem dL_law_2138 : decode cL_law 2138 = .ok (.i2l, 1) := dk_133 (dk_at dksL_law_82 10 rfl rfl)
theorem dL_law_2139 : decode cL_law 2139 = .ok (.lcmp, 1) := dk_148 (dk_at dksL_law_82 11 rfl rfl)
theorem dL_law_2140 : decode cL_law 2140 = .ok (.ifCond .eq 5, 3) := dk_153 0 5 (dk_at dksL_law_82 12 rfl rfl)
theorem dL_law_2143 : decode cL_law 2143 = .ok (.iconst 0, 1) := dk_3 (dk_at dksL_law_82 15 rfl rfl)
theorem dL_law_2144 : decode cL_law 2144 = .ok (.ireturn, 1) := dk_172 (dk_at dksL_law_82 16 rfl rfl)
theorem dL_law_2145 : decode cL_law 2145 = .ok (.goto 419, 3) := dk_167 1 163 (dk_at dksL_law_82 17 rfl rfl)
theorem dL_law_2148 : decode cL_law 2148 = .ok (.aload_n 1, 1) := dk_43 (dk_at dksL_law_82 20 rfl rfl)
theorem dL_law_2149 : decode cL_law 2149 = .ok (.aload_n 0, 1) := dk_42 (dk_at dksL_law_82 21 rfl rfl)
theorem dL_law_2150 : decode cL_law 2150 = .ok (.iload 4, 2) := dk_21 4 (dk_at dksL_law_82 22 rfl rfl)
theorem dL_law_2152 : decode cL_law 2152 = .ok (.iconst 1, 1) := dk_4 (dk_at dksL_law_83 0 rfl rfl)
theorem dL_law_2153 : decode cL_law 2153 = .ok (.iadd, 1) := dk_96 (dk_at dksL_law_83 1 rfl rfl)
theorem dL_law_2154 : decode cL_law 2154 = .ok (.iaload, 1) := dk_46 (dk_at dksL_law_83 2 rfl rfl)
theorem dL_law_2155 : decode cL_law 2155 = .ok (.aload_n 0, 1) := dk_42 (dk_at dksL_law_83 3 rfl rfl)
theorem dL_law_2156 : decode cL_law 2156 = .ok (.iload 4, 2) := dk_21 4 (dk_at dksL_law_83 4 rfl rfl)
theorem dL_law_2158 : decode cL_law 2158 = .ok (.iconst 2, 1) := dk_5 (dk_at dksL_law_83 6 rfl rfl)
theorem dL_law_2159 : decode cL_law 2159 = .ok (.iadd, 1) := dk_96 (dk_at dksL_law_83 7 rfl rfl)
theorem dL_law_2160 : decode cL_law 2160 = .ok (.iaload, 1) := dk_46 (dk_at dksL_law_83 8 rfl rfl)
theorem dL_law_2161 : decode cL_law 2161 = .ok (.aload_n 3, 1) := dk_45 (dk_at dksL_law_83 9 rfl rfl)
theorem dL_law_2162 : decode cL_law 2162 = .ok (.invokestatic 276, 3) := dk_184 1 20 (dk_at dksL_law_83 10 rfl rfl)
theorem dL_law_2165 : decode cL_law 2165 = .ok (.istore 5, 2) := dk_54 5 (dk_at dksL_law_83 13 rfl rfl)
theorem dL_law_2167 : decode cL_law 2167 = .ok (.aload_n 2, 1) := dk_44 (dk_at dksL_law_83 15 rfl rfl)
theorem dL_law_2168 : decode cL_law 2168 = .ok (.aload_n 0, 1) := dk_42 (dk_at dksL_law_83 16 rfl rfl)
theorem dL_law_2169 : decode cL_law 2169 = .ok (.iload 4, 2) := dk_21 4 (dk_at dksL_law_83 17 rfl rfl)
theorem dL_law_2171 : decode cL_law 2171 = .ok (.iconst 1, 1) := dk_4 (dk_at dksL_law_83 19 rfl rfl)
theorem dL_law_2172 : decode cL_law 2172 = .ok (.iadd, 1) := dk_96 (dk_at dksL_law_83 20 rfl rfl)
theorem dL_law_2173 : decode cL_law 2173 = .ok (.iaload, 1) := dk_46 (dk_at dksL_law_83 21 rfl rfl)
theorem dL_law_2174 : decode cL_law 2174 = .ok (.aload_n 0, 1) := dk_42 (dk_at dksL_law_83 22 rfl rfl)
theorem dL_law_2175 : decode cL_law 2175 = .ok (.iload 4, 2) := dk_21 4 (dk_at dksL_law_84 0 rfl rfl)
theorem dL_law_2177 : decode cL_law 2177 = .ok (.iconst 2, 1) := dk_5 (dk_at dksL_law_84 2 rfl rfl)
theorem dL_law_2178 : decode cL_law 2178 = .ok (.iadd, 1) := dk_96 (dk_at dksL_law_84 3 rfl rfl)
theorem dL_law_2179 : decode cL_law 2179 = .ok (.iaload, 1) := dk_46 (dk_at dksL_law_84 4 rfl rfl)
theorem dL_law_2180 : decode cL_law 2180 = .ok (.invokevirtual 278, 3) := dk_182 1 22 (dk_at dksL_law_84 5 rfl rfl)
theorem dL_law_2183 : decode cL_law 2183 = .ok (.istore 6, 2) := dk_54 6 (dk_at dksL_law_84 8 rfl rfl)
theorem dL_law_2185 : decode cL_law 2185 = .ok (.aload_n 2, 1) := dk_44 (dk_at dksL_law_84 10 rfl rfl)
theorem dL_law_2186 : decode cL_law 2186 = .ok (.invokevirtual 128, 3) := dk_182 0 128 (dk_at dksL_law_84 11 rfl rfl)
theorem dL_law_2189 : decode cL_law 2189 = .ok (.iload 5, 2) := dk_21 5 (dk_at dksL_law_84 14 rfl rfl)
theorem dL_law_2191 : decode cL_law 2191 = .ok (.if_icmp .eq 5, 3) := dk_159 0 5 (dk_at dksL_law_84 16 rfl rfl)
theorem dL_law_2194 : decode cL_law 2194 = .ok (.iconst 0, 1) := dk_3 (dk_at dksL_law_84 19 rfl rfl)
theorem dL_law_2195 : decode cL_law 2195 = .ok (.ireturn, 1) := dk_172 (dk_at dksL_law_84 20 rfl rfl)
theorem dL_law_2196 : decode cL_law 2196 = .ok (.iload 5, 2) := dk_21 5 (dk_at dksL_law_84 21 rfl rfl)
theorem dL_law_2198 : decode cL_law 2198 = .ok (.ifCond .ne 15, 3) := dk_154 0 15 (dk_at dksL_law_85 0 rfl rfl)
theorem dL_law_2201 : decode cL_law 2201 = .ok (.aload_n 3, 1) := dk_45 (dk_at dksL_law_85 3 rfl rfl)
theorem dL_law_2202 : decode cL_law 2202 = .ok (.iconst 0, 1) := dk_3 (dk_at dksL_law_85 4 rfl rfl)
theorem dL_law_2203 : decode cL_law 2203 = .ok (.laload, 1) := dk_47 (dk_at dksL_law_85 5 rfl rfl)
theorem dL_law_2204 : decode cL_law 2204 = .ok (.iload 6, 2) := dk_21 6 (dk_at dksL_law_85 6 rfl rfl)
theorem dL_law_2206 : decode cL_law 2206 = .ok (.i2l, 1) := dk_133 (dk_at dksL_law_85 8 rfl rfl)
theorem dL_law_2207 : decode cL_law 2207 = .ok (.lcmp, 1) := dk_148 (dk_at dksL_law_85 9 rfl rfl)
theorem dL_law_2208 : decode cL_law 2208 = .ok (.ifCond .eq 5, 3) := dk_153 0 5 (dk_at dksL_law_85 10 rfl rfl)
theorem dL_law_2211 : decode cL_law 2211 = .ok (.iconst 0, 1) := dk_3 (dk_at dksL_law_85 13 rfl rfl)
theorem dL_law_2212 : decode cL_law 2212 = .ok (.ireturn, 1) := dk_172 (dk_at dksL_law_85 14 rfl rfl)
theorem dL_law_2213 : decode cL_law 2213 = .ok (.goto 351, 3) := dk_167 1 95 (dk_at dksL_law_85 15 rfl rfl)
theorem dL_law_2216 : decode cL_law 2216 = .ok (.aload_n 1, 1) := dk_43 (dk_at dksL_law_85 18 rfl rfl)
theorem dL_law_2217 : decode cL_law 2217 = .ok (.aload_n 0, 1) := dk_42 (dk_at dksL_law_85 19 rfl rfl)
theorem dL_law_2218 : decode cL_law 2218 = .ok (.iload 4, 2) := dk_21 4 (dk_at dksL_law_85 20 rfl rfl)
theorem dL_law_2220 : decode cL_law 2220 = .ok (.iconst 1, 1) := dk_4 (dk_at dksL_law_85 22 rfl rfl)
theorem dL_law_2221 : decode cL_law 2221 = .ok (.iadd, 1) := dk_96 (dk_at dksL_law_85 23 rfl rfl)
theorem dL_law_2222 : decode cL_law 2222 = .ok (.iaload, 1) := dk_46 (dk_at dksL_law_86 0 rfl rfl)
theorem dL_law_2223 : decode cL_law 2223 = .ok (.aload_n 0, 1) := dk_42 (dk_at dksL_law_86 1 rfl rfl)
theorem dL_law_2224 : decode cL_law 2224 = .ok (.iload 4, 2) := dk_21 4 (dk_at dksL_law_86 2 rfl rfl)
theorem dL_law_2226 : decode cL_law 2226 = .ok (.iconst 2, 1) := dk_5 (dk_at dksL_law_86 4 rfl rfl)
theorem dL_law_2227 : decode cL_law 2227 = .ok (.iadd, 1) := dk_96 (dk_at dksL_law_86 5 rfl rfl)
theorem dL_law_2228 : decode cL_law 2228 = .ok (.iaload, 1) := dk_46 (dk_at dksL_law_86 6 rfl rfl)
theorem dL_law_2229 : decode cL_law 2229 = .ok (.aload_n 3, 1) := dk_45 (dk_at dksL_law_86 7 rfl rfl)
theorem dL_law_2230 : decode cL_law 2230 = .ok (.invokestatic 279, 3) := dk_184 1 23 (dk_at dksL_law_86 8 rfl rfl)
theorem dL_law_2233 : decode cL_law 2233 = .ok (.istore 5, 2) := dk_54 5 (dk_at dksL_law_86 11 rfl rfl)
theorem dL_law_2235 : decode cL_law 2235 = .ok (.aload_n 2, 1) := dk_44 (dk_at dksL_law_86 13 rfl rfl)
theorem dL_law_2236 : decode cL_law 2236 = .ok (.aload_n 0, 1) := dk_42 (dk_at dksL_law_86 14 rfl rfl)
theorem dL_law_2237 : decode cL_law 2237 = .ok (.iload 4, 2) := dk_21 4 (dk_at dksL_law_86 15 rfl rfl)
theorem dL_law_2239 : decode cL_law 2239 = .ok (.iconst 1, 1) := dk_4 (dk_at dksL_law_86 17 rfl rfl)
theorem dL_law_2240 : decode cL_law 2240 = .ok (.iadd, 1) := dk_96 (dk_at dksL_law_86 18 rfl rfl)
theorem dL_law_2241 : decode cL_law 2241 = .ok (.iaload, 1) := dk_46 (dk_at dksL_law_86 19 rfl rfl)
theorem dL_law_2242 : decode cL_law 2242 = .ok (.aload_n 0, 1) := dk_42 (dk_at dksL_law_86 20 rfl rfl)
theorem dL_law_2243 : decode cL_law 2243 = .ok (.iload 4, 2) := dk_21 4 (dk_at dksL_law_86 21 rfl rfl)
theorem dL_law_2245 : decode cL_law 2245 = .ok (.iconst 2, 1) := dk_5 (dk_at dksL_law_86 23 rfl rfl)
theorem dL_law_2246 : decode cL_law 2246 = .ok (.iadd, 1) := dk_96 (dk_at dksL_law_87 0 rfl rfl)
theorem dL_law_2247 : decode cL_law 2247 = .ok (.iaload, 1) := dk_46 (dk_at dksL_law_87 1 rfl rfl)
theorem dL_law_2248 : decode cL_law 2248 = .ok (.invokevirtual 281, 3) := dk_182 1 25 (dk_at dksL_law_87 2 rfl rfl)
theorem dL_law_2251 : decode cL_law 2251 = .ok (.istore 6, 2) := dk_54 6 (dk_at dksL_law_87 5 rfl rfl)
theorem dL_law_2253 : decode cL_law 2253 = .ok (.aload_n 2, 1) := dk_44 (dk_at dksL_law_87 7 rfl rfl)
theorem dL_law_2254 : decode cL_law 2254 = .ok (.invokevirtual 128, 3) := dk_182 0 128 (dk_at dksL_law_87 8 rfl rfl)
theorem dL_law_2257 : decode cL_law 2257 = .ok (.iload 5, 2) := dk_21 5 (dk_at dksL_law_87 11 rfl rfl)
theorem dL_law_2259 : decode cL_law 2259 = .ok (.if_icmp .eq 5, 3) := dk_159 0 5 (dk_at dksL_law_87 13 rfl rfl)
theorem dL_law_2262 : decode cL_law 2262 = .ok (.iconst 0, 1) := dk_3 (dk_at dksL_law_87 16 rfl rfl)
theorem dL_law_2263 : decode cL_law 2263 = .ok (.ireturn, 1) := dk_172 (dk_at dksL_law_87 17 rfl rfl)
theorem dL_law_2264 : decode cL_law 2264 = .ok (.iload 5, 2) := dk_21 5 (dk_at dksL_law_87 18 rfl rfl)
theorem dL_law_2266 : decode cL_law 2266 = .ok (.ifCond .ne 15, 3) := dk_154 0 15 (dk_at dksL_law_87 20 rfl rfl)
theorem dL_law_2269 : decode cL_law 2269 = .ok (.aload_n 3, 1) := dk_45 (dk_at dksL_law_87 23 rfl rfl)
theorem dL_law_2270 : decode cL_law 2270 = .ok (.iconst 0, 1) := dk_3 (dk_at dksL_law_88 0 rfl rfl)
theorem dL_law_2271 : decode cL_law 2271 = .ok (.laload, 1) := dk_47 (dk_at dksL_law_88 1 rfl rfl)
theorem dL_law_2272 : decode cL_law 2272 = .ok (.iload 6, 2) := dk_21 6 (dk_at dksL_law_88 2 rfl rfl)
theorem dL_law_2274 : decode cL_law 2274 = .ok (.i2l, 1) := dk_133 (dk_at dksL_law_88 4 rfl rfl)
theorem dL_law_2275 : decode cL_law 2275 = .ok (.lcmp, 1) := dk_148 (dk_at dksL_law_88 5 rfl rfl)
theorem dL_law_2276 : decode cL_law 2276 = .ok (.ifCond .eq 5, 3) := dk_153 0 5 (dk_at dksL_law_88 6 rfl rfl)
theorem dL_law_2279 : decode cL_law 2279 = .ok (.iconst 0, 1) := dk_3 (dk_at dksL_law_88 9 rfl rfl)
theorem dL_law_2280 : decode cL_law 2280 = .ok (.ireturn, 1) := dk_172 (dk_at dksL_law_88 10 rfl rfl)
theorem dL_law_2281 : decode cL_law 2281 = .ok (.goto 283, 3) := dk_167 1 27 (dk_at dksL_law_88 11 rfl rfl)
theorem dL_law_2284 : decode cL_law 2284 = .ok (.aload_n 1, 1) := dk_43 (dk_at dksL_law_88 14 rfl rfl)
theorem dL_law_2285 : decode cL_law 2285 = .ok (.aload_n 0, 1) := dk_42 (dk_at dksL_law_88 15 rfl rfl)
theorem dL_law_2286 : decode cL_law 2286 = .ok (.iload 4, 2) := dk_21 4 (dk_at dksL_law_88 16 rfl rfl)
theorem dL_law_2288 : decode cL_law 2288 = .ok (.iconst 1, 1) := dk_4 (dk_at dksL_law_88 18 rfl rfl)
theorem dL_law_2289 : decode cL_law 2289 = .ok (.iadd, 1) := dk_96 (dk_at dksL_law_88 19 rfl rfl)
theorem dL_law_2290 : decode cL_law 2290 = .ok (.iaload, 1) := dk_46 (dk_at dksL_law_88 20 rfl rfl)
theorem dL_law_2291 : decode cL_law 2291 = .ok (.aload_n 3, 1) := dk_45 (dk_at dksL_law_88 21 rfl rfl)
theorem dL_law_2292 : decode cL_law 2292 = .ok (.invokestatic 282, 3) := dk_184 1 26 (dk_at dksL_law_89 0 rfl rfl)
theorem dL_law_2295 : decode cL_law 2295 = .ok (.istore 5, 2) := dk_54 5 (dk_at dksL_law_89 3 rfl rfl)
theorem dL_law_2297 : decode cL_law 2297 = .ok (.aload_n 2, 1) := dk_44 (dk_at dksL_law_89 5 rfl rfl)
theorem dL_law_2298 : decode cL_law 2298 = .ok (.aload_n 0, 1) := dk_42 (dk_at dksL_law_89 6 rfl rfl)
theorem dL_law_2299 : decode cL_law 2299 = .ok (.iload 4, 2) := dk_21 4 (dk_at dksL_law_89 7 rfl rfl)
theorem dL_law_2301 : decode cL_law 2301 = .ok (.iconst 1, 1) := dk_4 (dk_at dksL_law_89 9 rfl rfl)
theorem dL_law_2302 : decode cL_law 2302 = .ok (.iadd, 1) := dk_96 (dk_at dksL_law_89 10 rfl rfl)
theorem dL_law_2303 : decode cL_law 2303 = .ok (.iaload, 1) := dk_46 (dk_at dksL_law_89 11 rfl rfl)
theorem dL_law_2304 : decode cL_law 2304 = .ok (.invokevirtual 284, 3) := dk_182 1 28 (dk_at dksL_law_89 12 rfl rfl)
theorem dL_law_2307 : decode cL_law 2307 = .ok (.istore 6, 2) := dk_54 6 (dk_at dksL_law_89 15 rfl rfl)
theorem dL_law_2309 : decode cL_law 2309 = .ok (.aload_n 2, 1) := dk_44 (dk_at dksL_law_89 17 rfl rfl)
theorem dL_law_2310 : decode cL_law 2310 = .ok (.invokevirtual 128, 3) := dk_182 0 128 (dk_at dksL_law_89 18 rfl rfl)
theorem dL_law_2313 : decode cL_law 2313 = .ok (.iload 5, 2) := dk_21 5 (dk_at dksL_law_89 21 rfl rfl)
theorem dL_law_2315 : decode cL_law 2315 = .ok (.if_icmp .eq 5, 3) := dk_159 0 5 (dk_at dksL_law_90 0 rfl rfl)
theorem dL_law_2318 : decode cL_law 2318 = .ok (.iconst 0, 1) := dk_3 (dk_at dksL_law_90 3 rfl rfl)
theorem dL_law_2319 : decode cL_law 2319 = .ok (.ireturn, 1) := dk_172 (dk_at dksL_law_90 4 rfl rfl)
theorem dL_law_2320 : decode cL_law 2320 = .ok (.iload 5, 2) := dk_21 5 (dk_at dksL_law_90 5 rfl rfl)
theorem dL_law_2322 : decode cL_law 2322 = .ok (.ifCond .ne 15, 3) := dk_154 0 15 (dk_at dksL_law_90 7 rfl rfl)
theorem dL_law_2325 : decode cL_law 2325 = .ok (.aload_n 3, 1) := dk_45 (dk_at dksL_law_90 10 rfl rfl)
theorem dL_law_2326 : decode cL_law 2326 = .ok (.iconst 0, 1) := dk_3 (dk_at dksL_law_90 11 rfl rfl)
theorem dL_law_2327 : decode cL_law 2327 = .ok (.laload, 1) := dk_47 (dk_at dksL_law_90 12 rfl rfl)
theorem dL_law_2328 : decode cL_law 2328 = .ok (.iload 6, 2) := dk_21 6 (dk_at dksL_law_90 13 rfl rfl)
theorem dL_law_2330 : decode cL_law 2330 = .ok (.i2l, 1) := dk_133 (dk_at dksL_law_90 15 rfl rfl)
theorem dL_law_2331 : decode cL_law 2331 = .ok (.lcmp, 1) := dk_148 (dk_at dksL_law_90 16 rfl rfl)
theorem dL_law_2332 : decode cL_law 2332 = .ok (.ifCond .eq 5, 3) := dk_153 0 5 (dk_at dksL_law_90 17 rfl rfl)
theorem dL_law_2335 : decode cL_law 2335 = .ok (.iconst 0, 1) := dk_3 (dk_at dksL_law_90 20 rfl rfl)
theorem dL_law_2336 : decode cL_law 2336 = .ok (.ireturn, 1) := dk_172 (dk_at dksL_law_90 21 rfl rfl)
theorem dL_law_2337 : decode cL_law 2337 = .ok (.goto 227, 3) := dk_167 0 227 (dk_at dksL_law_91 0 rfl rfl)
theorem dL_law_2340 : decode cL_law 2340 = .ok (.aload_n 1, 1) := dk_43 (dk_at dksL_law_91 3 rfl rfl)
theorem dL_law_2341 : decode cL_law 2341 = .ok (.aload_n 0, 1) := dk_42 (dk_at dksL_law_91 4 rfl rfl)
theorem dL_law_2342 : decode cL_law 2342 = .ok (.iload 4, 2) := dk_21 4 (dk_at dksL_law_91 5 rfl rfl)
theorem dL_law_2344 : decode cL_law 2344 = .ok (.iconst 1, 1) := dk_4 (dk_at dksL_law_91 7 rfl rfl)
theorem dL_law_2345 : decode cL_law 2345 = .ok (.iadd, 1) := dk_96 (dk_at dksL_law_91 8 rfl rfl)
theorem dL_law_2346 : decode cL_law 2346 = .ok (.iaload, 1) := dk_46 (dk_at dksL_law_91 9 rfl rfl)
theorem dL_law_2347 : decode cL_law 2347 = .ok (.aload_n 3, 1) := dk_45 (dk_at dksL_law_91 10 rfl rfl)
theorem dL_law_2348 : decode cL_law 2348 = .ok (.invokestatic 285, 3) := dk_184 1 29 (dk_at dksL_law_91 11 rfl rfl)
theorem dL_law_2351 : decode cL_law 2351 = .ok (.istore 5, 2) := dk_54 5 (dk_at dksL_law_91 14 rfl rfl)
theorem dL_law_2353 : decode cL_law 2353 = .ok (.aload_n 2, 1) := dk_44 (dk_at dksL_law_91 16 rfl rfl)
theorem dL_law_2354 : decode cL_law 2354 = .ok (.aload_n 0, 1) := dk_42 (dk_at dksL_law_91 17 rfl rfl)
theorem dL_law_2355 : decode cL_law 2355 = .ok (.iload 4, 2) := dk_21 4 (dk_at dksL_law_91 18 rfl rfl)
theorem dL_law_2357 : decode cL_law 2357 = .ok (.iconst 1, 1) := dk_4 (dk_at dksL_law_91 20 rfl rfl)
theorem dL_law_2358 : decode cL_law 2358 = .ok (.iadd, 1) := dk_96 (dk_at dksL_law_91 21 rfl rfl)
theorem dL_law_2359 : decode cL_law 2359 = .ok (.iaload, 1) := dk_46 (dk_at dksL_law_91 22 rfl rfl)
theorem dL_law_2360 : decode cL_law 2360 = .ok (.invokevirtual 287, 3) := dk_182 1 31 (dk_at dksL_law_92 0 rfl rfl)
theorem dL_law_2363 : decode cL_law 2363 = .ok (.istore 6, 2) := dk_54 6 (dk_at dksL_law_92 3 rfl rfl)
theorem dL_law_2365 : decode cL_law 2365 = .ok (.aload_n 2, 1) := dk_44 (dk_at dksL_law_92 5 rfl rfl)
theorem dL_law_2366 : decode cL_law 2366 = .ok (.invokevirtual 128, 3) := dk_182 0 128 (dk_at dksL_law_92 6 rfl rfl)
theorem dL_law_2369 : decode cL_law 2369 = .ok (.iload 5, 2) := dk_21 5 (dk_at dksL_law_92 9 rfl rfl)
theorem dL_law_2371 : decode cL_law 2371 = .ok (.if_icmp .eq 5, 3) := dk_159 0 5 (dk_at dksL_law_92 11 rfl rfl)
theorem dL_law_2374 : decode cL_law 2374 = .ok (.iconst 0, 1) := dk_3 (dk_at dksL_law_92 14 rfl rfl)
theorem dL_law_2375 : decode cL_law 2375 = .ok (.ireturn, 1) := dk_172 (dk_at dksL_law_92 15 rfl rfl)
theorem dL_law_2376 : decode cL_law 2376 = .ok (.iload 5, 2) := dk_21 5 (dk_at dksL_law_92 16 rfl rfl)
theorem dL_law_2378 : decode cL_law 2378 = .ok (.ifCond .ne 15, 3) := dk_154 0 15 (dk_at dksL_law_92 18 rfl rfl)
theorem dL_law_2381 : decode cL_law 2381 = .ok (.aload_n 3, 1) := dk_45 (dk_at dksL_law_92 21 rfl rfl)
theorem dL_law_2382 : decode cL_law 2382 = .ok (.iconst 0, 1) := dk_3 (dk_at dksL_law_92 22 rfl rfl)
theorem dL_law_2383 : decode cL_law 2383 = .ok (.laload, 1) := dk_47 (dk_at dksL_law_92 23 rfl rfl)
theorem dL_law_2384 : decode cL_law 2384 = .ok (.iload 6, 2) := dk_21 6 (dk_at dksL_law_93 0 rfl rfl)
theorem dL_law_2386 : decode cL_law 2386 = .ok (.i2l, 1) := dk_133 (dk_at dksL_law_93 2 rfl rfl)
theorem dL_law_2387 : decode cL_law 2387 = .ok (.lcmp, 1) := dk_148 (dk_at dksL_law_93 3 rfl rfl)
theorem dL_law_2388 : decode cL_law 2388 = .ok (.ifCond .eq 5, 3) := dk_153 0 5 (dk_at dksL_law_93 4 rfl rfl)
theorem dL_law_2391 : decode cL_law 2391 = .ok (.iconst 0, 1) := dk_3 (dk_at dksL_law_93 7 rfl rfl)
theorem dL_law_2392 : decode cL_law 2392 = .ok (.ireturn, 1) := dk_172 (dk_at dksL_law_93 8 rfl rfl)
theorem dL_law_2393 : decode cL_law 2393 = .ok (.goto 171, 3) := dk_167 0 171 (dk_at dksL_law_93 9 rfl rfl)
theorem dL_law_2396 : decode cL_law 2396 = .ok (.aload_n 1, 1) := dk_43 (dk_at dksL_law_93 12 rfl rfl)
theorem dL_law_2397 : decode cL_law 2397 = .ok (.aload_n 0, 1) := dk_42 (dk_at dksL_law_93 13 rfl rfl)
theorem dL_law_2398 : decode cL_law 2398 = .ok (.iload 4, 2) := dk_21 4 (dk_at dksL_law_93 14 rfl rfl)
theorem dL_law_2400 : decode cL_law 2400 = .ok (.iconst 1, 1) := dk_4 (dk_at dksL_law_93 16 rfl rfl)
theorem dL_law_2401 : decode cL_law 2401 = .ok (.iadd, 1) := dk_96 (dk_at dksL_law_93 17 rfl rfl)
theorem dL_law_2402 : decode cL_law 2402 = .ok (.iaload, 1) := dk_46 (dk_at dksL_law_93 18 rfl rfl)
theorem dL_law_2403 : decode cL_law 2403 = .ok (.aload_n 3, 1) := dk_45 (dk_at dksL_law_93 19 rfl rfl)
theorem dL_law_2404 : decode cL_law 2404 = .ok (.invokestatic 288, 3) := dk_184 1 32 (dk_at dksL_law_93 20 rfl rfl)
theorem dL_law_2407 : decode cL_law 2407 = .ok (.istore 5, 2) := dk_54 5 (dk_at dksL_law_94 0 rfl rfl)
theorem dL_law_2409 : decode cL_law 2409 = .ok (.aload_n 2, 1) := dk_44 (dk_at dksL_law_94 2 rfl rfl)
theorem dL_law_2410 : decode cL_law 2410 = .ok (.aload_n 0, 1) := dk_42 (dk_at dksL_law_94 3 rfl rfl)
theorem dL_law_2411 : decode cL_law 2411 = .ok (.iload 4, 2) := dk_21 4 (dk_at dksL_law_94 4 rfl rfl)
theorem dL_law_2413 : decode cL_law 2413 = .ok (.iconst 1, 1) := dk_4 (dk_at dksL_law_94 6 rfl rfl)
theorem dL_law_2414 : decode cL_law 2414 = .ok (.iadd, 1) := dk_96 (dk_at dksL_law_94 7 rfl rfl)
theorem dL_law_2415 : decode cL_law 2415 = .ok (.iaload, 1) := dk_46 (dk_at dksL_law_94 8 rfl rfl)
theorem dL_law_2416 : decode cL_law 2416 = .ok (.invokevirtual 290, 3) := dk_182 1 34 (dk_at dksL_law_94 9 rfl rfl)
theorem dL_law_2419 : decode cL_law 2419 = .ok (.istore 6, 2) := dk_54 6 (dk_at dksL_law_94 12 rfl rfl)
theorem dL_law_2421 : decode cL_law 2421 = .ok (.aload_n 2, 1) := dk_44 (dk_at dksL_law_94 14 rfl rfl)
theorem dL_law_2422 : decode cL_law 2422 = .ok (.invokevirtual 128, 3) := dk_182 0 128 (dk_at dksL_law_94 15 rfl rfl)
theorem dL_law_2425 : decode cL_law 2425 = .ok (.iload 5, 2) := dk_21 5 (dk_at dksL_law_94 18 rfl rfl)
theorem dL_law_2427 : decode cL_law 2427 = .ok (.if_icmp .eq 5, 3) := dk_159 0 5 (dk_at dksL_law_94 20 rfl rfl)
theorem dL_law_2430 : decode cL_law 2430 = .ok (.iconst 0, 1) := dk_3 (dk_at dksL_law_94 23 rfl rfl)
theorem dL_law_2431 : decode cL_law 2431 = .ok (.ireturn, 1) := dk_172 (dk_at dksL_law_95 0 rfl rfl)
theorem dL_law_2432 : decode cL_law 2432 = .ok (.iload 5, 2) := dk_21 5 (dk_at dksL_law_95 1 rfl rfl)
theorem dL_law_2434 : decode cL_law 2434 = .ok (.ifCond .ne 15, 3) := dk_154 0 15 (dk_at dksL_law_95 3 rfl rfl)
theorem dL_law_2437 : decode cL_law 2437 = .ok (.aload_n 3, 1) := dk_45 (dk_at dksL_law_95 6 rfl rfl)
theorem dL_law_2438 : decode cL_law 2438 = .ok (.iconst 0, 1) := dk_3 (dk_at dksL_law_95 7 rfl rfl)
theorem dL_law_2439 : decode cL_law 2439 = .ok (.laload, 1) := dk_47 (dk_at dksL_law_95 8 rfl rfl)
theorem dL_law_2440 : decode cL_law 2440 = .ok (.iload 6, 2) := dk_21 6 (dk_at dksL_law_95 9 rfl rfl)
theorem dL_law_2442 : decode cL_law 2442 = .ok (.i2l, 1) := dk_133 (dk_at dksL_law_95 11 rfl rfl)
theorem dL_law_2443 : decode cL_law 2443 = .ok (.lcmp, 1) := dk_148 (dk_at dksL_law_95 12 rfl rfl)
theorem dL_law_2444 : decode cL_law 2444 = .ok (.ifCond .eq 5, 3) := dk_153 0 5 (dk_at dksL_law_95 13 rfl rfl)
theorem dL_law_2447 : decode cL_law 2447 = .ok (.iconst 0, 1) := dk_3 (dk_at dksL_law_95 16 rfl rfl)
theorem dL_law_2448 : decode cL_law 2448 = .ok (.ireturn, 1) := dk_172 (dk_at dksL_law_95 17 rfl rfl)
theorem dL_law_2449 : decode cL_law 2449 = .ok (.goto 115, 3) := dk_167 0 115 (dk_at dksL_law_95 18 rfl rfl)
theorem dL_law_2452 : decode cL_law 2452 = .ok (.aload_n 1, 1) := dk_43 (dk_at dksL_law_95 21 rfl rfl)
theorem dL_law_2453 : decode cL_law 2453 = .ok (.invokevirtual 291, 3) := dk_182 1 35 (dk_at dksL_law_96 0 rfl rfl)
theorem dL_law_2456 : decode cL_law 2456 = .ok (.aload_n 2, 1) := dk_44 (dk_at dksL_law_96 3 rfl rfl)
theorem dL_law_2457 : decode cL_law 2457 = .ok (.invokevirtual 294, 3) := dk_182 1 38 (dk_at dksL_law_96 4 rfl rfl)
theorem dL_law_2460 : decode cL_law 2460 = .ok (.if_icmp .eq 104, 3) := dk_159 0 104 (dk_at dksL_law_96 7 rfl rfl)
theorem dL_law_2463 : decode cL_law 2463 = .ok (.iconst 0, 1) := dk_3 (dk_at dksL_law_96 10 rfl rfl)
theorem dL_law_2464 : decode cL_law 2464 = .ok (.ireturn, 1) := dk_172 (dk_at dksL_law_96 11 rfl rfl)
theorem dL_law_2465 : decode cL_law 2465 = .ok (.aload_n 1, 1) := dk_43 (dk_at dksL_law_96 12 rfl rfl)
theorem dL_law_2466 : decode cL_law 2466 = .ok (.aload_n 3, 1) := dk_45 (dk_at dksL_law_96 13 rfl rfl)
theorem dL_law_2467 : decode cL_law 2467 = .ok (.invokestatic 295, 3) := dk_184 1 39 (dk_at dksL_law_96 14 rfl rfl)
theorem dL_law_2470 : decode cL_law 2470 = .ok (.istore 5, 2) := dk_54 5 (dk_at dksL_law_96 17 rfl rfl)
theorem dL_law_2472 : decode cL_law 2472 = .ok (.aload_n 2, 1) := dk_44 (dk_at dksL_law_96 19 rfl rfl)
theorem dL_law_2473 : decode cL_law 2473 = .ok (.invokevirtual 298, 3) := dk_182 1 42 (dk_at dksL_law_96 20 rfl rfl)
theorem dL_law_2476 : decode cL_law 2476 = .ok (.istore 6, 2) := dk_54 6 (dk_at dksL_law_97 0 rfl rfl)
theorem dL_law_2478 : decode cL_law 2478 = .ok (.aload_n 2, 1) := dk_44 (dk_at dksL_law_97 2 rfl rfl)
theorem dL_law_2479 : decode cL_law 2479 = .ok (.invokevirtual 128, 3) := dk_182 0 128 (dk_at dksL_law_97 3 rfl rfl)
theorem dL_law_2482 : decode cL_law 2482 = .ok (.iload 5, 2) := dk_21 5 (dk_at dksL_law_97 6 rfl rfl)
theorem dL_law_2484 : decode cL_law 2484 = .ok (.if_icmp .eq 5, 3) := dk_159 0 5 (dk_at dksL_law_97 8 rfl rfl)
theorem dL_law_2487 : decode cL_law 2487 = .ok (.iconst 0, 1) := dk_3 (dk_at dksL_law_97 11 rfl rfl)
theorem dL_law_2488 : decode cL_law 2488 = .ok (.ireturn, 1) := dk_172 (dk_at dksL_law_97 12 rfl rfl)
theorem dL_law_2489 : decode cL_law 2489 = .ok (.iload 5, 2) := dk_21 5 (dk_at dksL_law_97 13 rfl rfl)
theorem dL_law_2491 : decode cL_law 2491 = .ok (.ifCond .ne 15, 3) := dk_154 0 15 (dk_at dksL_law_97 15 rfl rfl)
theorem dL_law_2494 : decode cL_law 2494 = .ok (.aload_n 3, 1) := dk_45 (dk_at dksL_law_97 18 rfl rfl)
theorem dL_law_2495 : decode cL_law 2495 = .ok (.iconst 0, 1) := dk_3 (dk_at dksL_law_97 19 rfl rfl)
theorem dL_law_2496 : decode cL_law 2496 = .ok (.laload, 1) := dk_47 (dk_at dksL_law_97 20 rfl rfl)
theorem dL_law_2497 : decode cL_law 2497 = .ok (.iload 6, 2) := dk_21 6 (dk_at dksL_law_97 21 rfl rfl)
theorem dL_law_2499 : decode cL_law 2499 = .ok (.i2l, 1) := dk_133 (dk_at dksL_law_97 23 rfl rfl)
theorem dL_law_2500 : decode cL_law 2500 = .ok (.lcmp, 1) := dk_148 (dk_at dksL_law_98 0 rfl rfl)
theorem dL_law_2501 : decode cL_law 2501 = .ok (.ifCond .eq 5, 3) := dk_153 0 5 (dk_at dksL_law_98 1 rfl rfl)
theorem dL_law_2504 : decode cL_law 2504 = .ok (.iconst 0, 1) := dk_3 (dk_at dksL_law_98 4 rfl rfl)
theorem dL_law_2505 : decode cL_law 2505 = .ok (.ireturn, 1) := dk_172 (dk_at dksL_law_98 5 rfl rfl)
theorem dL_law_2506 : decode cL_law 2506 = .ok (.goto 58, 3) := dk_167 0 58 (dk_at dksL_law_98 6 rfl rfl)
theorem dL_law_2509 : decode cL_law 2509 = .ok (.aload_n 1, 1) := dk_43 (dk_at dksL_law_98 9 rfl rfl)
theorem dL_law_2510 : decode cL_law 2510 = .ok (.invokevirtual 299, 3) := dk_182 1 43 (dk_at dksL_law_98 10 rfl rfl)
theorem dL_law_2513 : decode cL_law 2513 = .ok (.aload_n 2, 1) := dk_44 (dk_at dksL_law_98 13 rfl rfl)
theorem dL_law_2514 : decode cL_law 2514 = .ok (.invokevirtual 302, 3) := dk_182 1 46 (dk_at dksL_law_98 14 rfl rfl)
theorem dL_law_2517 : decode cL_law 2517 = .ok (.goto 47, 3) := dk_167 0 47 (dk_at dksL_law_98 17 rfl rfl)
theorem dL_law_2520 : decode cL_law 2520 = .ok (.aload_n 1, 1) := dk_43 (dk_at dksL_law_98 20 rfl rfl)
theorem dL_law_2521 : decode cL_law 2521 = .ok (.aload_n 3, 1) := dk_45 (dk_at dksL_law_98 21 rfl rfl)
theorem dL_law_2522 : decode cL_law 2522 = .ok (.invokestatic 303, 3) := dk_184 1 47 (dk_at dksL_law_99 0 rfl rfl)
theorem dL_law_2525 : decode cL_law 2525 = .ok (.istore 5, 2) := dk_54 5 (dk_at dksL_law_99 3 rfl rfl)
theorem dL_law_2527 : decode cL_law 2527 = .ok (.aload_n 2, 1) := dk_44 (dk_at dksL_law_99 5 rfl rfl)
theorem dL_law_2528 : decode cL_law 2528 = .ok (.invokevirtual 305, 3) := dk_182 1 49 (dk_at dksL_law_99 6 rfl rfl)
theorem dL_law_2531 : decode cL_law 2531 = .ok (.istore 6, 2) := dk_54 6 (dk_at dksL_law_99 9 rfl rfl)
theorem dL_law_2533 : decode cL_law 2533 = .ok (.aload_n 2, 1) := dk_44 (dk_at dksL_law_99 11 rfl rfl)
theorem dL_law_2534 : decode cL_law 2534 = .ok (.invokevirtual 128, 3) := dk_182 0 128 (dk_at dksL_law_99 12 rfl rfl)
theorem dL_law_2537 : decode cL_law 2537 = .ok (.iload 5, 2) := dk_21 5 (dk_at dksL_law_99 15 rfl rfl)
theorem dL_law_2539 : decode cL_law 2539 = .ok (.if_icmp .eq 5, 3) := dk_159 0 5 (dk_at dksL_law_99 17 rfl rfl)
theorem dL_law_2542 : decode cL_law 2542 = .ok (.iconst 0, 1) := dk_3 (dk_at dksL_law_99 20 rfl rfl)
theorem dL_law_2543 : decode cL_law 2543 = .ok (.ireturn, 1) := dk_172 (dk_at dksL_law_99 21 rfl rfl)
theorem dL_law_2544 : decode cL_law 2544 = .ok (.iload 5, 2) := dk_21 5 (dk_at dksL_law_99 22 rfl rfl)
theorem dL_law_2546 : decode cL_law 2546 = .ok (.ifCond .ne 15, 3) := dk_154 0 15 (dk_at dksL_law_100 0 rfl rfl)
theorem dL_law_2549 : decode cL_law 2549 = .ok (.aload_n 3, 1) := dk_45 (dk_at dksL_law_100 3 rfl rfl)
theorem dL_law_2550 : decode cL_law 2550 = .ok (.iconst 0, 1) := dk_3 (dk_at dksL_law_100 4 rfl rfl)
theorem dL_law_2551 : decode cL_law 2551 = .ok (.laload, 1) := dk_47 (dk_at dksL_law_100 5 rfl rfl)
theorem dL_law_2552 : decode cL_law 2552 = .ok (.iload 6, 2) := dk_21 6 (dk_at dksL_law_100 6 rfl rfl)
theorem dL_law_2554 : decode cL_law 2554 = .ok (.i2l, 1) := dk_133 (dk_at dksL_law_100 8 rfl rfl)
theorem dL_law_2555 : decode cL_law 2555 = .ok (.lcmp, 1) := dk_148 (dk_at dksL_law_100 9 rfl rfl)
theorem dL_law_2556 : decode cL_law 2556 = .ok (.ifCond .eq 5, 3) := dk_153 0 5 (dk_at dksL_law_100 10 rfl rfl)
theorem dL_law_2559 : decode cL_law 2559 = .ok (.iconst 0, 1) := dk_3 (dk_at dksL_law_100 13 rfl rfl)
theorem dL_law_2560 : decode cL_law 2560 = .ok (.ireturn, 1) := dk_172 (dk_at dksL_law_100 14 rfl rfl)
theorem dL_law_2561 : decode cL_law 2561 = .ok (.goto 3, 3) := dk_167 0 3 (dk_at dksL_law_100 15 rfl rfl)
theorem dL_law_2564 : decode cL_law 2564 = .ok (.iinc 4 6, 3) := dk_132 4 6 (dk_at dksL_law_100 18 rfl rfl)
theorem dL_law_2567 : decode cL_law 2567 = .ok (.goto (-2544), 3) := dk_167 246 16 (dk_at dksL_law_100 21 rfl rfl)
theorem dL_law_2570 : decode cL_law 2570 = .ok (.iconst 1, 1) := dk_4 (dk_at dksL_law_101 0 rfl rfl)
theorem dL_law_2571 : decode cL_law 2571 = .ok (.ireturn, 1) := dk_172 (dk_at dksL_law_101 1 rfl rfl)
