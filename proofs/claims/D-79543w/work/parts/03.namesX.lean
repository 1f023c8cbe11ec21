/-! StaffRailwayLaw -/
set_option maxRecDepth 100000
def RX0 : String := "StaffRailwayLaw"
abbrev cX0_tracks : ByteArray := method_3_code
def yX0_tracks : MethodName := ⟨RX0, "tracks", "(LStaffRailway;II[J)I"⟩
def dkwX0_tracks_1 : List UInt8 := [172, 3, 172]
abbrev dktX0_tracks_1 : List UInt8 := dkwX0_tracks_1 ++ []
def dkwX0_tracks_0 : List UInt8 := [45, 3, 42, 27, 28, 182, 0, 7, 133, 80, 167, 0, 15, 58, 4, 4, 172, 58, 4, 5, 172, 58, 4, 6]
abbrev dktX0_tracks_0 : List UInt8 := dkwX0_tracks_0 ++ dktX0_tracks_1
theorem dksX0_tracks_0 : cX0_tracks.data.toList.drop 0 = dktX0_tracks_0 := by decide +kernel
theorem dksX0_tracks_1 : cX0_tracks.data.toList.drop 24 = dktX0_tracks_1 := dk_seg dksX0_tracks_0 24 rfl rfl
theorem dX0_tracks_0 : decode cX0_tracks 0 = .ok (.aload_n 3, 1) := dk_45 (dk_at dksX0_tracks_0 0 rfl rfl)
theorem dX0_tracks_1 : decode cX0_tracks 1 = .ok (.iconst 0, 1) := dk_3 (dk_at dksX0_tracks_0 1 rfl rfl)
theorem dX0_tracks_2 : decode cX0_tracks 2 = .ok (.aload_n 0, 1) := dk_42 (dk_at dksX0_tracks_0 2 rfl rfl)
theorem dX0_tracks_3 : decode cX0_tracks 3 = .ok (.iload_n 1, 1) := dk_27 (dk_at dksX0_tracks_0 3 rfl rfl)
theorem dX0_tracks_4 : decode cX0_tracks 4 = .ok (.iload_n 2, 1) := dk_28 (dk_at dksX0_tracks_0 4 rfl rfl)
theorem dX0_tracks_5 : decode cX0_tracks 5 = .ok (.invokevirtual 7, 3) := dk_182 0 7 (dk_at dksX0_tracks_0 5 rfl rfl)
theorem dX0_tracks_8 : decode cX0_tracks 8 = .ok (.i2l, 1) := dk_133 (dk_at dksX0_tracks_0 8 rfl rfl)
theorem dX0_tracks_9 : decode cX0_tracks 9 = .ok (.lastore, 1) := dk_80 (dk_at dksX0_tracks_0 9 rfl rfl)
theorem dX0_tracks_10 : decode cX0_tracks 10 = .ok (.goto 15, 3) := dk_167 0 15 (dk_at dksX0_tracks_0 10 rfl rfl)
theorem dX0_tracks_13 : decode cX0_tracks 13 = .ok (.astore 4, 2) := dk_58 4 (dk_at dksX0_tracks_0 13 rfl rfl)
theorem dX0_tracks_15 : decode cX0_tracks 15 = .ok (.iconst 1, 1) := dk_4 (dk_at dksX0_tracks_0 15 rfl rfl)
theorem dX0_tracks_16 : decode cX0_tracks 16 = .ok (.ireturn, 1) := dk_172 (dk_at dksX0_tracks_0 16 rfl rfl)
theorem dX0_tracks_17 : decode cX0_tracks 17 = .ok (.astore 4, 2) := dk_58 4 (dk_at dksX0_tracks_0 17 rfl rfl)
theorem dX0_tracks_19 : decode cX0_tracks 19 = .ok (.iconst 2, 1) := dk_5 (dk_at dksX0_tracks_0 19 rfl rfl)
theorem dX0_tracks_20 : decode cX0_tracks 20 = .ok (.ireturn, 1) := dk_172 (dk_at dksX0_tracks_0 20 rfl rfl)
theorem dX0_tracks_21 : decode cX0_tracks 21 = .ok (.astore 4, 2) := dk_58 4 (dk_at dksX0_tracks_0 21 rfl rfl)
theorem dX0_tracks_23 : decode cX0_tracks 23 = .ok (.iconst 3, 1) := dk_6 (dk_at dksX0_tracks_0 23 rfl rfl)
theorem dX0_tracks_24 : decode cX0_tracks 24 = .ok (.ireturn, 1) := dk_172 (dk_at dksX0_tracks_1 0 rfl rfl)
theorem dX0_tracks_25 : decode cX0_tracks 25 = .ok (.iconst 0, 1) := dk_3 (dk_at dksX0_tracks_1 1 rfl rfl)
theorem dX0_tracks_26 : decode cX0_tracks 26 = .ok (.ireturn, 1) := dk_172 (dk_at dksX0_tracks_1 2 rfl rfl)
abbrev cX0_stretch : ByteArray := method_4_code
def yX0_stretch : MethodName := ⟨RX0, "stretch", "(LStaffRailway;IIII[J)I"⟩
def dkwX0_stretch_1 : List UInt8 := [172, 58, 6, 6, 172, 3, 172]
abbrev dktX0_stretch_1 : List UInt8 := dkwX0_stretch_1 ++ []
def dkwX0_stretch_0 : List UInt8 := [25, 5, 3, 42, 27, 28, 29, 21, 4, 182, 0, 19, 133, 80, 167, 0, 15, 58, 6, 4, 172, 58, 6, 5]
abbrev dktX0_stretch_0 : List UInt8 := dkwX0_stretch_0 ++ dktX0_stretch_1
theorem dksX0_stretch_0 : cX0_stretch.data.toList.drop 0 = dktX0_stretch_0 := by decide +kernel
theorem dksX0_stretch_1 : cX0_stretch.data.toList.drop 24 = dktX0_stretch_1 := dk_seg dksX0_stretch_0 24 rfl rfl
theorem dX0_stretch_0 : decode cX0_stretch 0 = .ok (.aload 5, 2) := dk_25 5 (dk_at dksX0_stretch_0 0 rfl rfl)
theorem dX0_stretch_2 : decode cX0_stretch 2 = .ok (.iconst 0, 1) := dk_3 (dk_at dksX0_stretch_0 2 rfl rfl)
theorem dX0_stretch_3 : decode cX0_stretch 3 = .ok (.aload_n 0, 1) := dk_42 (dk_at dksX0_stretch_0 3 rfl rfl)
theorem dX0_stretch_4 : decode cX0_stretch 4 = .ok (.iload_n 1, 1) := dk_27 (dk_at dksX0_stretch_0 4 rfl rfl)
theorem dX0_stretch_5 : decode cX0_stretch 5 = .ok (.iload_n 2, 1) := dk_28 (dk_at dksX0_stretch_0 5 rfl rfl)
theorem dX0_stretch_6 : decode cX0_stretch 6 = .ok (.iload_n 3, 1) := dk_29 (dk_at dksX0_stretch_0 6 rfl rfl)
theorem dX0_stretch_7 : decode cX0_stretch 7 = .ok (.iload 4, 2) := dk_21 4 (dk_at dksX0_stretch_0 7 rfl rfl)
theorem dX0_stretch_9 : decode cX0_stretch 9 = .ok (.invokevirtual 19, 3) := dk_182 0 19 (dk_at dksX0_stretch_0 9 rfl rfl)
theorem dX0_stretch_12 : decode cX0_stretch 12 = .ok (.i2l, 1) := dk_133 (dk_at dksX0_stretch_0 12 rfl rfl)
theorem dX0_stretch_13 : decode cX0_stretch 13 = .ok (.lastore, 1) := dk_80 (dk_at dksX0_stretch_0 13 rfl rfl)
theorem dX0_stretch_14 : decode cX0_stretch 14 = .ok (.goto 15, 3) := dk_167 0 15 (dk_at dksX0_stretch_0 14 rfl rfl)
theorem dX0_stretch_17 : decode cX0_stretch 17 = .ok (.astore 6, 2) := dk_58 6 (dk_at dksX0_stretch_0 17 rfl rfl)
theorem dX0_stretch_19 : decode cX0_stretch 19 = .ok (.iconst 1, 1) := dk_4 (dk_at dksX0_stretch_0 19 rfl rfl)
theorem dX0_stretch_20 : decode cX0_stretch 20 = .ok (.ireturn, 1) := dk_172 (dk_at dksX0_stretch_0 20 rfl rfl)
theorem dX0_stretch_21 : decode cX0_stretch 21 = .ok (.astore 6, 2) := dk_58 6 (dk_at dksX0_stretch_0 21 rfl rfl)
theorem dX0_stretch_23 : decode cX0_stretch 23 = .ok (.iconst 2, 1) := dk_5 (dk_at dksX0_stretch_0 23 rfl rfl)
theorem dX0_stretch_24 : decode cX0_stretch 24 = .ok (.ireturn, 1) := dk_172 (dk_at dksX0_stretch_1 0 rfl rfl)
theorem dX0_stretch_25 : decode cX0_stretch 25 = .ok (.astore 6, 2) := dk_58 6 (dk_at dksX0_stretch_1 1 rfl rfl)
theorem dX0_stretch_27 : decode cX0_stretch 27 = .ok (.iconst 3, 1) := dk_6 (dk_at dksX0_stretch_1 3 rfl rfl)
theorem dX0_stretch_28 : decode cX0_stretch 28 = .ok (.ireturn, 1) := dk_172 (dk_at dksX0_stretch_1 4 rfl rfl)
theorem dX0_stretch_29 : decode cX0_stretch 29 = .ok (.iconst 0, 1) := dk_3 (dk_at dksX0_stretch_1 5 rfl rfl)
theorem dX0_stretch_30 : decode cX0_stretch 30 = .ok (.ireturn, 1) := dk_172 (dk_at dksX0_stretch_1 6 rfl rfl)
abbrev cX0_stationOf : ByteArray := method_5_code
def yX0_stationOf : MethodName := ⟨RX0, "stationOf", "(LStaffRailway;II[J)I"⟩
def dkwX0_stationOf_0 : List UInt8 := [45, 3, 42, 27, 28, 182, 0, 23, 133, 80, 167, 0, 11, 58, 4, 4, 172, 58, 4, 5, 172, 3, 172]
abbrev dktX0_stationOf_0 : List UInt8 := dkwX0_stationOf_0 ++ []
theorem dksX0_stationOf_0 : cX0_stationOf.data.toList.drop 0 = dktX0_stationOf_0 := by decide +kernel
theorem dX0_stationOf_0 : decode cX0_stationOf 0 = .ok (.aload_n 3, 1) := dk_45 (dk_at dksX0_stationOf_0 0 rfl rfl)
theorem dX0_stationOf_1 : decode cX0_stationOf 1 = .ok (.iconst 0, 1) := dk_3 (dk_at dksX0_stationOf_0 1 rfl rfl)
theorem dX0_stationOf_2 : decode cX0_stationOf 2 = .ok (.aload_n 0, 1) := dk_42 (dk_at dksX0_stationOf_0 2 rfl rfl)
theorem dX0_stationOf_3 : decode cX0_stationOf 3 = .ok (.iload_n 1, 1) := dk_27 (dk_at dksX0_stationOf_0 3 rfl rfl)
theorem dX0_stationOf_4 : decode cX0_stationOf 4 = .ok (.iload_n 2, 1) := dk_28 (dk_at dksX0_stationOf_0 4 rfl rfl)
theorem dX0_stationOf_5 : decode cX0_stationOf 5 = .ok (.invokevirtual 23, 3) := dk_182 0 23 (dk_at dksX0_stationOf_0 5 rfl rfl)
theorem dX0_stationOf_8 : decode cX0_stationOf 8 = .ok (.i2l, 1) := dk_133 (dk_at dksX0_stationOf_0 8 rfl rfl)
theorem dX0_stationOf_9 : decode cX0_stationOf 9 = .ok (.lastore, 1) := dk_80 (dk_at dksX0_stationOf_0 9 rfl rfl)
theorem dX0_stationOf_10 : decode cX0_stationOf 10 = .ok (.goto 11, 3) := dk_167 0 11 (dk_at dksX0_stationOf_0 10 rfl rfl)
theorem dX0_stationOf_13 : decode cX0_stationOf 13 = .ok (.astore 4, 2) := dk_58 4 (dk_at dksX0_stationOf_0 13 rfl rfl)
theorem dX0_stationOf_15 : decode cX0_stationOf 15 = .ok (.iconst 1, 1) := dk_4 (dk_at dksX0_stationOf_0 15 rfl rfl)
theorem dX0_stationOf_16 : decode cX0_stationOf 16 = .ok (.ireturn, 1) := dk_172 (dk_at dksX0_stationOf_0 16 rfl rfl)
theorem dX0_stationOf_17 : decode cX0_stationOf 17 = .ok (.astore 4, 2) := dk_58 4 (dk_at dksX0_stationOf_0 17 rfl rfl)
theorem dX0_stationOf_19 : decode cX0_stationOf 19 = .ok (.iconst 2, 1) := dk_5 (dk_at dksX0_stationOf_0 19 rfl rfl)
theorem dX0_stationOf_20 : decode cX0_stationOf 20 = .ok (.ireturn, 1) := dk_172 (dk_at dksX0_stationOf_0 20 rfl rfl)
theorem dX0_stationOf_21 : decode cX0_stationOf 21 = .ok (.iconst 0, 1) := dk_3 (dk_at dksX0_stationOf_0 21 rfl rfl)
theorem dX0_stationOf_22 : decode cX0_stationOf 22 = .ok (.ireturn, 1) := dk_172 (dk_at dksX0_stationOf_0 22 rfl rfl)
abbrev cX0_stretchOf : ByteArray := method_6_code
def yX0_stretchOf : MethodName := ⟨RX0, "stretchOf", "(LStaffRailway;II[J)I"⟩
def dkwX0_stretchOf_0 : List UInt8 := [45, 3, 42, 27, 28, 182, 0, 26, 133, 80, 167, 0, 11, 58, 4, 4, 172, 58, 4, 5, 172, 3, 172]
abbrev dktX0_stretchOf_0 : List UInt8 := dkwX0_stretchOf_0 ++ []
theorem dksX0_stretchOf_0 : cX0_stretchOf.data.toList.drop 0 = dktX0_stretchOf_0 := by decide +kernel
theorem dX0_stretchOf_0 : decode cX0_stretchOf 0 = .ok (.aload_n 3, 1) := dk_45 (dk_at dksX0_stretchOf_0 0 rfl rfl)
theorem dX0_stretchOf_1 : decode cX0_stretchOf 1 = .ok (.iconst 0, 1) := dk_3 (dk_at dksX0_stretchOf_0 1 rfl rfl)
theorem dX0_stretchOf_2 : decode cX0_stretchOf 2 = .ok (.aload_n 0, 1) := dk_42 (dk_at dksX0_stretchOf_0 2 rfl rfl)
theorem dX0_stretchOf_3 : decode cX0_stretchOf 3 = .ok (.iload_n 1, 1) := dk_27 (dk_at dksX0_stretchOf_0 3 rfl rfl)
theorem dX0_stretchOf_4 : decode cX0_stretchOf 4 = .ok (.iload_n 2, 1) := dk_28 (dk_at dksX0_stretchOf_0 4 rfl rfl)
theorem dX0_stretchOf_5 : decode cX0_stretchOf 5 = .ok (.invokevirtual 26, 3) := dk_182 0 26 (dk_at dksX0_stretchOf_0 5 rfl rfl)
theorem dX0_stretchOf_8 : decode cX0_stretchOf 8 = .ok (.i2l, 1) := dk_133 (dk_at dksX0_stretchOf_0 8 rfl rfl)
theorem dX0_stretchOf_9 : decode cX0_stretchOf 9 = .ok (.lastore, 1) := dk_80 (dk_at dksX0_stretchOf_0 9 rfl rfl)
theorem dX0_stretchOf_10 : decode cX0_stretchOf 10 = .ok (.goto 11, 3) := dk_167 0 11 (dk_at dksX0_stretchOf_0 10 rfl rfl)
theorem dX0_stretchOf_13 : decode cX0_stretchOf 13 = .ok (.astore 4, 2) := dk_58 4 (dk_at dksX0_stretchOf_0 13 rfl rfl)
theorem dX0_stretchOf_15 : decode cX0_stretchOf 15 = .ok (.iconst 1, 1) := dk_4 (dk_at dksX0_stretchOf_0 15 rfl rfl)
theorem dX0_stretchOf_16 : decode cX0_stretchOf 16 = .ok (.ireturn, 1) := dk_172 (dk_at dksX0_stretchOf_0 16 rfl rfl)
theorem dX0_stretchOf_17 : decode cX0_stretchOf 17 = .ok (.astore 4, 2) := dk_58 4 (dk_at dksX0_stretchOf_0 17 rfl rfl)
theorem dX0_stretchOf_19 : decode cX0_stretchOf 19 = .ok (.iconst 2, 1) := dk_5 (dk_at dksX0_stretchOf_0 19 rfl rfl)
theorem dX0_stretchOf_20 : decode cX0_stretchOf 20 = .ok (.ireturn, 1) := dk_172 (dk_at dksX0_stretchOf_0 20 rfl rfl)
theorem dX0_stretchOf_21 : decode cX0_stretchOf 21 = .ok (.iconst 0, 1) := dk_3 (dk_at dksX0_stretchOf_0 21 rfl rfl)
theorem dX0_stretchOf_22 : decode cX0_stretchOf 22 = .ok (.ireturn, 1) := dk_172 (dk_at dksX0_stretchOf_0 22 rfl rfl)
abbrev cX0_train : ByteArray := method_7_code
def yX0_train : MethodName := ⟨RX0, "train", "(LStaffRailway;II[J)I"⟩
def dkwX0_train_1 : List UInt8 := [172, 3, 172]
abbrev dktX0_train_1 : List UInt8 := dkwX0_train_1 ++ []
def dkwX0_train_0 : List UInt8 := [45, 3, 42, 27, 28, 182, 0, 29, 133, 80, 167, 0, 15, 58, 4, 4, 172, 58, 4, 5, 172, 58, 4, 6]
abbrev dktX0_train_0 : List UInt8 := dkwX0_train_0 ++ dktX0_train_1
theorem dksX0_train_0 : cX0_train.data.toList.drop 0 = dktX0_train_0 := by decide +kernel
theorem dksX0_train_1 : cX0_train.data.toList.drop 24 = dktX0_train_1 := dk_seg dksX0_train_0 24 rfl rfl
theorem dX0_train_0 : decode cX0_train 0 = .ok (.aload_n 3, 1) := dk_45 (dk_at dksX0_train_0 0 rfl rfl)
theorem dX0_train_1 : decode cX0_train 1 = .ok (.iconst 0, 1) := dk_3 (dk_at dksX0_train_0 1 rfl rfl)
theorem dX0_train_2 : decode cX0_train 2 = .ok (.aload_n 0, 1) := dk_42 (dk_at dksX0_train_0 2 rfl rfl)
theorem dX0_train_3 : decode cX0_train 3 = .ok (.iload_n 1, 1) := dk_27 (dk_at dksX0_train_0 3 rfl rfl)
theorem dX0_train_4 : decode cX0_train 4 = .ok (.iload_n 2, 1) := dk_28 (dk_at dksX0_train_0 4 rfl rfl)
theorem dX0_train_5 : decode cX0_train 5 = .ok (.invokevirtual 29, 3) := dk_182 0 29 (dk_at dksX0_train_0 5 rfl rfl)
theorem dX0_train_8 : decode cX0_train 8 = .ok (.i2l, 1) := dk_133 (dk_at dksX0_train_0 8 rfl rfl)
theorem dX0_train_9 : decode cX0_train 9 = .ok (.lastore, 1) := dk_80 (dk_at dksX0_train_0 9 rfl rfl)
theorem dX0_train_10 : decode cX0_train 10 = .ok (.goto 15, 3) := dk_167 0 15 (dk_at dksX0_train_0 10 rfl rfl)
theorem dX0_train_13 : decode cX0_train 13 = .ok (.astore 4, 2) := dk_58 4 (dk_at dksX0_train_0 13 rfl rfl)
theorem dX0_train_15 : decode cX0_train 15 = .ok (.iconst 1, 1) := dk_4 (dk_at dksX0_train_0 15 rfl rfl)
theorem dX0_train_16 : decode cX0_train 16 = .ok (.ireturn, 1) := dk_172 (dk_at dksX0_train_0 16 rfl rfl)
theorem dX0_train_17 : decode cX0_train 17 = .ok (.astore 4, 2) := dk_58 4 (dk_at dksX0_train_0 17 rfl rfl)
theorem dX0_train_19 : decode cX0_train 19 = .ok (.iconst 2, 1) := dk_5 (dk_at dksX0_train_0 19 rfl rfl)
theorem dX0_train_20 : decode cX0_train 20 = .ok (.ireturn, 1) := dk_172 (dk_at dksX0_train_0 20 rfl rfl)
theorem dX0_train_21 : decode cX0_train 21 = .ok (.astore 4, 2) := dk_58 4 (dk_at dksX0_train_0 21 rfl rfl)
theorem dX0_train_23 : decode cX0_train 23 = .ok (.iconst 3, 1) := dk_6 (dk_at dksX0_train_0 23 rfl rfl)
theorem dX0_train_24 : decode cX0_train 24 = .ok (.ireturn, 1) := dk_172 (dk_at dksX0_train_1 0 rfl rfl)
theorem dX0_train_25 : decode cX0_train 25 = .ok (.iconst 0, 1) := dk_3 (dk_at dksX0_train_1 1 rfl rfl)
theorem dX0_train_26 : decode cX0_train 26 = .ok (.ireturn, 1) := dk_172 (dk_at dksX0_train_1 2 rfl rfl)
abbrev cX0_remove : ByteArray := method_8_code
def yX0_remove : MethodName := ⟨RX0, "remove", "(LStaffRailway;I[J)I"⟩
def dkwX0_remove_0 : List UInt8 := [44, 3, 42, 27, 182, 0, 32, 133, 80, 167, 0, 6, 78, 4, 172, 3, 172]
abbrev dktX0_remove_0 : List UInt8 := dkwX0_remove_0 ++ []
theorem dksX0_remove_0 : cX0_remove.data.toList.drop 0 = dktX0_remove_0 := by decide +kernel
theorem dX0_remove_0 : decode cX0_remove 0 = .ok (.aload_n 2, 1) := dk_44 (dk_at dksX0_remove_0 0 rfl rfl)
theorem dX0_remove_1 : decode cX0_remove 1 = .ok (.iconst 0, 1) := dk_3 (dk_at dksX0_remove_0 1 rfl rfl)
theorem dX0_remove_2 : decode cX0_remove 2 = .ok (.aload_n 0, 1) := dk_42 (dk_at dksX0_remove_0 2 rfl rfl)
theorem dX0_remove_3 : decode cX0_remove 3 = .ok (.iload_n 1, 1) := dk_27 (dk_at dksX0_remove_0 3 rfl rfl)
theorem dX0_remove_4 : decode cX0_remove 4 = .ok (.invokevirtual 32, 3) := dk_182 0 32 (dk_at dksX0_remove_0 4 rfl rfl)
theorem dX0_remove_7 : decode cX0_remove 7 = .ok (.i2l, 1) := dk_133 (dk_at dksX0_remove_0 7 rfl rfl)
theorem dX0_remove_8 : decode cX0_remove 8 = .ok (.lastore, 1) := dk_80 (dk_at dksX0_remove_0 8 rfl rfl)
theorem dX0_remove_9 : decode cX0_remove 9 = .ok (.goto 6, 3) := dk_167 0 6 (dk_at dksX0_remove_0 9 rfl rfl)
theorem dX0_remove_12 : decode cX0_remove 12 = .ok (.astore_n 3, 1) := dk_78 (dk_at dksX0_remove_0 12 rfl rfl)
theorem dX0_remove_13 : decode cX0_remove 13 = .ok (.iconst 1, 1) := dk_4 (dk_at dksX0_remove_0 13 rfl rfl)
theorem dX0_remove_14 : decode cX0_remove 14 = .ok (.ireturn, 1) := dk_172 (dk_at dksX0_remove_0 14 rfl rfl)
theorem dX0_remove_15 : decode cX0_remove 15 = .ok (.iconst 0, 1) := dk_3 (dk_at dksX0_remove_0 15 rfl rfl)
theorem dX0_remove_16 : decode cX0_remove 16 = .ok (.ireturn, 1) := dk_172 (dk_at dksX0_remove_0 16 rfl rfl)
abbrev cX0_divide : ByteArray := method_9_code
def yX0_divide : MethodName := ⟨RX0, "divide", "(LStaffRailway;II[J)I"⟩
def dkwX0_divide_0 : List UInt8 := [45, 3, 42, 27, 28, 182, 0, 36, 133, 80, 167, 0, 7, 58, 4, 4, 172, 3, 172]
abbrev dktX0_divide_0 : List UInt8 := dkwX0_divide_0 ++ []
theorem dksX0_divide_0 : cX0_divide.data.toList.drop 0 = dktX0_divide_0 := by decide +kernel
theorem dX0_divide_0 : decode cX0_divide 0 = .ok (.aload_n 3, 1) := dk_45 (dk_at dksX0_divide_0 0 rfl rfl)
theorem dX0_divide_1 : decode cX0_divide 1 = .ok (.iconst 0, 1) := dk_3 (dk_at dksX0_divide_0 1 rfl rfl)
theorem dX0_divide_2 : decode cX0_divide 2 = .ok (.aload_n 0, 1) := dk_42 (dk_at dksX0_divide_0 2 rfl rfl)
theorem dX0_divide_3 : decode cX0_divide 3 = .ok (.iload_n 1, 1) := dk_27 (dk_at dksX0_divide_0 3 rfl rfl)
theorem dX0_divide_4 : decode cX0_divide 4 = .ok (.iload_n 2, 1) := dk_28 (dk_at dksX0_divide_0 4 rfl rfl)
theorem dX0_divide_5 : decode cX0_divide 5 = .ok (.invokevirtual 36, 3) := dk_182 0 36 (dk_at dksX0_divide_0 5 rfl rfl)
theorem dX0_divide_8 : decode cX0_divide 8 = .ok (.i2l, 1) := dk_133 (dk_at dksX0_divide_0 8 rfl rfl)
theorem dX0_divide_9 : decode cX0_divide 9 = .ok (.lastore, 1) := dk_80 (dk_at dksX0_divide_0 9 rfl rfl)
theorem dX0_divide_10 : decode cX0_divide 10 = .ok (.goto 7, 3) := dk_167 0 7 (dk_at dksX0_divide_0 10 rfl rfl)
theorem dX0_divide_13 : decode cX0_divide 13 = .ok (.astore 4, 2) := dk_58 4 (dk_at dksX0_divide_0 13 rfl rfl)
theorem dX0_divide_15 : decode cX0_divide 15 = .ok (.iconst 1, 1) := dk_4 (dk_at dksX0_divide_0 15 rfl rfl)
theorem dX0_divide_16 : decode cX0_divide 16 = .ok (.ireturn, 1) := dk_172 (dk_at dksX0_divide_0 16 rfl rfl)
theorem dX0_divide_17 : decode cX0_divide 17 = .ok (.iconst 0, 1) := dk_3 (dk_at dksX0_divide_0 17 rfl rfl)
theorem dX0_divide_18 : decode cX0_divide 18 = .ok (.ireturn, 1) := dk_172 (dk_at dksX0_divide_0 18 rfl rfl)
abbrev cX0_couple : ByteArray := method_10_code
def yX0_couple : MethodName := ⟨RX0, "couple", "(LStaffRailway;II[J)I"⟩
def dkwX0_couple_0 : List UInt8 := [45, 3, 42, 27, 28, 182, 0, 39, 133, 80, 167, 0, 11, 58, 4, 4, 172, 58, 4, 5, 172, 3, 172]
abbrev dktX0_couple_0 : List UInt8 := dkwX0_couple_0 ++ []
theorem dksX0_couple_0 : cX0_couple.data.toList.drop 0 = dktX0_couple_0 := by decide +kernel
theorem dX0_couple_0 : decode cX0_couple 0 = .ok (.aload_n 3, 1) := dk_45 (dk_at dksX0_couple_0 0 rfl rfl)
theorem dX0_couple_1 : decode cX0_couple 1 = .ok (.iconst 0, 1) := dk_3 (dk_at dksX0_couple_0 1 rfl rfl)
theorem dX0_couple_2 : decode cX0_couple 2 = .ok (.aload_n 0, 1) := dk_42 (dk_at dksX0_couple_0 2 rfl rfl)
theorem dX0_couple_3 : decode cX0_couple 3 = .ok (.iload_n 1, 1) := dk_27 (dk_at dksX0_couple_0 3 rfl rfl)
theorem dX0_couple_4 : decode cX0_couple 4 = .ok (.iload_n 2, 1) := dk_28 (dk_at dksX0_couple_0 4 rfl rfl)
theorem dX0_couple_5 : decode cX0_couple 5 = .ok (.invokevirtual 39, 3) := dk_182 0 39 (dk_at dksX0_couple_0 5 rfl rfl)
theorem dX0_couple_8 : decode cX0_couple 8 = .ok (.i2l, 1) := dk_133 (dk_at dksX0_couple_0 8 rfl rfl)
theorem dX0_couple_9 : decode cX0_couple 9 = .ok (.lastore, 1) := dk_80 (dk_at dksX0_couple_0 9 rfl rfl)
theorem dX0_couple_10 : decode cX0_couple 10 = .ok (.goto 11, 3) := dk_167 0 11 (dk_at dksX0_couple_0 10 rfl rfl)
theorem dX0_couple_13 : decode cX0_couple 13 = .ok (.astore 4, 2) := dk_58 4 (dk_at dksX0_couple_0 13 rfl rfl)
theorem dX0_couple_15 : decode cX0_couple 15 = .ok (.iconst 1, 1) := dk_4 (dk_at dksX0_couple_0 15 rfl rfl)
theorem dX0_couple_16 : decode cX0_couple 16 = .ok (.ireturn, 1) := dk_172 (dk_at dksX0_couple_0 16 rfl rfl)
theorem dX0_couple_17 : decode cX0_couple 17 = .ok (.astore 4, 2) := dk_58 4 (dk_at dksX0_couple_0 17 rfl rfl)
theorem dX0_couple_19 : decode cX0_couple 19 = .ok (.iconst 2, 1) := dk_5 (dk_at dksX0_couple_0 19 rfl rfl)
theorem dX0_couple_20 : decode cX0_couple 20 = .ok (.ireturn, 1) := dk_172 (dk_at dksX0_couple_0 20 rfl rfl)
theorem dX0_couple_21 : decode cX0_couple 21 = .ok (.iconst 0, 1) := dk_3 (dk_at dksX0_couple_0 21 rfl rfl)
theorem dX0_couple_22 : decode cX0_couple 22 = .ok (.ireturn, 1) := dk_172 (dk_at dksX0_couple_0 22 rfl rfl)
abbrev cX0_trainOf : ByteArray := method_11_code
def yX0_trainOf : MethodName := ⟨RX0, "trainOf", "(LStaffRailway;II[J)I"⟩
def dkwX0_trainOf_0 : List UInt8 := [45, 3, 42, 27, 28, 182, 0, 42, 133, 80, 167, 0, 11, 58, 4, 4, 172, 58, 4, 5, 172, 3, 172]
abbrev dktX0_trainOf_0 : List UInt8 := dkwX0_trainOf_0 ++ []
theorem dksX0_trainOf_0 : cX0_trainOf.data.toList.drop 0 = dktX0_trainOf_0 := by decide +kernel
theorem dX0_trainOf_0 : decode cX0_trainOf 0 = .ok (.aload_n 3, 1) := dk_45 (dk_at dksX0_trainOf_0 0 rfl rfl)
theorem dX0_trainOf_1 : decode cX0_trainOf 1 = .ok (.iconst 0, 1) := dk_3 (dk_at dksX0_trainOf_0 1 rfl rfl)
theorem dX0_trainOf_2 : decode cX0_trainOf 2 = .ok (.aload_n 0, 1) := dk_42 (dk_at dksX0_trainOf_0 2 rfl rfl)
theorem dX0_trainOf_3 : decode cX0_trainOf 3 = .ok (.iload_n 1, 1) := dk_27 (dk_at dksX0_trainOf_0 3 rfl rfl)
theorem dX0_trainOf_4 : decode cX0_trainOf 4 = .ok (.iload_n 2, 1) := dk_28 (dk_at dksX0_trainOf_0 4 rfl rfl)
theorem dX0_trainOf_5 : decode cX0_trainOf 5 = .ok (.invokevirtual 42, 3) := dk_182 0 42 (dk_at dksX0_trainOf_0 5 rfl rfl)
theorem dX0_trainOf_8 : decode cX0_trainOf 8 = .ok (.i2l, 1) := dk_133 (dk_at dksX0_trainOf_0 8 rfl rfl)
theorem dX0_trainOf_9 : decode cX0_trainOf 9 = .ok (.lastore, 1) := dk_80 (dk_at dksX0_trainOf_0 9 rfl rfl)
theorem dX0_trainOf_10 : decode cX0_trainOf 10 = .ok (.goto 11, 3) := dk_167 0 11 (dk_at dksX0_trainOf_0 10 rfl rfl)
theorem dX0_trainOf_13 : decode cX0_trainOf 13 = .ok (.astore 4, 2) := dk_58 4 (dk_at dksX0_trainOf_0 13 rfl rfl)
theorem dX0_trainOf_15 : decode cX0_trainOf 15 = .ok (.iconst 1, 1) := dk_4 (dk_at dksX0_trainOf_0 15 rfl rfl)
theorem dX0_trainOf_16 : decode cX0_trainOf 16 = .ok (.ireturn, 1) := dk_172 (dk_at dksX0_trainOf_0 16 rfl rfl)
theorem dX0_trainOf_17 : decode cX0_trainOf 17 = .ok (.astore 4, 2) := dk_58 4 (dk_at dksX0_trainOf_0 17 rfl rfl)
theorem dX0_trainOf_19 : decode cX0_trainOf 19 = .ok (.iconst 2, 1) := dk_5 (dk_at dksX0_trainOf_0 19 rfl rfl)
theorem dX0_trainOf_20 : decode cX0_trainOf 20 = .ok (.ireturn, 1) := dk_172 (dk_at dksX0_trainOf_0 20 rfl rfl)
theorem dX0_trainOf_21 : decode cX0_trainOf 21 = .ok (.iconst 0, 1) := dk_3 (dk_at dksX0_trainOf_0 21 rfl rfl)
theorem dX0_trainOf_22 : decode cX0_trainOf 22 = .ok (.ireturn, 1) := dk_172 (dk_at dksX0_trainOf_0 22 rfl rfl)
abbrev cX0_send : ByteArray := method_12_code
def yX0_send : MethodName := ⟨RX0, "send", "(LStaffRailway;II[J)I"⟩
def dkwX0_send_0 : List UInt8 := [45, 3, 42, 27, 28, 182, 0, 45, 133, 80, 167, 0, 7, 58, 4, 4, 172, 3, 172]
abbrev dktX0_send_0 : List UInt8 := dkwX0_send_0 ++ []
theorem dksX0_send_0 : cX0_send.data.toList.drop 0 = dktX0_send_0 := by decide +kernel
theorem dX0_send_0 : decode cX0_send 0 = .ok (.aload_n 3, 1) := dk_45 (dk_at dksX0_send_0 0 rfl rfl)
theorem dX0_send_1 : decode cX0_send 1 = .ok (.iconst 0, 1) := dk_3 (dk_at dksX0_send_0 1 rfl rfl)
theorem dX0_send_2 : decode cX0_send 2 = .ok (.aload_n 0, 1) := dk_42 (dk_at dksX0_send_0 2 rfl rfl)
theorem dX0_send_3 : decode cX0_send 3 = .ok (.iload_n 1, 1) := dk_27 (dk_at dksX0_send_0 3 rfl rfl)
theorem dX0_send_4 : decode cX0_send 4 = .ok (.iload_n 2, 1) := dk_28 (dk_at dksX0_send_0 4 rfl rfl)
theorem dX0_send_5 : decode cX0_send 5 = .ok (.invokevirtual 45, 3) := dk_182 0 45 (dk_at dksX0_send_0 5 rfl rfl)
theorem dX0_send_8 : decode cX0_send 8 = .ok (.i2l, 1) := dk_133 (dk_at dksX0_send_0 8 rfl rfl)
theorem dX0_send_9 : decode cX0_send 9 = .ok (.lastore, 1) := dk_80 (dk_at dksX0_send_0 9 rfl rfl)
theorem dX0_send_10 : decode cX0_send 10 = .ok (.goto 7, 3) := dk_167 0 7 (dk_at dksX0_send_0 10 rfl rfl)
theorem dX0_send_13 : decode cX0_send 13 = .ok (.astore 4, 2) := dk_58 4 (dk_at dksX0_send_0 13 rfl rfl)
theorem dX0_send_15 : decode cX0_send 15 = .ok (.iconst 1, 1) := dk_4 (dk_at dksX0_send_0 15 rfl rfl)
theorem dX0_send_16 : decode cX0_send 16 = .ok (.ireturn, 1) := dk_172 (dk_at dksX0_send_0 16 rfl rfl)
theorem dX0_send_17 : decode cX0_send 17 = .ok (.iconst 0, 1) := dk_3 (dk_at dksX0_send_0 17 rfl rfl)
theorem dX0_send_18 : decode cX0_send 18 = .ok (.ireturn, 1) := dk_172 (dk_at dksX0_send_0 18 rfl rfl)
abbrev cX0_pass : ByteArray := method_13_code
def yX0_pass : MethodName := ⟨RX0, "pass", "(LStaffRailway;I[J)I"⟩
def dkwX0_pass_0 : List UInt8 := [44, 3, 42, 27, 182, 0, 48, 133, 80, 167, 0, 6, 78, 4, 172, 3, 172]
abbrev dktX0_pass_0 : List UInt8 := dkwX0_pass_0 ++ []
theorem dksX0_pass_0 : cX0_pass.data.toList.drop 0 = dktX0_pass_0 := by decide +kernel
theorem dX0_pass_0 : decode cX0_pass 0 = .ok (.aload_n 2, 1) := dk_44 (dk_at dksX0_pass_0 0 rfl rfl)
theorem dX0_pass_1 : decode cX0_pass 1 = .ok (.iconst 0, 1) := dk_3 (dk_at dksX0_pass_0 1 rfl rfl)
theorem dX0_pass_2 : decode cX0_pass 2 = .ok (.aload_n 0, 1) := dk_42 (dk_at dksX0_pass_0 2 rfl rfl)
theorem dX0_pass_3 : decode cX0_pass 3 = .ok (.iload_n 1, 1) := dk_27 (dk_at dksX0_pass_0 3 rfl rfl)
theorem dX0_pass_4 : decode cX0_pass 4 = .ok (.invokevirtual 48, 3) := dk_182 0 48 (dk_at dksX0_pass_0 4 rfl rfl)
theorem dX0_pass_7 : decode cX0_pass 7 = .ok (.i2l, 1) := dk_133 (dk_at dksX0_pass_0 7 rfl rfl)
theorem dX0_pass_8 : decode cX0_pass 8 = .ok (.lastore, 1) := dk_80 (dk_at dksX0_pass_0 8 rfl rfl)
theorem dX0_pass_9 : decode cX0_pass 9 = .ok (.goto 6, 3) := dk_167 0 6 (dk_at dksX0_pass_0 9 rfl rfl)
theorem dX0_pass_12 : decode cX0_pass 12 = .ok (.astore_n 3, 1) := dk_78 (dk_at dksX0_pass_0 12 rfl rfl)
theorem dX0_pass_13 : decode cX0_pass 13 = .ok (.iconst 1, 1) := dk_4 (dk_at dksX0_pass_0 13 rfl rfl)
theorem dX0_pass_14 : decode cX0_pass 14 = .ok (.ireturn, 1) := dk_172 (dk_at dksX0_pass_0 14 rfl rfl)
theorem dX0_pass_15 : decode cX0_pass 15 = .ok (.iconst 0, 1) := dk_3 (dk_at dksX0_pass_0 15 rfl rfl)
theorem dX0_pass_16 : decode cX0_pass 16 = .ok (.ireturn, 1) := dk_172 (dk_at dksX0_pass_0 16 rfl rfl)
abbrev cX0_lose : ByteArray := method_14_code
def yX0_lose : MethodName := ⟨RX0, "lose", "(LStaffRailway;I[J)I"⟩
def dkwX0_lose_0 : List UInt8 := [44, 3, 42, 27, 182, 0, 51, 133, 80, 167, 0, 6, 78, 4, 172, 3, 172]
abbrev dktX0_lose_0 : List UInt8 := dkwX0_lose_0 ++ []
theorem dksX0_lose_0 : cX0_lose.data.toList.drop 0 = dktX0_lose_0 := by decide +kernel
theorem dX0_lose_0 : decode cX0_lose 0 = .ok (.aload_n 2, 1) := dk_44 (dk_at dksX0_lose_0 0 rfl rfl)
theorem dX0_lose_1 : decode cX0_lose 1 = .ok (.iconst 0, 1) := dk_3 (dk_at dksX0_lose_0 1 rfl rfl)
theorem dX0_lose_2 : decode cX0_lose 2 = .ok (.aload_n 0, 1) := dk_42 (dk_at dksX0_lose_0 2 rfl rfl)
theorem dX0_lose_3 : decode cX0_lose 3 = .ok (.iload_n 1, 1) := dk_27 (dk_at dksX0_lose_0 3 rfl rfl)
theorem dX0_lose_4 : decode cX0_lose 4 = .ok (.invokevirtual 51, 3) := dk_182 0 51 (dk_at dksX0_lose_0 4 rfl rfl)
theorem dX0_lose_7 : decode cX0_lose 7 = .ok (.i2l, 1) := dk_133 (dk_at dksX0_lose_0 7 rfl rfl)
theorem dX0_lose_8 : decode cX0_lose 8 = .ok (.lastore, 1) := dk_80 (dk_at dksX0_lose_0 8 rfl rfl)
theorem dX0_lose_9 : decode cX0_lose 9 = .ok (.goto 6, 3) := dk_167 0 6 (dk_at dksX0_lose_0 9 rfl rfl)
theorem dX0_lose_12 : decode cX0_lose 12 = .ok (.astore_n 3, 1) := dk_78 (dk_at dksX0_lose_0 12 rfl rfl)
theorem dX0_lose_13 : decode cX0_lose 13 = .ok (.iconst 1, 1) := dk_4 (dk_at dksX0_lose_0 13 rfl rfl)
theorem dX0_lose_14 : decode cX0_lose 14 = .ok (.ireturn, 1) := dk_172 (dk_at dksX0_lose_0 14 rfl rfl)
theorem dX0_lose_15 : decode cX0_lose 15 = .ok (.iconst 0, 1) := dk_3 (dk_at dksX0_lose_0 15 rfl rfl)
theorem dX0_lose_16 : decode cX0_lose 16 = .ok (.ireturn, 1) := dk_172 (dk_at dksX0_lose_0 16 rfl rfl)
abbrev cX0_find : ByteArray := method_15_code
def yX0_find : MethodName := ⟨RX0, "find", "(LStaffRailway;II[J)I"⟩
def dkwX0_find_0 : List UInt8 := [45, 3, 42, 27, 28, 182, 0, 54, 133, 80, 167, 0, 11, 58, 4, 4, 172, 58, 4, 5, 172, 3, 172]
abbrev dktX0_find_0 : List UInt8 := dkwX0_find_0 ++ []
theorem dksX0_find_0 : cX0_find.data.toList.drop 0 = dktX0_find_0 := by decide +kernel
theorem dX0_find_0 : decode cX0_find 0 = .ok (.aload_n 3, 1) := dk_45 (dk_at dksX0_find_0 0 rfl rfl)
theorem dX0_find_1 : decode cX0_find 1 = .ok (.iconst 0, 1) := dk_3 (dk_at dksX0_find_0 1 rfl rfl)
theorem dX0_find_2 : decode cX0_find 2 = .ok (.aload_n 0, 1) := dk_42 (dk_at dksX0_find_0 2 rfl rfl)
theorem dX0_find_3 : decode cX0_find 3 = .ok (.iload_n 1, 1) := dk_27 (dk_at dksX0_find_0 3 rfl rfl)
theorem dX0_find_4 : decode cX0_find 4 = .ok (.iload_n 2, 1) := dk_28 (dk_at dksX0_find_0 4 rfl rfl)
theorem dX0_find_5 : decode cX0_find 5 = .ok (.invokevirtual 54, 3) := dk_182 0 54 (dk_at dksX0_find_0 5 rfl rfl)
theorem dX0_find_8 : decode cX0_find 8 = .ok (.i2l, 1) := dk_133 (dk_at dksX0_find_0 8 rfl rfl)
theorem dX0_find_9 : decode cX0_find 9 = .ok (.lastore, 1) := dk_80 (dk_at dksX0_find_0 9 rfl rfl)
theorem dX0_find_10 : decode cX0_find 10 = .ok (.goto 11, 3) := dk_167 0 11 (dk_at dksX0_find_0 10 rfl rfl)
theorem dX0_find_13 : decode cX0_find 13 = .ok (.astore 4, 2) := dk_58 4 (dk_at dksX0_find_0 13 rfl rfl)
theorem dX0_find_15 : decode cX0_find 15 = .ok (.iconst 1, 1) := dk_4 (dk_at dksX0_find_0 15 rfl rfl)
theorem dX0_find_16 : decode cX0_find 16 = .ok (.ireturn, 1) := dk_172 (dk_at dksX0_find_0 16 rfl rfl)
theorem dX0_find_17 : decode cX0_find 17 = .ok (.astore 4, 2) := dk_58 4 (dk_at dksX0_find_0 17 rfl rfl)
theorem dX0_find_19 : decode cX0_find 19 = .ok (.iconst 2, 1) := dk_5 (dk_at dksX0_find_0 19 rfl rfl)
theorem dX0_find_20 : decode cX0_find 20 = .ok (.ireturn, 1) := dk_172 (dk_at dksX0_find_0 20 rfl rfl)
theorem dX0_find_21 : decode cX0_find 21 = .ok (.iconst 0, 1) := dk_3 (dk_at dksX0_find_0 21 rfl rfl)
theorem dX0_find_22 : decode cX0_find 22 = .ok (.ireturn, 1) := dk_172 (dk_at dksX0_find_0 22 rfl rfl)
abbrev cX0_pilotman : ByteArray := method_16_code
def yX0_pilotman : MethodName := ⟨RX0, "pilotman", "(LStaffRailway;I[J)I"⟩
def dkwX0_pilotman_0 : List UInt8 := [44, 3, 42, 27, 182, 0, 57, 133, 80, 167, 0, 9, 78, 4, 172, 78, 5, 172, 3, 172]
abbrev dktX0_pilotman_0 : List UInt8 := dkwX0_pilotman_0 ++ []
theorem dksX0_pilotman_0 : cX0_pilotman.data.toList.drop 0 = dktX0_pilotman_0 := by decide +kernel
theorem dX0_pilotman_0 : decode cX0_pilotman 0 = .ok (.aload_n 2, 1) := dk_44 (dk_at dksX0_pilotman_0 0 rfl rfl)
theorem dX0_pilotman_1 : decode cX0_pilotman 1 = .ok (.iconst 0, 1) := dk_3 (dk_at dksX0_pilotman_0 1 rfl rfl)
theorem dX0_pilotman_2 : decode cX0_pilotman 2 = .ok (.aload_n 0, 1) := dk_42 (dk_at dksX0_pilotman_0 2 rfl rfl)
theorem dX0_pilotman_3 : decode cX0_pilotman 3 = .ok (.iload_n 1, 1) := dk_27 (dk_at dksX0_pilotman_0 3 rfl rfl)
theorem dX0_pilotman_4 : decode cX0_pilotman 4 = .ok (.invokevirtual 57, 3) := dk_182 0 57 (dk_at dksX0_pilotman_0 4 rfl rfl)
theorem dX0_pilotman_7 : decode cX0_pilotman 7 = .ok (.i2l, 1) := dk_133 (dk_at dksX0_pilotman_0 7 rfl rfl)
theorem dX0_pilotman_8 : decode cX0_pilotman 8 = .ok (.lastore, 1) := dk_80 (dk_at dksX0_pilotman_0 8 rfl rfl)
theorem dX0_pilotman_9 : decode cX0_pilotman 9 = .ok (.goto 9, 3) := dk_167 0 9 (dk_at dksX0_pilotman_0 9 rfl rfl)
theorem dX0_pilotman_12 : decode cX0_pilotman 12 = .ok (.astore_n 3, 1) := dk_78 (dk_at dksX0_pilotman_0 12 rfl rfl)
theorem dX0_pilotman_13 : decode cX0_pilotman 13 = .ok (.iconst 1, 1) := dk_4 (dk_at dksX0_pilotman_0 13 rfl rfl)
theorem dX0_pilotman_14 : decode cX0_pilotman 14 = .ok (.ireturn, 1) := dk_172 (dk_at dksX0_pilotman_0 14 rfl rfl)
theorem dX0_pilotman_15 : decode cX0_pilotman 15 = .ok (.astore_n 3, 1) := dk_78 (dk_at dksX0_pilotman_0 15 rfl rfl)
theorem dX0_pilotman_16 : decode cX0_pilotman 16 = .ok (.iconst 2, 1) := dk_5 (dk_at dksX0_pilotman_0 16 rfl rfl)
theorem dX0_pilotman_17 : decode cX0_pilotman 17 = .ok (.ireturn, 1) := dk_172 (dk_at dksX0_pilotman_0 17 rfl rfl)
theorem dX0_pilotman_18 : decode cX0_pilotman 18 = .ok (.iconst 0, 1) := dk_3 (dk_at dksX0_pilotman_0 18 rfl rfl)
theorem dX0_pilotman_19 : decode cX0_pilotman 19 = .ok (.ireturn, 1) := dk_172 (dk_at dksX0_pilotman_0 19 rfl rfl)
abbrev cX0_walk : ByteArray := method_17_code
def yX0_walk : MethodName := ⟨RX0, "walk", "(LStaffRailway;II[J)I"⟩
def dkwX0_walk_0 : List UInt8 := [45, 3, 42, 27, 28, 182, 0, 60, 133, 80, 167, 0, 7, 58, 4, 4, 172, 3, 172]
abbrev dktX0_walk_0 : List UInt8 := dkwX0_walk_0 ++ []
theorem dksX0_walk_0 : cX0_walk.data.toList.drop 0 = dktX0_walk_0 := by decide +kernel
theorem dX0_walk_0 : decode cX0_walk 0 = .ok (.aload_n 3, 1) := dk_45 (dk_at dksX0_walk_0 0 rfl rfl)
theorem dX0_walk_1 : decode cX0_walk 1 = .ok (.iconst 0, 1) := dk_3 (dk_at dksX0_walk_0 1 rfl rfl)
theorem dX0_walk_2 : decode cX0_walk 2 = .ok (.aload_n 0, 1) := dk_42 (dk_at dksX0_walk_0 2 rfl rfl)
theorem dX0_walk_3 : decode cX0_walk 3 = .ok (.iload_n 1, 1) := dk_27 (dk_at dksX0_walk_0 3 rfl rfl)
theorem dX0_walk_4 : decode cX0_walk 4 = .ok (.iload_n 2, 1) := dk_28 (dk_at dksX0_walk_0 4 rfl rfl)
theorem dX0_walk_5 : decode cX0_walk 5 = .ok (.invokevirtual 60, 3) := dk_182 0 60 (dk_at dksX0_walk_0 5 rfl rfl)
theorem dX0_walk_8 : decode cX0_walk 8 = .ok (.i2l, 1) := dk_133 (dk_at dksX0_walk_0 8 rfl rfl)
theorem dX0_walk_9 : decode cX0_walk 9 = .ok (.lastore, 1) := dk_80 (dk_at dksX0_walk_0 9 rfl rfl)
theorem dX0_walk_10 : decode cX0_walk 10 = .ok (.goto 7, 3) := dk_167 0 7 (dk_at dksX0_walk_0 10 rfl rfl)
theorem dX0_walk_13 : decode cX0_walk 13 = .ok (.astore 4, 2) := dk_58 4 (dk_at dksX0_walk_0 13 rfl rfl)
theorem dX0_walk_15 : decode cX0_walk 15 = .ok (.iconst 1, 1) := dk_4 (dk_at dksX0_walk_0 15 rfl rfl)
theorem dX0_walk_16 : decode cX0_walk 16 = .ok (.ireturn, 1) := dk_172 (dk_at dksX0_walk_0 16 rfl rfl)
theorem dX0_walk_17 : decode cX0_walk 17 = .ok (.iconst 0, 1) := dk_3 (dk_at dksX0_walk_0 17 rfl rfl)
theorem dX0_walk_18 : decode cX0_walk 18 = .ok (.ireturn, 1) := dk_172 (dk_at dksX0_walk_0 18 rfl rfl)
abbrev cX0_appoint : ByteArray := method_18_code
def yX0_appoint : MethodName := ⟨RX0, "appoint", "(LStaffRailway;II[J)I"⟩
def dkwX0_appoint_0 : List UInt8 := [45, 3, 42, 27, 28, 182, 0, 63, 133, 80, 167, 0, 7, 58, 4, 4, 172, 3, 172]
abbrev dktX0_appoint_0 : List UInt8 := dkwX0_appoint_0 ++ []
theorem dksX0_appoint_0 : cX0_appoint.data.toList.drop 0 = dktX0_appoint_0 := by decide +kernel
theorem dX0_appoint_0 : decode cX0_appoint 0 = .ok (.aload_n 3, 1) := dk_45 (dk_at dksX0_appoint_0 0 rfl rfl)
theorem dX0_appoint_1 : decode cX0_appoint 1 = .ok (.iconst 0, 1) := dk_3 (dk_at dksX0_appoint_0 1 rfl rfl)
theorem dX0_appoint_2 : decode cX0_appoint 2 = .ok (.aload_n 0, 1) := dk_42 (dk_at dksX0_appoint_0 2 rfl rfl)
theorem dX0_appoint_3 : decode cX0_appoint 3 = .ok (.iload_n 1, 1) := dk_27 (dk_at dksX0_appoint_0 3 rfl rfl)
theorem dX0_appoint_4 : decode cX0_appoint 4 = .ok (.iload_n 2, 1) := dk_28 (dk_at dksX0_appoint_0 4 rfl rfl)
theorem dX0_appoint_5 : decode cX0_appoint 5 = .ok (.invokevirtual 63, 3) := dk_182 0 63 (dk_at dksX0_appoint_0 5 rfl rfl)
theorem dX0_appoint_8 : decode cX0_appoint 8 = .ok (.i2l, 1) := dk_133 (dk_at dksX0_appoint_0 8 rfl rfl)
theorem dX0_appoint_9 : decode cX0_appoint 9 = .ok (.lastore, 1) := dk_80 (dk_at dksX0_appoint_0 9 rfl rfl)
theorem dX0_appoint_10 : decode cX0_appoint 10 = .ok (.goto 7, 3) := dk_167 0 7 (dk_at dksX0_appoint_0 10 rfl rfl)
theorem dX0_appoint_13 : decode cX0_appoint 13 = .ok (.astore 4, 2) := dk_58 4 (dk_at dksX0_appoint_0 13 rfl rfl)
theorem dX0_appoint_15 : decode cX0_appoint 15 = .ok (.iconst 1, 1) := dk_4 (dk_at dksX0_appoint_0 15 rfl rfl)
theorem dX0_appoint_16 : decode cX0_appoint 16 = .ok (.ireturn, 1) := dk_172 (dk_at dksX0_appoint_0 16 rfl rfl)
theorem dX0_appoint_17 : decode cX0_appoint 17 = .ok (.iconst 0, 1) := dk_3 (dk_at dksX0_appoint_0 17 rfl rfl)
theorem dX0_appoint_18 : decode cX0_appoint 18 = .ok (.ireturn, 1) := dk_172 (dk_at dksX0_appoint_0 18 rfl rfl)
abbrev cX0_pilotmanOf : ByteArray := method_19_code
def yX0_pilotmanOf : MethodName := ⟨RX0, "pilotmanOf", "(LStaffRailway;II[J)I"⟩
def dkwX0_pilotmanOf_0 : List UInt8 := [45, 3, 42, 27, 28, 182, 0, 66, 133, 80, 167, 0, 11, 58, 4, 4, 172, 58, 4, 5, 172, 3, 172]
abbrev dktX0_pilotmanOf_0 : List UInt8 := dkwX0_pilotmanOf_0 ++ []
theorem dksX0_pilotmanOf_0 : cX0_pilotmanOf.data.toList.drop 0 = dktX0_pilotmanOf_0 := by decide +kernel
theorem dX0_pilotmanOf_0 : decode cX0_pilotmanOf 0 = .ok (.aload_n 3, 1) := dk_45 (dk_at dksX0_pilotmanOf_0 0 rfl rfl)
theorem dX0_pilotmanOf_1 : decode cX0_pilotmanOf 1 = .ok (.iconst 0, 1) := dk_3 (dk_at dksX0_pilotmanOf_0 1 rfl rfl)
theorem dX0_pilotmanOf_2 : decode cX0_pilotmanOf 2 = .ok (.aload_n 0, 1) := dk_42 (dk_at dksX0_pilotmanOf_0 2 rfl rfl)
theorem dX0_pilotmanOf_3 : decode cX0_pilotmanOf 3 = .ok (.iload_n 1, 1) := dk_27 (dk_at dksX0_pilotmanOf_0 3 rfl rfl)
theorem dX0_pilotmanOf_4 : decode cX0_pilotmanOf 4 = .ok (.iload_n 2, 1) := dk_28 (dk_at dksX0_pilotmanOf_0 4 rfl rfl)
theorem dX0_pilotmanOf_5 : decode cX0_pilotmanOf 5 = .ok (.invokevirtual 66, 3) := dk_182 0 66 (dk_at dksX0_pilotmanOf_0 5 rfl rfl)
theorem dX0_pilotmanOf_8 : decode cX0_pilotmanOf 8 = .ok (.i2l, 1) := dk_133 (dk_at dksX0_pilotmanOf_0 8 rfl rfl)
theorem dX0_pilotmanOf_9 : decode cX0_pilotmanOf 9 = .ok (.lastore, 1) := dk_80 (dk_at dksX0_pilotmanOf_0 9 rfl rfl)
theorem dX0_pilotmanOf_10 : decode cX0_pilotmanOf 10 = .ok (.goto 11, 3) := dk_167 0 11 (dk_at dksX0_pilotmanOf_0 10 rfl rfl)
theorem dX0_pilotmanOf_13 : decode cX0_pilotmanOf 13 = .ok (.astore 4, 2) := dk_58 4 (dk_at dksX0_pilotmanOf_0 13 rfl rfl)
theorem dX0_pilotmanOf_15 : decode cX0_pilotmanOf 15 = .ok (.iconst 1, 1) := dk_4 (dk_at dksX0_pilotmanOf_0 15 rfl rfl)
theorem dX0_pilotmanOf_16 : decode cX0_pilotmanOf 16 = .ok (.ireturn, 1) := dk_172 (dk_at dksX0_pilotmanOf_0 16 rfl rfl)
theorem dX0_pilotmanOf_17 : decode cX0_pilotmanOf 17 = .ok (.astore 4, 2) := dk_58 4 (dk_at dksX0_pilotmanOf_0 17 rfl rfl)
theorem dX0_pilotmanOf_19 : decode cX0_pilotmanOf 19 = .ok (.iconst 2, 1) := dk_5 (dk_at dksX0_pilotmanOf_0 19 rfl rfl)
theorem dX0_pilotmanOf_20 : decode cX0_pilotmanOf 20 = .ok (.ireturn, 1) := dk_172 (dk_at dksX0_pilotmanOf_0 20 rfl rfl)
theorem dX0_pilotmanOf_21 : decode cX0_pilotmanOf 21 = .ok (.iconst 0, 1) := dk_3 (dk_at dksX0_pilotmanOf_0 21 rfl rfl)
theorem dX0_pilotmanOf_22 : decode cX0_pilotmanOf 22 = .ok (.ireturn, 1) := dk_172 (dk_at dksX0_pilotmanOf_0 22 rfl rfl)
abbrev cX0_why : ByteArray := method_20_code
def yX0_why : MethodName := ⟨RX0, "why", "(LStaffRailway;IIIZ[J)I"⟩
def dkwX0_why_1 : List UInt8 := [172, 3, 172]
abbrev dktX0_why_1 : List UInt8 := dkwX0_why_1 ++ []
def dkwX0_why_0 : List UInt8 := [25, 5, 3, 42, 27, 28, 29, 21, 4, 182, 0, 69, 133, 80, 167, 0, 11, 58, 6, 4, 172, 58, 6, 5]
abbrev dktX0_why_0 : List UInt8 := dkwX0_why_0 ++ dktX0_why_1
theorem dksX0_why_0 : cX0_why.data.toList.drop 0 = dktX0_why_0 := by decide +kernel
theorem dksX0_why_1 : cX0_why.data.toList.drop 24 = dktX0_why_1 := dk_seg dksX0_why_0 24 rfl rfl
theorem dX0_why_0 : decode cX0_why 0 = .ok (.aload 5, 2) := dk_25 5 (dk_at dksX0_why_0 0 rfl rfl)
theorem dX0_why_2 : decode cX0_why 2 = .ok (.iconst 0, 1) := dk_3 (dk_at dksX0_why_0 2 rfl rfl)
theorem dX0_why_3 : decode cX0_why 3 = .ok (.aload_n 0, 1) := dk_42 (dk_at dksX0_why_0 3 rfl rfl)
theorem dX0_why_4 : decode cX0_why 4 = .ok (.iload_n 1, 1) := dk_27 (dk_at dksX0_why_0 4 rfl rfl)
theorem dX0_why_5 : decode cX0_why 5 = .ok (.iload_n 2, 1) := dk_28 (dk_at dksX0_why_0 5 rfl rfl)
theorem dX0_why_6 : decode cX0_why 6 = .ok (.iload_n 3, 1) := dk_29 (dk_at dksX0_why_0 6 rfl rfl)
theorem dX0_why_7 : decode cX0_why 7 = .ok (.iload 4, 2) := dk_21 4 (dk_at dksX0_why_0 7 rfl rfl)
theorem dX0_why_9 : decode cX0_why 9 = .ok (.invokevirtual 69, 3) := dk_182 0 69 (dk_at dksX0_why_0 9 rfl rfl)
theorem dX0_why_12 : decode cX0_why 12 = .ok (.i2l, 1) := dk_133 (dk_at dksX0_why_0 12 rfl rfl)
theorem dX0_why_13 : decode cX0_why 13 = .ok (.lastore, 1) := dk_80 (dk_at dksX0_why_0 13 rfl rfl)
theorem dX0_why_14 : decode cX0_why 14 = .ok (.goto 11, 3) := dk_167 0 11 (dk_at dksX0_why_0 14 rfl rfl)
theorem dX0_why_17 : decode cX0_why 17 = .ok (.astore 6, 2) := dk_58 6 (dk_at dksX0_why_0 17 rfl rfl)
theorem dX0_why_19 : decode cX0_why 19 = .ok (.iconst 1, 1) := dk_4 (dk_at dksX0_why_0 19 rfl rfl)
theorem dX0_why_20 : decode cX0_why 20 = .ok (.ireturn, 1) := dk_172 (dk_at dksX0_why_0 20 rfl rfl)
theorem dX0_why_21 : decode cX0_why 21 = .ok (.astore 6, 2) := dk_58 6 (dk_at dksX0_why_0 21 rfl rfl)
theorem dX0_why_23 : decode cX0_why 23 = .ok (.iconst 2, 1) := dk_5 (dk_at dksX0_why_0 23 rfl rfl)
theorem dX0_why_24 : decode cX0_why 24 = .ok (.ireturn, 1) := dk_172 (dk_at dksX0_why_1 0 rfl rfl)
theorem dX0_why_25 : decode cX0_why 25 = .ok (.iconst 0, 1) := dk_3 (dk_at dksX0_why_1 1 rfl rfl)
theorem dX0_why_26 : decode cX0_why 26 = .ok (.ireturn, 1) := dk_172 (dk_at dksX0_why_1 2 rfl rfl)
abbrev cX0_reach : ByteArray := method_21_code
def yX0_reach : MethodName := ⟨RX0, "reach", "(LStaffRailway;IZ[J)I"⟩
def dkwX0_reach_0 : List UInt8 := [45, 3, 42, 27, 28, 182, 0, 75, 133, 80, 167, 0, 7, 58, 4, 4, 172, 3, 172]
abbrev dktX0_reach_0 : List UInt8 := dkwX0_reach_0 ++ []
theorem dksX0_reach_0 : cX0_reach.data.toList.drop 0 = dktX0_reach_0 := by decide +kernel
theorem dX0_reach_0 : decode cX0_reach 0 = .ok (.aload_n 3, 1) := dk_45 (dk_at dksX0_reach_0 0 rfl rfl)
theorem dX0_reach_1 : decode cX0_reach 1 = .ok (.iconst 0, 1) := dk_3 (dk_at dksX0_reach_0 1 rfl rfl)
theorem dX0_reach_2 : decode cX0_reach 2 = .ok (.aload_n 0, 1) := dk_42 (dk_at dksX0_reach_0 2 rfl rfl)
theorem dX0_reach_3 : decode cX0_reach 3 = .ok (.iload_n 1, 1) := dk_27 (dk_at dksX0_reach_0 3 rfl rfl)
theorem dX0_reach_4 : decode cX0_reach 4 = .ok (.iload_n 2, 1) := dk_28 (dk_at dksX0_reach_0 4 rfl rfl)
theorem dX0_reach_5 : decode cX0_reach 5 = .ok (.invokevirtual 75, 3) := dk_182 0 75 (dk_at dksX0_reach_0 5 rfl rfl)
theorem dX0_reach_8 : decode cX0_reach 8 = .ok (.i2l, 1) := dk_133 (dk_at dksX0_reach_0 8 rfl rfl)
theorem dX0_reach_9 : decode cX0_reach 9 = .ok (.lastore, 1) := dk_80 (dk_at dksX0_reach_0 9 rfl rfl)
theorem dX0_reach_10 : decode cX0_reach 10 = .ok (.goto 7, 3) := dk_167 0 7 (dk_at dksX0_reach_0 10 rfl rfl)
theorem dX0_reach_13 : decode cX0_reach 13 = .ok (.astore 4, 2) := dk_58 4 (dk_at dksX0_reach_0 13 rfl rfl)
theorem dX0_reach_15 : decode cX0_reach 15 = .ok (.iconst 1, 1) := dk_4 (dk_at dksX0_reach_0 15 rfl rfl)
theorem dX0_reach_16 : decode cX0_reach 16 = .ok (.ireturn, 1) := dk_172 (dk_at dksX0_reach_0 16 rfl rfl)
theorem dX0_reach_17 : decode cX0_reach 17 = .ok (.iconst 0, 1) := dk_3 (dk_at dksX0_reach_0 17 rfl rfl)
theorem dX0_reach_18 : decode cX0_reach 18 = .ok (.ireturn, 1) := dk_172 (dk_at dksX0_reach_0 18 rfl rfl)
abbrev cX0_reachAgain : ByteArray := method_22_code
def yX0_reachAgain : MethodName := ⟨RX0, "reachAgain", "(LStaffRailway;IZ[J)I"⟩
def dkwX0_reachAgain_0 : List UInt8 := [45, 3, 42, 27, 28, 182, 0, 79, 133, 80, 167, 0, 7, 58, 4, 4, 172, 3, 172]
abbrev dktX0_reachAgain_0 : List UInt8 := dkwX0_reachAgain_0 ++ []
theorem dksX0_reachAgain_0 : cX0_reachAgain.data.toList.drop 0 = dktX0_reachAgain_0 := by decide +kernel
theorem dX0_reachAgain_0 : decode cX0_reachAgain 0 = .ok (.aload_n 3, 1) := dk_45 (dk_at dksX0_reachAgain_0 0 rfl rfl)
theorem dX0_reachAgain_1 : decode cX0_reachAgain 1 = .ok (.iconst 0, 1) := dk_3 (dk_at dksX0_reachAgain_0 1 rfl rfl)
theorem dX0_reachAgain_2 : decode cX0_reachAgain 2 = .ok (.aload_n 0, 1) := dk_42 (dk_at dksX0_reachAgain_0 2 rfl rfl)
theorem dX0_reachAgain_3 : decode cX0_reachAgain 3 = .ok (.iload_n 1, 1) := dk_27 (dk_at dksX0_reachAgain_0 3 rfl rfl)
theorem dX0_reachAgain_4 : decode cX0_reachAgain 4 = .ok (.iload_n 2, 1) := dk_28 (dk_at dksX0_reachAgain_0 4 rfl rfl)
theorem dX0_reachAgain_5 : decode cX0_reachAgain 5 = .ok (.invokevirtual 79, 3) := dk_182 0 79 (dk_at dksX0_reachAgain_0 5 rfl rfl)
theorem dX0_reachAgain_8 : decode cX0_reachAgain 8 = .ok (.i2l, 1) := dk_133 (dk_at dksX0_reachAgain_0 8 rfl rfl)
theorem dX0_reachAgain_9 : decode cX0_reachAgain 9 = .ok (.lastore, 1) := dk_80 (dk_at dksX0_reachAgain_0 9 rfl rfl)
theorem dX0_reachAgain_10 : decode cX0_reachAgain 10 = .ok (.goto 7, 3) := dk_167 0 7 (dk_at dksX0_reachAgain_0 10 rfl rfl)
theorem dX0_reachAgain_13 : decode cX0_reachAgain 13 = .ok (.astore 4, 2) := dk_58 4 (dk_at dksX0_reachAgain_0 13 rfl rfl)
theorem dX0_reachAgain_15 : decode cX0_reachAgain 15 = .ok (.iconst 1, 1) := dk_4 (dk_at dksX0_reachAgain_0 15 rfl rfl)
theorem dX0_reachAgain_16 : decode cX0_reachAgain 16 = .ok (.ireturn, 1) := dk_172 (dk_at dksX0_reachAgain_0 16 rfl rfl)
theorem dX0_reachAgain_17 : decode cX0_reachAgain 17 = .ok (.iconst 0, 1) := dk_3 (dk_at dksX0_reachAgain_0 17 rfl rfl)
theorem dX0_reachAgain_18 : decode cX0_reachAgain 18 = .ok (.ireturn, 1) := dk_172 (dk_at dksX0_reachAgain_0 18 rfl rfl)
abbrev cX0_minutes : ByteArray := method_23_code
def yX0_minutes : MethodName := ⟨RX0, "minutes", "(LStaffRailway;IZ[J)I"⟩
def dkwX0_minutes_0 : List UInt8 := [45, 3, 42, 27, 28, 182, 0, 82, 133, 80, 167, 0, 7, 58, 4, 4, 172, 3, 172]
abbrev dktX0_minutes_0 : List UInt8 := dkwX0_minutes_0 ++ []
theorem dksX0_minutes_0 : cX0_minutes.data.toList.drop 0 = dktX0_minutes_0 := by decide +kernel
theorem dX0_minutes_0 : decode cX0_minutes 0 = .ok (.aload_n 3, 1) := dk_45 (dk_at dksX0_minutes_0 0 rfl rfl)
theorem dX0_minutes_1 : decode cX0_minutes 1 = .ok (.iconst 0, 1) := dk_3 (dk_at dksX0_minutes_0 1 rfl rfl)
theorem dX0_minutes_2 : decode cX0_minutes 2 = .ok (.aload_n 0, 1) := dk_42 (dk_at dksX0_minutes_0 2 rfl rfl)
theorem dX0_minutes_3 : decode cX0_minutes 3 = .ok (.iload_n 1, 1) := dk_27 (dk_at dksX0_minutes_0 3 rfl rfl)
theorem dX0_minutes_4 : decode cX0_minutes 4 = .ok (.iload_n 2, 1) := dk_28 (dk_at dksX0_minutes_0 4 rfl rfl)
theorem dX0_minutes_5 : decode cX0_minutes 5 = .ok (.invokevirtual 82, 3) := dk_182 0 82 (dk_at dksX0_minutes_0 5 rfl rfl)
theorem dX0_minutes_8 : decode cX0_minutes 8 = .ok (.i2l, 1) := dk_133 (dk_at dksX0_minutes_0 8 rfl rfl)
theorem dX0_minutes_9 : decode cX0_minutes 9 = .ok (.lastore, 1) := dk_80 (dk_at dksX0_minutes_0 9 rfl rfl)
theorem dX0_minutes_10 : decode cX0_minutes 10 = .ok (.goto 7, 3) := dk_167 0 7 (dk_at dksX0_minutes_0 10 rfl rfl)
theorem dX0_minutes_13 : decode cX0_minutes 13 = .ok (.astore 4, 2) := dk_58 4 (dk_at dksX0_minutes_0 13 rfl rfl)
theorem dX0_minutes_15 : decode cX0_minutes 15 = .ok (.iconst 1, 1) := dk_4 (dk_at dksX0_minutes_0 15 rfl rfl)
theorem dX0_minutes_16 : decode cX0_minutes 16 = .ok (.ireturn, 1) := dk_172 (dk_at dksX0_minutes_0 16 rfl rfl)
theorem dX0_minutes_17 : decode cX0_minutes 17 = .ok (.iconst 0, 1) := dk_3 (dk_at dksX0_minutes_0 17 rfl rfl)
theorem dX0_minutes_18 : decode cX0_minutes 18 = .ok (.ireturn, 1) := dk_172 (dk_at dksX0_minutes_0 18 rfl rfl)
abbrev cX0_log : ByteArray := method_24_code
def yX0_log : MethodName := ⟨RX0, "log", "(LStaffRailway;III[J)I"⟩
def dkwX0_log_1 : List UInt8 := [58, 5, 6, 172, 3, 172]
abbrev dktX0_log_1 : List UInt8 := dkwX0_log_1 ++ []
def dkwX0_log_0 : List UInt8 := [25, 4, 3, 42, 27, 28, 29, 182, 0, 85, 133, 80, 167, 0, 15, 58, 5, 4, 172, 58, 5, 5, 172]
abbrev dktX0_log_0 : List UInt8 := dkwX0_log_0 ++ dktX0_log_1
theorem dksX0_log_0 : cX0_log.data.toList.drop 0 = dktX0_log_0 := by decide +kernel
theorem dksX0_log_1 : cX0_log.data.toList.drop 23 = dktX0_log_1 := dk_seg dksX0_log_0 23 rfl rfl
theorem dX0_log_0 : decode cX0_log 0 = .ok (.aload 4, 2) := dk_25 4 (dk_at dksX0_log_0 0 rfl rfl)
theorem dX0_log_2 : decode cX0_log 2 = .ok (.iconst 0, 1) := dk_3 (dk_at dksX0_log_0 2 rfl rfl)
theorem dX0_log_3 : decode cX0_log 3 = .ok (.aload_n 0, 1) := dk_42 (dk_at dksX0_log_0 3 rfl rfl)
theorem dX0_log_4 : decode cX0_log 4 = .ok (.iload_n 1, 1) := dk_27 (dk_at dksX0_log_0 4 rfl rfl)
theorem dX0_log_5 : decode cX0_log 5 = .ok (.iload_n 2, 1) := dk_28 (dk_at dksX0_log_0 5 rfl rfl)
theorem dX0_log_6 : decode cX0_log 6 = .ok (.iload_n 3, 1) := dk_29 (dk_at dksX0_log_0 6 rfl rfl)
theorem dX0_log_7 : decode cX0_log 7 = .ok (.invokevirtual 85, 3) := dk_182 0 85 (dk_at dksX0_log_0 7 rfl rfl)
theorem dX0_log_10 : decode cX0_log 10 = .ok (.i2l, 1) := dk_133 (dk_at dksX0_log_0 10 rfl rfl)
theorem dX0_log_11 : decode cX0_log 11 = .ok (.lastore, 1) := dk_80 (dk_at dksX0_log_0 11 rfl rfl)
theorem dX0_log_12 : decode cX0_log 12 = .ok (.goto 15, 3) := dk_167 0 15 (dk_at dksX0_log_0 12 rfl rfl)
theorem dX0_log_15 : decode cX0_log 15 = .ok (.astore 5, 2) := dk_58 5 (dk_at dksX0_log_0 15 rfl rfl)
theorem dX0_log_17 : decode cX0_log 17 = .ok (.iconst 1, 1) := dk_4 (dk_at dksX0_log_0 17 rfl rfl)
theorem dX0_log_18 : decode cX0_log 18 = .ok (.ireturn, 1) := dk_172 (dk_at dksX0_log_0 18 rfl rfl)
theorem dX0_log_19 : decode cX0_log 19 = .ok (.astore 5, 2) := dk_58 5 (dk_at dksX0_log_0 19 rfl rfl)
theorem dX0_log_21 : decode cX0_log 21 = .ok (.iconst 2, 1) := dk_5 (dk_at dksX0_log_0 21 rfl rfl)
theorem dX0_log_22 : decode cX0_log 22 = .ok (.ireturn, 1) := dk_172 (dk_at dksX0_log_0 22 rfl rfl)
theorem dX0_log_23 : decode cX0_log 23 = .ok (.astore 5, 2) := dk_58 5 (dk_at dksX0_log_1 0 rfl rfl)
theorem dX0_log_25 : decode cX0_log 25 = .ok (.iconst 3, 1) := dk_6 (dk_at dksX0_log_1 2 rfl rfl)
theorem dX0_log_26 : decode cX0_log 26 = .ok (.ireturn, 1) := dk_172 (dk_at dksX0_log_1 3 rfl rfl)
theorem dX0_log_27 : decode cX0_log 27 = .ok (.iconst 0, 1) := dk_3 (dk_at dksX0_log_1 4 rfl rfl)
theorem dX0_log_28 : decode cX0_log 28 = .ok (.ireturn, 1) := dk_172 (dk_at dksX0_log_1 5 rfl rfl)
abbrev cX0_entries : ByteArray := method_25_code
def yX0_entries : MethodName := ⟨RX0, "entries", "(LStaffRailway;I[J)I"⟩
def dkwX0_entries_0 : List UInt8 := [44, 3, 42, 27, 182, 0, 89, 133, 80, 167, 0, 6, 78, 4, 172, 3, 172]
abbrev dktX0_entries_0 : List UInt8 := dkwX0_entries_0 ++ []
theorem dksX0_entries_0 : cX0_entries.data.toList.drop 0 = dktX0_entries_0 := by decide +kernel
theorem dX0_entries_0 : decode cX0_entries 0 = .ok (.aload_n 2, 1) := dk_44 (dk_at dksX0_entries_0 0 rfl rfl)
theorem dX0_entries_1 : decode cX0_entries 1 = .ok (.iconst 0, 1) := dk_3 (dk_at dksX0_entries_0 1 rfl rfl)
theorem dX0_entries_2 : decode cX0_entries 2 = .ok (.aload_n 0, 1) := dk_42 (dk_at dksX0_entries_0 2 rfl rfl)
theorem dX0_entries_3 : decode cX0_entries 3 = .ok (.iload_n 1, 1) := dk_27 (dk_at dksX0_entries_0 3 rfl rfl)
theorem dX0_entries_4 : decode cX0_entries 4 = .ok (.invokevirtual 89, 3) := dk_182 0 89 (dk_at dksX0_entries_0 4 rfl rfl)
theorem dX0_entries_7 : decode cX0_entries 7 = .ok (.i2l, 1) := dk_133 (dk_at dksX0_entries_0 7 rfl rfl)
theorem dX0_entries_8 : decode cX0_entries 8 = .ok (.lastore, 1) := dk_80 (dk_at dksX0_entries_0 8 rfl rfl)
theorem dX0_entries_9 : decode cX0_entries 9 = .ok (.goto 6, 3) := dk_167 0 6 (dk_at dksX0_entries_0 9 rfl rfl)
theorem dX0_entries_12 : decode cX0_entries 12 = .ok (.astore_n 3, 1) := dk_78 (dk_at dksX0_entries_0 12 rfl rfl)
theorem dX0_entries_13 : decode cX0_entries 13 = .ok (.iconst 1, 1) := dk_4 (dk_at dksX0_entries_0 13 rfl rfl)
theorem dX0_entries_14 : decode cX0_entries 14 = .ok (.ireturn, 1) := dk_172 (dk_at dksX0_entries_0 14 rfl rfl)
theorem dX0_entries_15 : decode cX0_entries 15 = .ok (.iconst 0, 1) := dk_3 (dk_at dksX0_entries_0 15 rfl rfl)
theorem dX0_entries_16 : decode cX0_entries 16 = .ok (.ireturn, 1) := dk_172 (dk_at dksX0_entries_0 16 rfl rfl)
abbrev cX0_append : ByteArray := method_26_code
def yX0_append : MethodName := ⟨RX0, "append", "(LStaffRailway;C[J)I"⟩
def dkwX0_append_0 : List UInt8 := [44, 3, 42, 27, 182, 0, 92, 133, 80, 167, 0, 6, 78, 4, 172, 3, 172]
abbrev dktX0_append_0 : List UInt8 := dkwX0_append_0 ++ []
theorem dksX0_append_0 : cX0_append.data.toList.drop 0 = dktX0_append_0 := by decide +kernel
theorem dX0_append_0 : decode cX0_append 0 = .ok (.aload_n 2, 1) := dk_44 (dk_at dksX0_append_0 0 rfl rfl)
theorem dX0_append_1 : decode cX0_append 1 = .ok (.iconst 0, 1) := dk_3 (dk_at dksX0_append_0 1 rfl rfl)
theorem dX0_append_2 : decode cX0_append 2 = .ok (.aload_n 0, 1) := dk_42 (dk_at dksX0_append_0 2 rfl rfl)
theorem dX0_append_3 : decode cX0_append 3 = .ok (.iload_n 1, 1) := dk_27 (dk_at dksX0_append_0 3 rfl rfl)
theorem dX0_append_4 : decode cX0_append 4 = .ok (.invokevirtual 92, 3) := dk_182 0 92 (dk_at dksX0_append_0 4 rfl rfl)
theorem dX0_append_7 : decode cX0_append 7 = .ok (.i2l, 1) := dk_133 (dk_at dksX0_append_0 7 rfl rfl)
theorem dX0_append_8 : decode cX0_append 8 = .ok (.lastore, 1) := dk_80 (dk_at dksX0_append_0 8 rfl rfl)
theorem dX0_append_9 : decode cX0_append 9 = .ok (.goto 6, 3) := dk_167 0 6 (dk_at dksX0_append_0 9 rfl rfl)
theorem dX0_append_12 : decode cX0_append 12 = .ok (.astore_n 3, 1) := dk_78 (dk_at dksX0_append_0 12 rfl rfl)
theorem dX0_append_13 : decode cX0_append 13 = .ok (.iconst 1, 1) := dk_4 (dk_at dksX0_append_0 13 rfl rfl)
theorem dX0_append_14 : decode cX0_append 14 = .ok (.ireturn, 1) := dk_172 (dk_at dksX0_append_0 14 rfl rfl)
theorem dX0_append_15 : decode cX0_append 15 = .ok (.iconst 0, 1) := dk_3 (dk_at dksX0_append_0 15 rfl rfl)
theorem dX0_append_16 : decode cX0_append 16 = .ok (.ireturn, 1) := dk_172 (dk_at dksX0_append_0 16 rfl rfl)
abbrev cX0_run : ByteArray := method_27_code
def yX0_run : MethodName := ⟨RX0, "run", "(LStaffRailway;[J)I"⟩
def dkwX0_run_0 : List UInt8 := [43, 3, 42, 182, 0, 98, 133, 80, 167, 0, 9, 77, 4, 172, 77, 5, 172, 3, 172]
abbrev dktX0_run_0 : List UInt8 := dkwX0_run_0 ++ []
theorem dksX0_run_0 : cX0_run.data.toList.drop 0 = dktX0_run_0 := by decide +kernel
theorem dX0_run_0 : decode cX0_run 0 = .ok (.aload_n 1, 1) := dk_43 (dk_at dksX0_run_0 0 rfl rfl)
theorem dX0_run_1 : decode cX0_run 1 = .ok (.iconst 0, 1) := dk_3 (dk_at dksX0_run_0 1 rfl rfl)
theorem dX0_run_2 : decode cX0_run 2 = .ok (.aload_n 0, 1) := dk_42 (dk_at dksX0_run_0 2 rfl rfl)
theorem dX0_run_3 : decode cX0_run 3 = .ok (.invokevirtual 98, 3) := dk_182 0 98 (dk_at dksX0_run_0 3 rfl rfl)
theorem dX0_run_6 : decode cX0_run 6 = .ok (.i2l, 1) := dk_133 (dk_at dksX0_run_0 6 rfl rfl)
theorem dX0_run_7 : decode cX0_run 7 = .ok (.lastore, 1) := dk_80 (dk_at dksX0_run_0 7 rfl rfl)
theorem dX0_run_8 : decode cX0_run 8 = .ok (.goto 9, 3) := dk_167 0 9 (dk_at dksX0_run_0 8 rfl rfl)
theorem dX0_run_11 : decode cX0_run 11 = .ok (.astore_n 2, 1) := dk_77 (dk_at dksX0_run_0 11 rfl rfl)
theorem dX0_run_12 : decode cX0_run 12 = .ok (.iconst 1, 1) := dk_4 (dk_at dksX0_run_0 12 rfl rfl)
theorem dX0_run_13 : decode cX0_run 13 = .ok (.ireturn, 1) := dk_172 (dk_at dksX0_run_0 13 rfl rfl)
theorem dX0_run_14 : decode cX0_run 14 = .ok (.astore_n 2, 1) := dk_77 (dk_at dksX0_run_0 14 rfl rfl)
theorem dX0_run_15 : decode cX0_run 15 = .ok (.iconst 2, 1) := dk_5 (dk_at dksX0_run_0 15 rfl rfl)
theorem dX0_run_16 : decode cX0_run 16 = .ok (.ireturn, 1) := dk_172 (dk_at dksX0_run_0 16 rfl rfl)
theorem dX0_run_17 : decode cX0_run 17 = .ok (.iconst 0, 1) := dk_3 (dk_at dksX0_run_0 17 rfl rfl)
theorem dX0_run_18 : decode cX0_run 18 = .ok (.ireturn, 1) := dk_172 (dk_at dksX0_run_0 18 rfl rfl)
abbrev cX0_fault : ByteArray := method_28_code
def yX0_fault : MethodName := ⟨RX0, "fault", "(LStaffRailway;[J)I"⟩
def dkwX0_fault_0 : List UInt8 := [43, 3, 42, 182, 0, 102, 133, 80, 167, 0, 6, 77, 4, 172, 3, 172]
abbrev dktX0_fault_0 : List UInt8 := dkwX0_fault_0 ++ []
theorem dksX0_fault_0 : cX0_fault.data.toList.drop 0 = dktX0_fault_0 := by decide +kernel
theorem dX0_fault_0 : decode cX0_fault 0 = .ok (.aload_n 1, 1) := dk_43 (dk_at dksX0_fault_0 0 rfl rfl)
theorem dX0_fault_1 : decode cX0_fault 1 = .ok (.iconst 0, 1) := dk_3 (dk_at dksX0_fault_0 1 rfl rfl)
theorem dX0_fault_2 : decode cX0_fault 2 = .ok (.aload_n 0, 1) := dk_42 (dk_at dksX0_fault_0 2 rfl rfl)
theorem dX0_fault_3 : decode cX0_fault 3 = .ok (.invokevirtual 102, 3) := dk_182 0 102 (dk_at dksX0_fault_0 3 rfl rfl)
theorem dX0_fault_6 : decode cX0_fault 6 = .ok (.i2l, 1) := dk_133 (dk_at dksX0_fault_0 6 rfl rfl)
theorem dX0_fault_7 : decode cX0_fault 7 = .ok (.lastore, 1) := dk_80 (dk_at dksX0_fault_0 7 rfl rfl)
theorem dX0_fault_8 : decode cX0_fault 8 = .ok (.goto 6, 3) := dk_167 0 6 (dk_at dksX0_fault_0 8 rfl rfl)
theorem dX0_fault_11 : decode cX0_fault 11 = .ok (.astore_n 2, 1) := dk_77 (dk_at dksX0_fault_0 11 rfl rfl)
theorem dX0_fault_12 : decode cX0_fault 12 = .ok (.iconst 1, 1) := dk_4 (dk_at dksX0_fault_0 12 rfl rfl)
theorem dX0_fault_13 : decode cX0_fault 13 = .ok (.ireturn, 1) := dk_172 (dk_at dksX0_fault_0 13 rfl rfl)
theorem dX0_fault_14 : decode cX0_fault 14 = .ok (.iconst 0, 1) := dk_3 (dk_at dksX0_fault_0 14 rfl rfl)
theorem dX0_fault_15 : decode cX0_fault 15 = .ok (.ireturn, 1) := dk_172 (dk_at dksX0_fault_0 15 rfl rfl)
abbrev cX0_reason : ByteArray := method_29_code
def yX0_reason : MethodName := ⟨RX0, "reason", "(LStaffRailway;IZ[J)I"⟩
def dkwX0_reason_0 : List UInt8 := [45, 3, 42, 27, 28, 182, 0, 105, 133, 80, 167, 0, 11, 58, 4, 4, 172, 58, 4, 5, 172, 3, 172]
abbrev dktX0_reason_0 : List UInt8 := dkwX0_reason_0 ++ []
theorem dksX0_reason_0 : cX0_reason.data.toList.drop 0 = dktX0_reason_0 := by decide +kernel
theorem dX0_reason_0 : decode cX0_reason 0 = .ok (.aload_n 3, 1) := dk_45 (dk_at dksX0_reason_0 0 rfl rfl)
theorem dX0_reason_1 : decode cX0_reason 1 = .ok (.iconst 0, 1) := dk_3 (dk_at dksX0_reason_0 1 rfl rfl)
theorem dX0_reason_2 : decode cX0_reason 2 = .ok (.aload_n 0, 1) := dk_42 (dk_at dksX0_reason_0 2 rfl rfl)
theorem dX0_reason_3 : decode cX0_reason 3 = .ok (.iload_n 1, 1) := dk_27 (dk_at dksX0_reason_0 3 rfl rfl)
theorem dX0_reason_4 : decode cX0_reason 4 = .ok (.iload_n 2, 1) := dk_28 (dk_at dksX0_reason_0 4 rfl rfl)
theorem dX0_reason_5 : decode cX0_reason 5 = .ok (.invokevirtual 105, 3) := dk_182 0 105 (dk_at dksX0_reason_0 5 rfl rfl)
theorem dX0_reason_8 : decode cX0_reason 8 = .ok (.i2l, 1) := dk_133 (dk_at dksX0_reason_0 8 rfl rfl)
theorem dX0_reason_9 : decode cX0_reason 9 = .ok (.lastore, 1) := dk_80 (dk_at dksX0_reason_0 9 rfl rfl)
theorem dX0_reason_10 : decode cX0_reason 10 = .ok (.goto 11, 3) := dk_167 0 11 (dk_at dksX0_reason_0 10 rfl rfl)
theorem dX0_reason_13 : decode cX0_reason 13 = .ok (.astore 4, 2) := dk_58 4 (dk_at dksX0_reason_0 13 rfl rfl)
theorem dX0_reason_15 : decode cX0_reason 15 = .ok (.iconst 1, 1) := dk_4 (dk_at dksX0_reason_0 15 rfl rfl)
theorem dX0_reason_16 : decode cX0_reason 16 = .ok (.ireturn, 1) := dk_172 (dk_at dksX0_reason_0 16 rfl rfl)
theorem dX0_reason_17 : decode cX0_reason 17 = .ok (.astore 4, 2) := dk_58 4 (dk_at dksX0_reason_0 17 rfl rfl)
theorem dX0_reason_19 : decode cX0_reason 19 = .ok (.iconst 2, 1) := dk_5 (dk_at dksX0_reason_0 19 rfl rfl)
theorem dX0_reason_20 : decode cX0_reason 20 = .ok (.ireturn, 1) := dk_172 (dk_at dksX0_reason_0 20 rfl rfl)
theorem dX0_reason_21 : decode cX0_reason 21 = .ok (.iconst 0, 1) := dk_3 (dk_at dksX0_reason_0 21 rfl rfl)
theorem dX0_reason_22 : decode cX0_reason 22 = .ok (.ireturn, 1) := dk_172 (dk_at dksX0_reason_0 22 rfl rfl)
abbrev cX0_account : ByteArray := method_30_code
def yX0_account : MethodName := ⟨RX0, "account", "(LStaffRailway;I[J)I"⟩
def dkwX0_account_0 : List UInt8 := [44, 3, 42, 27, 182, 0, 108, 133, 80, 167, 0, 6, 78, 4, 172, 3, 172]
abbrev dktX0_account_0 : List UInt8 := dkwX0_account_0 ++ []
theorem dksX0_account_0 : cX0_account.data.toList.drop 0 = dktX0_account_0 := by decide +kernel
theorem dX0_account_0 : decode cX0_account 0 = .ok (.aload_n 2, 1) := dk_44 (dk_at dksX0_account_0 0 rfl rfl)
theorem dX0_account_1 : decode cX0_account 1 = .ok (.iconst 0, 1) := dk_3 (dk_at dksX0_account_0 1 rfl rfl)
theorem dX0_account_2 : decode cX0_account 2 = .ok (.aload_n 0, 1) := dk_42 (dk_at dksX0_account_0 2 rfl rfl)
theorem dX0_account_3 : decode cX0_account 3 = .ok (.iload_n 1, 1) := dk_27 (dk_at dksX0_account_0 3 rfl rfl)
theorem dX0_account_4 : decode cX0_account 4 = .ok (.invokevirtual 108, 3) := dk_182 0 108 (dk_at dksX0_account_0 4 rfl rfl)
theorem dX0_account_7 : decode cX0_account 7 = .ok (.i2l, 1) := dk_133 (dk_at dksX0_account_0 7 rfl rfl)
theorem dX0_account_8 : decode cX0_account 8 = .ok (.lastore, 1) := dk_80 (dk_at dksX0_account_0 8 rfl rfl)
theorem dX0_account_9 : decode cX0_account 9 = .ok (.goto 6, 3) := dk_167 0 6 (dk_at dksX0_account_0 9 rfl rfl)
theorem dX0_account_12 : decode cX0_account 12 = .ok (.astore_n 3, 1) := dk_78 (dk_at dksX0_account_0 12 rfl rfl)
theorem dX0_account_13 : decode cX0_account 13 = .ok (.iconst 1, 1) := dk_4 (dk_at dksX0_account_0 13 rfl rfl)
theorem dX0_account_14 : decode cX0_account 14 = .ok (.ireturn, 1) := dk_172 (dk_at dksX0_account_0 14 rfl rfl)
theorem dX0_account_15 : decode cX0_account 15 = .ok (.iconst 0, 1) := dk_3 (dk_at dksX0_account_0 15 rfl rfl)
theorem dX0_account_16 : decode cX0_account 16 = .ok (.ireturn, 1) := dk_172 (dk_at dksX0_account_0 16 rfl rfl)
abbrev cX0_share : ByteArray := method_31_code
def yX0_share : MethodName := ⟨RX0, "share", "(LStaffRailway;[D)I"⟩
def dkwX0_share_0 : List UInt8 := [43, 3, 42, 182, 0, 111, 82, 167, 0, 6, 77, 4, 172, 3, 172]
abbrev dktX0_share_0 : List UInt8 := dkwX0_share_0 ++ []
theorem dksX0_share_0 : cX0_share.data.toList.drop 0 = dktX0_share_0 := by decide +kernel
theorem dX0_share_0 : decode cX0_share 0 = .ok (.aload_n 1, 1) := dk_43 (dk_at dksX0_share_0 0 rfl rfl)
theorem dX0_share_1 : decode cX0_share 1 = .ok (.iconst 0, 1) := dk_3 (dk_at dksX0_share_0 1 rfl rfl)
theorem dX0_share_2 : decode cX0_share 2 = .ok (.aload_n 0, 1) := dk_42 (dk_at dksX0_share_0 2 rfl rfl)
theorem dX0_share_3 : decode cX0_share 3 = .ok (.invokevirtual 111, 3) := dk_182 0 111 (dk_at dksX0_share_0 3 rfl rfl)
theorem dX0_share_6 : decode cX0_share 6 = .ok (.dastore, 1) := dk_82 (dk_at dksX0_share_0 6 rfl rfl)
theorem dX0_share_7 : decode cX0_share 7 = .ok (.goto 6, 3) := dk_167 0 6 (dk_at dksX0_share_0 7 rfl rfl)
theorem dX0_share_10 : decode cX0_share 10 = .ok (.astore_n 2, 1) := dk_77 (dk_at dksX0_share_0 10 rfl rfl)
theorem dX0_share_11 : decode cX0_share 11 = .ok (.iconst 1, 1) := dk_4 (dk_at dksX0_share_0 11 rfl rfl)
theorem dX0_share_12 : decode cX0_share 12 = .ok (.ireturn, 1) := dk_172 (dk_at dksX0_share_0 12 rfl rfl)
theorem dX0_share_13 : decode cX0_share 13 = .ok (.iconst 0, 1) := dk_3 (dk_at dksX0_share_0 13 rfl rfl)
theorem dX0_share_14 : decode cX0_share 14 = .ok (.ireturn, 1) := dk_172 (dk_at dksX0_share_0 14 rfl rfl)
abbrev cX0_undo : ByteArray := method_32_code
def yX0_undo : MethodName := ⟨RX0, "undo", "(LStaffRailway;[J)I"⟩
def dkwX0_undo_0 : List UInt8 := [43, 3, 42, 182, 0, 117, 133, 80, 167, 0, 6, 77, 4, 172, 3, 172]
abbrev dktX0_undo_0 : List UInt8 := dkwX0_undo_0 ++ []
theorem dksX0_undo_0 : cX0_undo.data.toList.drop 0 = dktX0_undo_0 := by decide +kernel
theorem dX0_undo_0 : decode cX0_undo 0 = .ok (.aload_n 1, 1) := dk_43 (dk_at dksX0_undo_0 0 rfl rfl)
theorem dX0_undo_1 : decode cX0_undo 1 = .ok (.iconst 0, 1) := dk_3 (dk_at dksX0_undo_0 1 rfl rfl)
theorem dX0_undo_2 : decode cX0_undo 2 = .ok (.aload_n 0, 1) := dk_42 (dk_at dksX0_undo_0 2 rfl rfl)
theorem dX0_undo_3 : decode cX0_undo 3 = .ok (.invokevirtual 117, 3) := dk_182 0 117 (dk_at dksX0_undo_0 3 rfl rfl)
theorem dX0_undo_6 : decode cX0_undo 6 = .ok (.i2l, 1) := dk_133 (dk_at dksX0_undo_0 6 rfl rfl)
theorem dX0_undo_7 : decode cX0_undo 7 = .ok (.lastore, 1) := dk_80 (dk_at dksX0_undo_0 7 rfl rfl)
theorem dX0_undo_8 : decode cX0_undo 8 = .ok (.goto 6, 3) := dk_167 0 6 (dk_at dksX0_undo_0 8 rfl rfl)
theorem dX0_undo_11 : decode cX0_undo 11 = .ok (.astore_n 2, 1) := dk_77 (dk_at dksX0_undo_0 11 rfl rfl)
theorem dX0_undo_12 : decode cX0_undo 12 = .ok (.iconst 1, 1) := dk_4 (dk_at dksX0_undo_0 12 rfl rfl)
theorem dX0_undo_13 : decode cX0_undo 13 = .ok (.ireturn, 1) := dk_172 (dk_at dksX0_undo_0 13 rfl rfl)
theorem dX0_undo_14 : decode cX0_undo 14 = .ok (.iconst 0, 1) := dk_3 (dk_at dksX0_undo_0 14 rfl rfl)
theorem dX0_undo_15 : decode cX0_undo 15 = .ok (.ireturn, 1) := dk_172 (dk_at dksX0_undo_0 15 rfl rfl)
abbrev cX0_restore : ByteArray := method_33_code
def yX0_restore : MethodName := ⟨RX0, "restore", "(LStaffRailway;[J)I"⟩
def dkwX0_restore_0 : List UInt8 := [43, 3, 42, 182, 0, 120, 133, 80, 167, 0, 6, 77, 4, 172, 3, 172]
abbrev dktX0_restore_0 : List UInt8 := dkwX0_restore_0 ++ []
theorem dksX0_restore_0 : cX0_restore.data.toList.drop 0 = dktX0_restore_0 := by decide +kernel
theorem dX0_restore_0 : decode cX0_restore 0 = .ok (.aload_n 1, 1) := dk_43 (dk_at dksX0_restore_0 0 rfl rfl)
theorem dX0_restore_1 : decode cX0_restore 1 = .ok (.iconst 0, 1) := dk_3 (dk_at dksX0_restore_0 1 rfl rfl)
theorem dX0_restore_2 : decode cX0_restore 2 = .ok (.aload_n 0, 1) := dk_42 (dk_at dksX0_restore_0 2 rfl rfl)
theorem dX0_restore_3 : decode cX0_restore 3 = .ok (.invokevirtual 120, 3) := dk_182 0 120 (dk_at dksX0_restore_0 3 rfl rfl)
theorem dX0_restore_6 : decode cX0_restore 6 = .ok (.i2l, 1) := dk_133 (dk_at dksX0_restore_0 6 rfl rfl)
theorem dX0_restore_7 : decode cX0_restore 7 = .ok (.lastore, 1) := dk_80 (dk_at dksX0_restore_0 7 rfl rfl)
theorem dX0_restore_8 : decode cX0_restore 8 = .ok (.goto 6, 3) := dk_167 0 6 (dk_at dksX0_restore_0 8 rfl rfl)
theorem dX0_restore_11 : decode cX0_restore 11 = .ok (.astore_n 2, 1) := dk_77 (dk_at dksX0_restore_0 11 rfl rfl)
theorem dX0_restore_12 : decode cX0_restore 12 = .ok (.iconst 1, 1) := dk_4 (dk_at dksX0_restore_0 12 rfl rfl)
theorem dX0_restore_13 : decode cX0_restore 13 = .ok (.ireturn, 1) := dk_172 (dk_at dksX0_restore_0 13 rfl rfl)
theorem dX0_restore_14 : decode cX0_restore 14 = .ok (.iconst 0, 1) := dk_3 (dk_at dksX0_restore_0 14 rfl rfl)
theorem dX0_restore_15 : decode cX0_restore 15 = .ok (.ireturn, 1) := dk_172 (dk_at dksX0_restore_0 15 rfl rfl)
theorem q93 : (Jvm.Cond.initialized "StaffRailwayLaw") ∈ lw_all := lw_g (lw_at lw_m1 0 rfl) rfl
theorem q140 : (Jvm.Cond.classLink "StaffRailwayLaw" (8 : Nat) "StaffRailway") ∈ lw_all := lw_g (lw_at lw_m1 47 rfl) rfl
theorem q142 : (Jvm.Cond.methodLink "StaffRailwayLaw" (123 : Nat) ({ cls := "StaffRailway", name := "<init>", desc := "()V" } : Jvm.MethodName)) ∈ lw_all := lw_g (lw_at lw_m1 49 rfl) rfl
theorem q643 : (Jvm.Cond.methodLink "StaffRailwayLaw" (200 : Nat) ({ cls := "StaffRailway", name := "movable", desc := "()I" } : Jvm.MethodName)) ∈ lw_all := lw_g (lw_at lw_m3 70 rfl) rfl
theorem q935 : (Jvm.Cond.methodLink "StaffRailwayLaw" (235 : Nat) ({ cls := "StaffRailway", name := "save", desc := "()I" } : Jvm.MethodName)) ∈ lw_all := lw_g (lw_at lw_m4 122 rfl) rfl
theorem q1101 : (Jvm.Cond.methodLink "StaffRailwayLaw" (127 : Nat) ({ cls := "StaffRailwayLaw", name := "tracks", desc := "(LStaffRailway;II[J)I" } : Jvm.MethodName)) ∈ lw_all := lw_g (lw_at lw_m5 48 rfl) rfl
theorem q1102 : (Jvm.Cond.static ({ cls := "StaffRailwayLaw", name := "tracks", desc := "(LStaffRailway;II[J)I" } : Jvm.MethodName)) ∈ lw_all := lw_g (lw_at lw_m5 49 rfl) rfl
theorem q1103 : (Jvm.Cond.codeWith ({ cls := "StaffRailwayLaw", name := "tracks", desc := "(LStaffRailway;II[J)I" } : Jvm.MethodName) method_3_code (5 : Nat) (Option.some Jvm.ClassFile.FieldType.int) [((0 : Nat), (10 : Nat), (13 : Nat), (13 : Nat)), ((0 : Nat), (10 : Nat), (17 : Nat), (15 : Nat)), ((0 : Nat), (10 : Nat), (21 : Nat), (17 : Nat))]) ∈ lw_all := lw_g (lw_at lw_m5 50 rfl) rfl
theorem q1104 : (Jvm.Cond.classLink "StaffRailwayLaw" (13 : Nat) "java/lang/IndexOutOfBoundsException") ∈ lw_all := lw_g (lw_at lw_m5 51 rfl) rfl
theorem q1123 : (Jvm.Cond.classLink "StaffRailwayLaw" (15 : Nat) "java/lang/IllegalArgumentException") ∈ lw_all := lw_g (lw_at lw_m5 70 rfl) rfl
theorem q1124 : (Jvm.Cond.classLink "StaffRailwayLaw" (17 : Nat) "java/lang/UnsupportedOperationException") ∈ lw_all := lw_g (lw_at lw_m5 71 rfl) rfl
theorem q1125 : (Jvm.Cond.methodLink "StaffRailwayLaw" (7 : Nat) ({ cls := "StaffRailway", name := "tracks", desc := "(II)I" } : Jvm.MethodName)) ∈ lw_all := lw_g (lw_at lw_m5 72 rfl) rfl
theorem q1248 : (Jvm.Cond.methodLink "StaffRailwayLaw" (136 : Nat) ({ cls := "StaffRailwayLaw", name := "stretch", desc := "(LStaffRailway;IIII[J)I" } : Jvm.MethodName)) ∈ lw_all := lw_g (lw_at lw_m5 195 rfl) rfl
theorem q1249 : (Jvm.Cond.static ({ cls := "StaffRailwayLaw", name := "stretch", desc := "(LStaffRailway;IIII[J)I" } : Jvm.MethodName)) ∈ lw_all := lw_g (lw_at lw_m5 196 rfl) rfl
theorem q1250 : (Jvm.Cond.codeWith ({ cls := "StaffRailwayLaw", name := "stretch", desc := "(LStaffRailway;IIII[J)I" } : Jvm.MethodName) method_4_code (7 : Nat) (Option.some Jvm.ClassFile.FieldType.int) [((0 : Nat), (14 : Nat), (17 : Nat), (13 : Nat)), ((0 : Nat), (14 : Nat), (21 : Nat), (15 : Nat)), ((0 : Nat), (14 : Nat), (25 : Nat), (17 : Nat))]) ∈ lw_all := lw_g (lw_at lw_m5 197 rfl) rfl
theorem q1251 : (Jvm.Cond.methodLink "StaffRailwayLaw" (19 : Nat) ({ cls := "StaffRailway", name := "stretch", desc := "(IIII)I" } : Jvm.MethodName)) ∈ lw_all := lw_g (lw_at lw_m5 198 rfl) rfl
theorem q1262 : (Jvm.Cond.methodLink "StaffRailwayLaw" (140 : Nat) ({ cls := "StaffRailwayLaw", name := "stationOf", desc := "(LStaffRailway;II[J)I" } : Jvm.MethodName)) ∈ lw_all := lw_g (lw_at lw_m5 209 rfl) rfl
theorem q1263 : (Jvm.Cond.static ({ cls := "StaffRailwayLaw", name := "stationOf", desc := "(LStaffRailway;II[J)I" } : Jvm.MethodName)) ∈ lw_all := lw_g (lw_at lw_m5 210 rfl) rfl
theorem q1264 : (Jvm.Cond.codeWith ({ cls := "StaffRailwayLaw", name := "stationOf", desc := "(LStaffRailway;II[J)I" } : Jvm.MethodName) method_5_code (5 : Nat) (Option.some Jvm.ClassFile.FieldType.int) [((0 : Nat), (10 : Nat), (13 : Nat), (13 : Nat)), ((0 : Nat), (10 : Nat), (17 : Nat), (15 : Nat))]) ∈ lw_all := lw_g (lw_at lw_m5 211 rfl) rfl
theorem q1265 : (Jvm.Cond.methodLink "StaffRailwayLaw" (23 : Nat) ({ cls := "StaffRailway", name := "stationOf", desc := "(II)I" } : Jvm.MethodName)) ∈ lw_all := lw_g (lw_at lw_m5 212 rfl) rfl
theorem q1276 : (Jvm.Cond.methodLink "StaffRailwayLaw" (143 : Nat) ({ cls := "StaffRailwayLaw", name := "stretchOf", desc := "(LStaffRailway;II[J)I" } : Jvm.MethodName)) ∈ lw_all := lw_g (lw_at lw_m5 223 rfl) rfl
theorem q1277 : (Jvm.Cond.static ({ cls := "StaffRailwayLaw", name := "stretchOf", desc := "(LStaffRailway;II[J)I" } : Jvm.MethodName)) ∈ lw_all := lw_g (lw_at lw_m5 224 rfl) rfl
theorem q1278 : (Jvm.Cond.codeWith ({ cls := "StaffRailwayLaw", name := "stretchOf", desc := "(LStaffRailway;II[J)I" } : Jvm.MethodName) method_6_code (5 : Nat) (Option.some Jvm.ClassFile.FieldType.int) [((0 : Nat), (10 : Nat), (13 : Nat), (13 : Nat)), ((0 : Nat), (10 : Nat), (17 : Nat), (15 : Nat))]) ∈ lw_all := lw_g (lw_at lw_m5 225 rfl) rfl
theorem q1279 : (Jvm.Cond.methodLink "StaffRailwayLaw" (26 : Nat) ({ cls := "StaffRailway", name := "stretchOf", desc := "(II)I" } : Jvm.MethodName)) ∈ lw_all := lw_g (lw_at lw_m5 226 rfl) rfl
theorem q1288 : (Jvm.Cond.methodLink "StaffRailwayLaw" (146 : Nat) ({ cls := "StaffRailwayLaw", name := "train", desc := "(LStaffRailway;II[J)I" } : Jvm.MethodName)) ∈ lw_all := lw_g (lw_at lw_m5 235 rfl) rfl
theorem q1289 : (Jvm.Cond.static ({ cls := "StaffRailwayLaw", name := "train", desc := "(LStaffRailway;II[J)I" } : Jvm.MethodName)) ∈ lw_all := lw_g (lw_at lw_m5 236 rfl) rfl
theorem q1290 : (Jvm.Cond.codeWith ({ cls := "StaffRailwayLaw", name := "train", desc := "(LStaffRailway;II[J)I" } : Jvm.MethodName) method_7_code (5 : Nat) (Option.some Jvm.ClassFile.FieldType.int) [((0 : Nat), (10 : Nat), (13 : Nat), (13 : Nat)), ((0 : Nat), (10 : Nat), (17 : Nat), (15 : Nat)), ((0 : Nat), (10 : Nat), (21 : Nat), (17 : Nat))]) ∈ lw_all := lw_g (lw_at lw_m5 237 rfl) rfl
theorem q1291 : (Jvm.Cond.methodLink "StaffRailwayLaw" (29 : Nat) ({ cls := "StaffRailway", name := "train", desc := "(II)I" } : Jvm.MethodName)) ∈ lw_all := lw_g (lw_at lw_m5 238 rfl) rfl
theorem q1305 : (Jvm.Cond.methodLink "StaffRailwayLaw" (149 : Nat) ({ cls := "StaffRailwayLaw", name := "remove", desc := "(LStaffRailway;I[J)I" } : Jvm.MethodName)) ∈ lw_all := lw_g (lw_at lw_m6 12 rfl) rfl
theorem q1306 : (Jvm.Cond.static ({ cls := "StaffRailwayLaw", name := "remove", desc := "(LStaffRailway;I[J)I" } : Jvm.MethodName)) ∈ lw_all := lw_g (lw_at lw_m6 13 rfl) rfl
theorem q1307 : (Jvm.Cond.codeWith ({ cls := "StaffRailwayLaw", name := "remove", desc := "(LStaffRailway;I[J)I" } : Jvm.MethodName) method_8_code (4 : Nat) (Option.some Jvm.ClassFile.FieldType.int) [((0 : Nat), (9 : Nat), (12 : Nat), (17 : Nat))]) ∈ lw_all := lw_g (lw_at lw_m6 14 rfl) rfl
theorem q1308 : (Jvm.Cond.methodLink "StaffRailwayLaw" (32 : Nat) ({ cls := "StaffRailway", name := "remove", desc := "(I)I" } : Jvm.MethodName)) ∈ lw_all := lw_g (lw_at lw_m6 15 rfl) rfl
theorem q1336 : (Jvm.Cond.methodLink "StaffRailwayLaw" (153 : Nat) ({ cls := "StaffRailwayLaw", name := "divide", desc := "(LStaffRailway;II[J)I" } : Jvm.MethodName)) ∈ lw_all := lw_g (lw_at lw_m6 43 rfl) rfl
theorem q1337 : (Jvm.Cond.static ({ cls := "StaffRailwayLaw", name := "divide", desc := "(LStaffRailway;II[J)I" } : Jvm.MethodName)) ∈ lw_all := lw_g (lw_at lw_m6 44 rfl) rfl
theorem q1338 : (Jvm.Cond.codeWith ({ cls := "StaffRailwayLaw", name := "divide", desc := "(LStaffRailway;II[J)I" } : Jvm.MethodName) method_9_code (5 : Nat) (Option.some Jvm.ClassFile.FieldType.int) [((0 : Nat), (10 : Nat), (13 : Nat), (17 : Nat))]) ∈ lw_all := lw_g (lw_at lw_m6 45 rfl) rfl
theorem q1339 : (Jvm.Cond.methodLink "StaffRailwayLaw" (36 : Nat) ({ cls := "StaffRailway", name := "divide", desc := "(II)I" } : Jvm.MethodName)) ∈ lw_all := lw_g (lw_at lw_m6 46 rfl) rfl
theorem q1350 : (Jvm.Cond.methodLink "StaffRailwayLaw" (156 : Nat) ({ cls := "StaffRailwayLaw", name := "couple", desc := "(LStaffRailway;II[J)I" } : Jvm.MethodName)) ∈ lw_all := lw_g (lw_at lw_m6 57 rfl) rfl
theorem q1351 : (Jvm.Cond.static ({ cls := "StaffRailwayLaw", name := "couple", desc := "(LStaffRailway;II[J)I" } : Jvm.MethodName)) ∈ lw_all := lw_g (lw_at lw_m6 58 rfl) rfl
theorem q1352 : (Jvm.Cond.codeWith ({ cls := "StaffRailwayLaw", name := "couple", desc := "(LStaffRailway;II[J)I" } : Jvm.MethodName) method_10_code (5 : Nat) (Option.some Jvm.ClassFile.FieldType.int) [((0 : Nat), (10 : Nat), (13 : Nat), (15 : Nat)), ((0 : Nat), (10 : Nat), (17 : Nat), (17 : Nat))]) ∈ lw_all := lw_g (lw_at lw_m6 59 rfl) rfl
theorem q1353 : (Jvm.Cond.methodLink "StaffRailwayLaw" (39 : Nat) ({ cls := "StaffRailway", name := "couple", desc := "(II)I" } : Jvm.MethodName)) ∈ lw_all := lw_g (lw_at lw_m6 60 rfl) rfl
theorem q1367 : (Jvm.Cond.methodLink "StaffRailwayLaw" (159 : Nat) ({ cls := "StaffRailwayLaw", name := "trainOf", desc := "(LStaffRailway;II[J)I" } : Jvm.MethodName)) ∈ lw_all := lw_g (lw_at lw_m6 74 rfl) rfl
theorem q1368 : (Jvm.Cond.static ({ cls := "StaffRailwayLaw", name := "trainOf", desc := "(LStaffRailway;II[J)I" } : Jvm.MethodName)) ∈ lw_all := lw_g (lw_at lw_m6 75 rfl) rfl
theorem q1369 : (Jvm.Cond.codeWith ({ cls := "StaffRailwayLaw", name := "trainOf", desc := "(LStaffRailway;II[J)I" } : Jvm.MethodName) method_11_code (5 : Nat) (Option.some Jvm.ClassFile.FieldType.int) [((0 : Nat), (10 : Nat), (13 : Nat), (13 : Nat)), ((0 : Nat), (10 : Nat), (17 : Nat), (15 : Nat))]) ∈ lw_all := lw_g (lw_at lw_m6 76 rfl) rfl
theorem q1370 : (Jvm.Cond.methodLink "StaffRailwayLaw" (42 : Nat) ({ cls := "StaffRailway", name := "trainOf", desc := "(II)I" } : Jvm.MethodName)) ∈ lw_all := lw_g (lw_at lw_m6 77 rfl) rfl
theorem q1376 : (Jvm.Cond.methodLink "StaffRailwayLaw" (162 : Nat) ({ cls := "StaffRailwayLaw", name := "send", desc := "(LStaffRailway;II[J)I" } : Jvm.MethodName)) ∈ lw_all := lw_g (lw_at lw_m6 83 rfl) rfl
theorem q1377 : (Jvm.Cond.static ({ cls := "StaffRailwayLaw", name := "send", desc := "(LStaffRailway;II[J)I" } : Jvm.MethodName)) ∈ lw_all := lw_g (lw_at lw_m6 84 rfl) rfl
theorem q1378 : (Jvm.Cond.codeWith ({ cls := "StaffRailwayLaw", name := "send", desc := "(LStaffRailway;II[J)I" } : Jvm.MethodName) method_12_code (5 : Nat) (Option.some Jvm.ClassFile.FieldType.int) [((0 : Nat), (10 : Nat), (13 : Nat), (17 : Nat))]) ∈ lw_all := lw_g (lw_at lw_m6 85 rfl) rfl
theorem q1379 : (Jvm.Cond.methodLink "StaffRailwayLaw" (45 : Nat) ({ cls := "StaffRailway", name := "send", desc := "(II)I" } : Jvm.MethodName)) ∈ lw_all := lw_g (lw_at lw_m6 86 rfl) rfl
theorem q1439 : (Jvm.Cond.methodLink "StaffRailwayLaw" (165 : Nat) ({ cls := "StaffRailwayLaw", name := "pass", desc := "(LStaffRailway;I[J)I" } : Jvm.MethodName)) ∈ lw_all := lw_g (lw_at lw_m6 146 rfl) rfl
theorem q1440 : (Jvm.Cond.static ({ cls := "StaffRailwayLaw", name := "pass", desc := "(LStaffRailway;I[J)I" } : Jvm.MethodName)) ∈ lw_all := lw_g (lw_at lw_m6 147 rfl) rfl
theorem q1441 : (Jvm.Cond.codeWith ({ cls := "StaffRailwayLaw", name := "pass", desc := "(LStaffRailway;I[J)I" } : Jvm.MethodName) method_13_code (4 : Nat) (Option.some Jvm.ClassFile.FieldType.int) [((0 : Nat), (9 : Nat), (12 : Nat), (15 : Nat))]) ∈ lw_all := lw_g (lw_at lw_m6 148 rfl) rfl
theorem q1442 : (Jvm.Cond.methodLink "StaffRailwayLaw" (48 : Nat) ({ cls := "StaffRailway", name := "pass", desc := "(I)I" } : Jvm.MethodName)) ∈ lw_all := lw_g (lw_at lw_m6 149 rfl) rfl
theorem q1466 : (Jvm.Cond.methodLink "StaffRailwayLaw" (168 : Nat) ({ cls := "StaffRailwayLaw", name := "lose", desc := "(LStaffRailway;I[J)I" } : Jvm.MethodName)) ∈ lw_all := lw_g (lw_at lw_m6 173 rfl) rfl
theorem q1467 : (Jvm.Cond.static ({ cls := "StaffRailwayLaw", name := "lose", desc := "(LStaffRailway;I[J)I" } : Jvm.MethodName)) ∈ lw_all := lw_g (lw_at lw_m6 174 rfl) rfl
theorem q1468 : (Jvm.Cond.codeWith ({ cls := "StaffRailwayLaw", name := "lose", desc := "(LStaffRailway;I[J)I" } : Jvm.MethodName) method_14_code (4 : Nat) (Option.some Jvm.ClassFile.FieldType.int) [((0 : Nat), (9 : Nat), (12 : Nat), (17 : Nat))]) ∈ lw_all := lw_g (lw_at lw_m6 175 rfl) rfl
theorem q1469 : (Jvm.Cond.methodLink "StaffRailwayLaw" (51 : Nat) ({ cls := "StaffRailway", name := "lose", desc := "(I)I" } : Jvm.MethodName)) ∈ lw_all := lw_g (lw_at lw_m6 176 rfl) rfl
theorem q1483 : (Jvm.Cond.methodLink "StaffRailwayLaw" (171 : Nat) ({ cls := "StaffRailwayLaw", name := "find", desc := "(LStaffRailway;II[J)I" } : Jvm.MethodName)) ∈ lw_all := lw_g (lw_at lw_m6 190 rfl) rfl
theorem q1484 : (Jvm.Cond.static ({ cls := "StaffRailwayLaw", name := "find", desc := "(LStaffRailway;II[J)I" } : Jvm.MethodName)) ∈ lw_all := lw_g (lw_at lw_m6 191 rfl) rfl
theorem q1485 : (Jvm.Cond.codeWith ({ cls := "StaffRailwayLaw", name := "find", desc := "(LStaffRailway;II[J)I" } : Jvm.MethodName) method_15_code (5 : Nat) (Option.some Jvm.ClassFile.FieldType.int) [((0 : Nat), (10 : Nat), (13 : Nat), (17 : Nat)), ((0 : Nat), (10 : Nat), (17 : Nat), (15 : Nat))]) ∈ lw_all := lw_g (lw_at lw_m6 192 rfl) rfl
theorem q1486 : (Jvm.Cond.methodLink "StaffRailwayLaw" (54 : Nat) ({ cls := "StaffRailway", name := "find", desc := "(II)I" } : Jvm.MethodName)) ∈ lw_all := lw_g (lw_at lw_m6 193 rfl) rfl
theorem q1518 : (Jvm.Cond.methodLink "StaffRailwayLaw" (174 : Nat) ({ cls := "StaffRailwayLaw", name := "pilotman", desc := "(LStaffRailway;I[J)I" } : Jvm.MethodName)) ∈ lw_all := lw_g (lw_at lw_m6 225 rfl) rfl
theorem q1519 : (Jvm.Cond.static ({ cls := "StaffRailwayLaw", name := "pilotman", desc := "(LStaffRailway;I[J)I" } : Jvm.MethodName)) ∈ lw_all := lw_g (lw_at lw_m6 226 rfl) rfl
theorem q1520 : (Jvm.Cond.codeWith ({ cls := "StaffRailwayLaw", name := "pilotman", desc := "(LStaffRailway;I[J)I" } : Jvm.MethodName) method_16_code (4 : Nat) (Option.some Jvm.ClassFile.FieldType.int) [((0 : Nat), (9 : Nat), (12 : Nat), (13 : Nat)), ((0 : Nat), (9 : Nat), (15 : Nat), (17 : Nat))]) ∈ lw_all := lw_g (lw_at lw_m6 227 rfl) rfl
theorem q1521 : (Jvm.Cond.methodLink "StaffRailwayLaw" (57 : Nat) ({ cls := "StaffRailway", name := "pilotman", desc := "(I)I" } : Jvm.MethodName)) ∈ lw_all := lw_g (lw_at lw_m6 228 rfl) rfl
theorem q1530 : (Jvm.Cond.methodLink "StaffRailwayLaw" (177 : Nat) ({ cls := "StaffRailwayLaw", name := "walk", desc := "(LStaffRailway;II[J)I" } : Jvm.MethodName)) ∈ lw_all := lw_g (lw_at lw_m6 237 rfl) rfl
theorem q1531 : (Jvm.Cond.static ({ cls := "StaffRailwayLaw", name := "walk", desc := "(LStaffRailway;II[J)I" } : Jvm.MethodName)) ∈ lw_all := lw_g (lw_at lw_m6 238 rfl) rfl
theorem q1532 : (Jvm.Cond.codeWith ({ cls := "StaffRailwayLaw", name := "walk", desc := "(LStaffRailway;II[J)I" } : Jvm.MethodName) method_17_code (5 : Nat) (Option.some Jvm.ClassFile.FieldType.int) [((0 : Nat), (10 : Nat), (13 : Nat), (17 : Nat))]) ∈ lw_all := lw_g (lw_at lw_m6 239 rfl) rfl
theorem q1533 : (Jvm.Cond.methodLink "StaffRailwayLaw" (60 : Nat) ({ cls := "StaffRailway", name := "walk", desc := "(II)I" } : Jvm.MethodName)) ∈ lw_all := lw_g (lw_at lw_m7 0 rfl) rfl
theorem q1547 : (Jvm.Cond.methodLink "StaffRailwayLaw" (180 : Nat) ({ cls := "StaffRailwayLaw", name := "appoint", desc := "(LStaffRailway;II[J)I" } : Jvm.MethodName)) ∈ lw_all := lw_g (lw_at lw_m7 14 rfl) rfl
theorem q1548 : (Jvm.Cond.static ({ cls := "StaffRailwayLaw", name := "appoint", desc := "(LStaffRailway;II[J)I" } : Jvm.MethodName)) ∈ lw_all := lw_g (lw_at lw_m7 15 rfl) rfl
theorem q1549 : (Jvm.Cond.codeWith ({ cls := "StaffRailwayLaw", name := "appoint", desc := "(LStaffRailway;II[J)I" } : Jvm.MethodName) method_18_code (5 : Nat) (Option.some Jvm.ClassFile.FieldType.int) [((0 : Nat), (10 : Nat), (13 : Nat), (17 : Nat))]) ∈ lw_all := lw_g (lw_at lw_m7 16 rfl) rfl
theorem q1550 : (Jvm.Cond.methodLink "StaffRailwayLaw" (63 : Nat) ({ cls := "StaffRailway", name := "appoint", desc := "(II)I" } : Jvm.MethodName)) ∈ lw_all := lw_g (lw_at lw_m7 17 rfl) rfl
theorem q1560 : (Jvm.Cond.methodLink "StaffRailwayLaw" (183 : Nat) ({ cls := "StaffRailwayLaw", name := "pilotmanOf", desc := "(LStaffRailway;II[J)I" } : Jvm.MethodName)) ∈ lw_all := lw_g (lw_at lw_m7 27 rfl) rfl
theorem q1561 : (Jvm.Cond.static ({ cls := "StaffRailwayLaw", name := "pilotmanOf", desc := "(LStaffRailway;II[J)I" } : Jvm.MethodName)) ∈ lw_all := lw_g (lw_at lw_m7 28 rfl) rfl
theorem q1562 : (Jvm.Cond.codeWith ({ cls := "StaffRailwayLaw", name := "pilotmanOf", desc := "(LStaffRailway;II[J)I" } : Jvm.MethodName) method_19_code (5 : Nat) (Option.some Jvm.ClassFile.FieldType.int) [((0 : Nat), (10 : Nat), (13 : Nat), (13 : Nat)), ((0 : Nat), (10 : Nat), (17 : Nat), (15 : Nat))]) ∈ lw_all := lw_g (lw_at lw_m7 29 rfl) rfl
theorem q1563 : (Jvm.Cond.methodLink "StaffRailwayLaw" (66 : Nat) ({ cls := "StaffRailway", name := "pilotmanOf", desc := "(II)I" } : Jvm.MethodName)) ∈ lw_all := lw_g (lw_at lw_m7 30 rfl) rfl
theorem q1571 : (Jvm.Cond.methodLink "StaffRailwayLaw" (186 : Nat) ({ cls := "StaffRailwayLaw", name := "why", desc := "(LStaffRailway;IIIZ[J)I" } : Jvm.MethodName)) ∈ lw_all := lw_g (lw_at lw_m7 38 rfl) rfl
theorem q1572 : (Jvm.Cond.static ({ cls := "StaffRailwayLaw", name := "why", desc := "(LStaffRailway;IIIZ[J)I" } : Jvm.MethodName)) ∈ lw_all := lw_g (lw_at lw_m7 39 rfl) rfl
theorem q1573 : (Jvm.Cond.codeWith ({ cls := "StaffRailwayLaw", name := "why", desc := "(LStaffRailway;IIIZ[J)I" } : Jvm.MethodName) method_20_code (7 : Nat) (Option.some Jvm.ClassFile.FieldType.int) [((0 : Nat), (14 : Nat), (17 : Nat), (15 : Nat)), ((0 : Nat), (14 : Nat), (21 : Nat), (73 : Nat))]) ∈ lw_all := lw_g (lw_at lw_m7 40 rfl) rfl
theorem q1574 : (Jvm.Cond.classLink "StaffRailwayLaw" (73 : Nat) "java/util/NoSuchElementException") ∈ lw_all := lw_g (lw_at lw_m7 41 rfl) rfl
theorem q1575 : (Jvm.Cond.methodLink "StaffRailwayLaw" (69 : Nat) ({ cls := "StaffRailway", name := "why", desc := "(IIIZ)I" } : Jvm.MethodName)) ∈ lw_all := lw_g (lw_at lw_m7 42 rfl) rfl
theorem q1612 : (Jvm.Cond.methodLink "StaffRailwayLaw" (190 : Nat) ({ cls := "StaffRailwayLaw", name := "reach", desc := "(LStaffRailway;IZ[J)I" } : Jvm.MethodName)) ∈ lw_all := lw_g (lw_at lw_m7 79 rfl) rfl
theorem q1613 : (Jvm.Cond.static ({ cls := "StaffRailwayLaw", name := "reach", desc := "(LStaffRailway;IZ[J)I" } : Jvm.MethodName)) ∈ lw_all := lw_g (lw_at lw_m7 80 rfl) rfl
theorem q1614 : (Jvm.Cond.codeWith ({ cls := "StaffRailwayLaw", name := "reach", desc := "(LStaffRailway;IZ[J)I" } : Jvm.MethodName) method_21_code (5 : Nat) (Option.some Jvm.ClassFile.FieldType.int) [((0 : Nat), (10 : Nat), (13 : Nat), (17 : Nat))]) ∈ lw_all := lw_g (lw_at lw_m7 81 rfl) rfl
theorem q1615 : (Jvm.Cond.methodLink "StaffRailwayLaw" (75 : Nat) ({ cls := "StaffRailway", name := "reach", desc := "(IZ)I" } : Jvm.MethodName)) ∈ lw_all := lw_g (lw_at lw_m7 82 rfl) rfl
theorem q1732 : (Jvm.Cond.methodLink "StaffRailwayLaw" (194 : Nat) ({ cls := "StaffRailwayLaw", name := "reachAgain", desc := "(LStaffRailway;IZ[J)I" } : Jvm.MethodName)) ∈ lw_all := lw_g (lw_at lw_m7 199 rfl) rfl
theorem q1733 : (Jvm.Cond.static ({ cls := "StaffRailwayLaw", name := "reachAgain", desc := "(LStaffRailway;IZ[J)I" } : Jvm.MethodName)) ∈ lw_all := lw_g (lw_at lw_m7 200 rfl) rfl
theorem q1734 : (Jvm.Cond.codeWith ({ cls := "StaffRailwayLaw", name := "reachAgain", desc := "(LStaffRailway;IZ[J)I" } : Jvm.MethodName) method_22_code (5 : Nat) (Option.some Jvm.ClassFile.FieldType.int) [((0 : Nat), (10 : Nat), (13 : Nat), (17 : Nat))]) ∈ lw_all := lw_g (lw_at lw_m7 201 rfl) rfl
theorem q1735 : (Jvm.Cond.methodLink "StaffRailwayLaw" (79 : Nat) ({ cls := "StaffRailway", name := "reachAgain", desc := "(IZ)I" } : Jvm.MethodName)) ∈ lw_all := lw_g (lw_at lw_m7 202 rfl) rfl
theorem q1743 : (Jvm.Cond.methodLink "StaffRailwayLaw" (197 : Nat) ({ cls := "StaffRailwayLaw", name := "minutes", desc := "(LStaffRailway;IZ[J)I" } : Jvm.MethodName)) ∈ lw_all := lw_g (lw_at lw_m7 210 rfl) rfl
theorem q1744 : (Jvm.Cond.static ({ cls := "StaffRailwayLaw", name := "minutes", desc := "(LStaffRailway;IZ[J)I" } : Jvm.MethodName)) ∈ lw_all := lw_g (lw_at lw_m7 211 rfl) rfl
theorem q1745 : (Jvm.Cond.codeWith ({ cls := "StaffRailwayLaw", name := "minutes", desc := "(LStaffRailway;IZ[J)I" } : Jvm.MethodName) method_23_code (5 : Nat) (Option.some Jvm.ClassFile.FieldType.int) [((0 : Nat), (10 : Nat), (13 : Nat), (17 : Nat))]) ∈ lw_all := lw_g (lw_at lw_m7 212 rfl) rfl
theorem q1746 : (Jvm.Cond.methodLink "StaffRailwayLaw" (82 : Nat) ({ cls := "StaffRailway", name := "minutes", desc := "(IZ)I" } : Jvm.MethodName)) ∈ lw_all := lw_g (lw_at lw_m7 213 rfl) rfl
theorem q1752 : (Jvm.Cond.methodLink "StaffRailwayLaw" (204 : Nat) ({ cls := "StaffRailwayLaw", name := "log", desc := "(LStaffRailway;III[J)I" } : Jvm.MethodName)) ∈ lw_all := lw_g (lw_at lw_m7 219 rfl) rfl
theorem q1753 : (Jvm.Cond.static ({ cls := "StaffRailwayLaw", name := "log", desc := "(LStaffRailway;III[J)I" } : Jvm.MethodName)) ∈ lw_all := lw_g (lw_at lw_m7 220 rfl) rfl
theorem q1754 : (Jvm.Cond.codeWith ({ cls := "StaffRailwayLaw", name := "log", desc := "(LStaffRailway;III[J)I" } : Jvm.MethodName) method_24_code (6 : Nat) (Option.some Jvm.ClassFile.FieldType.int) [((0 : Nat), (12 : Nat), (15 : Nat), (13 : Nat)), ((0 : Nat), (12 : Nat), (19 : Nat), (15 : Nat)), ((0 : Nat), (12 : Nat), (23 : Nat), (73 : Nat))]) ∈ lw_all := lw_g (lw_at lw_m7 221 rfl) rfl
theorem q1755 : (Jvm.Cond.methodLink "StaffRailwayLaw" (85 : Nat) ({ cls := "StaffRailway", name := "log", desc := "(III)I" } : Jvm.MethodName)) ∈ lw_all := lw_g (lw_at lw_m7 222 rfl) rfl
theorem q1763 : (Jvm.Cond.methodLink "StaffRailwayLaw" (208 : Nat) ({ cls := "StaffRailwayLaw", name := "entries", desc := "(LStaffRailway;I[J)I" } : Jvm.MethodName)) ∈ lw_all := lw_g (lw_at lw_m7 230 rfl) rfl
theorem q1764 : (Jvm.Cond.static ({ cls := "StaffRailwayLaw", name := "entries", desc := "(LStaffRailway;I[J)I" } : Jvm.MethodName)) ∈ lw_all := lw_g (lw_at lw_m7 231 rfl) rfl
theorem q1765 : (Jvm.Cond.codeWith ({ cls := "StaffRailwayLaw", name := "entries", desc := "(LStaffRailway;I[J)I" } : Jvm.MethodName) method_25_code (4 : Nat) (Option.some Jvm.ClassFile.FieldType.int) [((0 : Nat), (9 : Nat), (12 : Nat), (15 : Nat))]) ∈ lw_all := lw_g (lw_at lw_m7 232 rfl) rfl
theorem q1766 : (Jvm.Cond.methodLink "StaffRailwayLaw" (89 : Nat) ({ cls := "StaffRailway", name := "entries", desc := "(I)I" } : Jvm.MethodName)) ∈ lw_all := lw_g (lw_at lw_m7 233 rfl) rfl
theorem q1775 : (Jvm.Cond.methodLink "StaffRailwayLaw" (211 : Nat) ({ cls := "StaffRailwayLaw", name := "append", desc := "(LStaffRailway;C[J)I" } : Jvm.MethodName)) ∈ lw_all := lw_g (lw_at lw_m8 2 rfl) rfl
theorem q1776 : (Jvm.Cond.static ({ cls := "StaffRailwayLaw", name := "append", desc := "(LStaffRailway;C[J)I" } : Jvm.MethodName)) ∈ lw_all := lw_g (lw_at lw_m8 3 rfl) rfl
theorem q1777 : (Jvm.Cond.codeWith ({ cls := "StaffRailwayLaw", name := "append", desc := "(LStaffRailway;C[J)I" } : Jvm.MethodName) method_26_code (4 : Nat) (Option.some Jvm.ClassFile.FieldType.int) [((0 : Nat), (9 : Nat), (12 : Nat), (96 : Nat))]) ∈ lw_all := lw_g (lw_at lw_m8 4 rfl) rfl
theorem q1778 : (Jvm.Cond.classLink "StaffRailwayLaw" (96 : Nat) "java/lang/IllegalStateException") ∈ lw_all := lw_g (lw_at lw_m8 5 rfl) rfl
theorem q1779 : (Jvm.Cond.methodLink "StaffRailwayLaw" (92 : Nat) ({ cls := "StaffRailway", name := "append", desc := "(C)I" } : Jvm.MethodName)) ∈ lw_all := lw_g (lw_at lw_m8 6 rfl) rfl
theorem q1812 : (Jvm.Cond.methodLink "StaffRailwayLaw" (215 : Nat) ({ cls := "StaffRailwayLaw", name := "run", desc := "(LStaffRailway;[J)I" } : Jvm.MethodName)) ∈ lw_all := lw_g (lw_at lw_m8 39 rfl) rfl
theorem q1813 : (Jvm.Cond.static ({ cls := "StaffRailwayLaw", name := "run", desc := "(LStaffRailway;[J)I" } : Jvm.MethodName)) ∈ lw_all := lw_g (lw_at lw_m8 40 rfl) rfl
theorem q1814 : (Jvm.Cond.codeWith ({ cls := "StaffRailwayLaw", name := "run", desc := "(LStaffRailway;[J)I" } : Jvm.MethodName) method_27_code (3 : Nat) (Option.some Jvm.ClassFile.FieldType.int) [((0 : Nat), (8 : Nat), (11 : Nat), (15 : Nat)), ((0 : Nat), (8 : Nat), (14 : Nat), (17 : Nat))]) ∈ lw_all := lw_g (lw_at lw_m8 41 rfl) rfl
theorem q1815 : (Jvm.Cond.methodLink "StaffRailwayLaw" (98 : Nat) ({ cls := "StaffRailway", name := "run", desc := "()I" } : Jvm.MethodName)) ∈ lw_all := lw_g (lw_at lw_m8 42 rfl) rfl
theorem q2050 : (Jvm.Cond.methodLink "StaffRailwayLaw" (219 : Nat) ({ cls := "StaffRailwayLaw", name := "fault", desc := "(LStaffRailway;[J)I" } : Jvm.MethodName)) ∈ lw_all := lw_g (lw_at lw_m9 37 rfl) rfl
theorem q2051 : (Jvm.Cond.static ({ cls := "StaffRailwayLaw", name := "fault", desc := "(LStaffRailway;[J)I" } : Jvm.MethodName)) ∈ lw_all := lw_g (lw_at lw_m9 38 rfl) rfl
theorem q2052 : (Jvm.Cond.codeWith ({ cls := "StaffRailwayLaw", name := "fault", desc := "(LStaffRailway;[J)I" } : Jvm.MethodName) method_28_code (3 : Nat) (Option.some Jvm.ClassFile.FieldType.int) [((0 : Nat), (8 : Nat), (11 : Nat), (73 : Nat))]) ∈ lw_all := lw_g (lw_at lw_m9 39 rfl) rfl
theorem q2053 : (Jvm.Cond.methodLink "StaffRailwayLaw" (102 : Nat) ({ cls := "StaffRailway", name := "fault", desc := "()I" } : Jvm.MethodName)) ∈ lw_all := lw_g (lw_at lw_m9 40 rfl) rfl
theorem q2057 : (Jvm.Cond.methodLink "StaffRailwayLaw" (222 : Nat) ({ cls := "StaffRailwayLaw", name := "reason", desc := "(LStaffRailway;IZ[J)I" } : Jvm.MethodName)) ∈ lw_all := lw_g (lw_at lw_m9 44 rfl) rfl
theorem q2058 : (Jvm.Cond.static ({ cls := "StaffRailwayLaw", name := "reason", desc := "(LStaffRailway;IZ[J)I" } : Jvm.MethodName)) ∈ lw_all := lw_g (lw_at lw_m9 45 rfl) rfl
theorem q2059 : (Jvm.Cond.codeWith ({ cls := "StaffRailwayLaw", name := "reason", desc := "(LStaffRailway;IZ[J)I" } : Jvm.MethodName) method_29_code (5 : Nat) (Option.some Jvm.ClassFile.FieldType.int) [((0 : Nat), (10 : Nat), (13 : Nat), (15 : Nat)), ((0 : Nat), (10 : Nat), (17 : Nat), (73 : Nat))]) ∈ lw_all := lw_g (lw_at lw_m9 46 rfl) rfl
theorem q2060 : (Jvm.Cond.methodLink "StaffRailwayLaw" (105 : Nat) ({ cls := "StaffRailway", name := "reason", desc := "(IZ)I" } : Jvm.MethodName)) ∈ lw_all := lw_g (lw_at lw_m9 47 rfl) rfl
theorem q2064 : (Jvm.Cond.methodLink "StaffRailwayLaw" (225 : Nat) ({ cls := "StaffRailwayLaw", name := "account", desc := "(LStaffRailway;I[J)I" } : Jvm.MethodName)) ∈ lw_all := lw_g (lw_at lw_m9 51 rfl) rfl
theorem q2065 : (Jvm.Cond.static ({ cls := "StaffRailwayLaw", name := "account", desc := "(LStaffRailway;I[J)I" } : Jvm.MethodName)) ∈ lw_all := lw_g (lw_at lw_m9 52 rfl) rfl
theorem q2066 : (Jvm.Cond.codeWith ({ cls := "StaffRailwayLaw", name := "account", desc := "(LStaffRailway;I[J)I" } : Jvm.MethodName) method_30_code (4 : Nat) (Option.some Jvm.ClassFile.FieldType.int) [((0 : Nat), (9 : Nat), (12 : Nat), (15 : Nat))]) ∈ lw_all := lw_g (lw_at lw_m9 53 rfl) rfl
theorem q2067 : (Jvm.Cond.methodLink "StaffRailwayLaw" (108 : Nat) ({ cls := "StaffRailway", name := "account", desc := "(I)I" } : Jvm.MethodName)) ∈ lw_all := lw_g (lw_at lw_m9 54 rfl) rfl
theorem q2098 : (Jvm.Cond.methodLink "StaffRailwayLaw" (228 : Nat) ({ cls := "StaffRailwayLaw", name := "share", desc := "(LStaffRailway;[D)I" } : Jvm.MethodName)) ∈ lw_all := lw_g (lw_at lw_m9 85 rfl) rfl
theorem q2099 : (Jvm.Cond.static ({ cls := "StaffRailwayLaw", name := "share", desc := "(LStaffRailway;[D)I" } : Jvm.MethodName)) ∈ lw_all := lw_g (lw_at lw_m9 86 rfl) rfl
theorem q2100 : (Jvm.Cond.codeWith ({ cls := "StaffRailwayLaw", name := "share", desc := "(LStaffRailway;[D)I" } : Jvm.MethodName) method_31_code (3 : Nat) (Option.some Jvm.ClassFile.FieldType.int) [((0 : Nat), (7 : Nat), (10 : Nat), (115 : Nat))]) ∈ lw_all := lw_g (lw_at lw_m9 87 rfl) rfl
theorem q2101 : (Jvm.Cond.classLink "StaffRailwayLaw" (115 : Nat) "java/lang/ArithmeticException") ∈ lw_all := lw_g (lw_at lw_m9 88 rfl) rfl
theorem q2115 : (Jvm.Cond.methodLink "StaffRailwayLaw" (111 : Nat) ({ cls := "StaffRailway", name := "share", desc := "()D" } : Jvm.MethodName)) ∈ lw_all := lw_g (lw_at lw_m9 102 rfl) rfl
theorem q2130 : (Jvm.Cond.methodLink "StaffRailwayLaw" (232 : Nat) ({ cls := "StaffRailwayLaw", name := "undo", desc := "(LStaffRailway;[J)I" } : Jvm.MethodName)) ∈ lw_all := lw_g (lw_at lw_m9 117 rfl) rfl
theorem q2131 : (Jvm.Cond.static ({ cls := "StaffRailwayLaw", name := "undo", desc := "(LStaffRailway;[J)I" } : Jvm.MethodName)) ∈ lw_all := lw_g (lw_at lw_m9 118 rfl) rfl
theorem q2132 : (Jvm.Cond.codeWith ({ cls := "StaffRailwayLaw", name := "undo", desc := "(LStaffRailway;[J)I" } : Jvm.MethodName) method_32_code (3 : Nat) (Option.some Jvm.ClassFile.FieldType.int) [((0 : Nat), (8 : Nat), (11 : Nat), (96 : Nat))]) ∈ lw_all := lw_g (lw_at lw_m9 119 rfl) rfl
theorem q2133 : (Jvm.Cond.methodLink "StaffRailwayLaw" (117 : Nat) ({ cls := "StaffRailway", name := "undo", desc := "()I" } : Jvm.MethodName)) ∈ lw_all := lw_g (lw_at lw_m9 120 rfl) rfl
theorem q2152 : (Jvm.Cond.methodLink "StaffRailwayLaw" (239 : Nat) ({ cls := "StaffRailwayLaw", name := "restore", desc := "(LStaffRailway;[J)I" } : Jvm.MethodName)) ∈ lw_all := lw_g (lw_at lw_m9 139 rfl) rfl
theorem q2153 : (Jvm.Cond.static ({ cls := "StaffRailwayLaw", name := "restore", desc := "(LStaffRailway;[J)I" } : Jvm.MethodName)) ∈ lw_all := lw_g (lw_at lw_m9 140 rfl) rfl
theorem q2154 : (Jvm.Cond.codeWith ({ cls := "StaffRailwayLaw", name := "restore", desc := "(LStaffRailway;[J)I" } : Jvm.MethodName) method_33_code (3 : Nat) (Option.some Jvm.ClassFile.FieldType.int) [((0 : Nat), (8 : Nat), (11 : Nat), (96 : Nat))]) ∈ lw_all := lw_g (lw_at lw_m9 141 rfl) rfl
theorem q2155 : (Jvm.Cond.methodLink "StaffRailwayLaw" (120 : Nat) ({ cls := "StaffRailway", name := "restore", desc := "()I" } : Jvm.MethodName)) ∈ lw_all := lw_g (lw_at lw_m9 142 rfl) rfl
theorem q2166 : (Jvm.Cond.classLink "StaffRailwayLaw" (124 : Nat) "StaffRailwayModel") ∈ lw_all := lw_g (lw_at lw_m9 153 rfl) rfl
theorem q2168 : (Jvm.Cond.methodLink "StaffRailwayLaw" (126 : Nat) ({ cls := "StaffRailwayModel", name := "<init>", desc := "()V" } : Jvm.MethodName)) ∈ lw_all := lw_g (lw_at lw_m9 155 rfl) rfl
theorem q2255 : (Jvm.Cond.methodLink "StaffRailwayLaw" (133 : Nat) ({ cls := "StaffRailwayModel", name := "thrown", desc := "()I" } : Jvm.MethodName)) ∈ lw_all := lw_g (lw_at lw_m10 2 rfl) rfl
theorem q2259 : (Jvm.Cond.methodLink "StaffRailwayLaw" (132 : Nat) ({ cls := "StaffRailwayModel", name := "tracks", desc := "(II)I" } : Jvm.MethodName)) ∈ lw_all := lw_g (lw_at lw_m10 6 rfl) rfl
theorem q2303 : (Jvm.Cond.methodLink "StaffRailwayLaw" (139 : Nat) ({ cls := "StaffRailwayModel", name := "stretch", desc := "(IIII)I" } : Jvm.MethodName)) ∈ lw_all := lw_g (lw_at lw_m10 50 rfl) rfl
theorem q2318 : (Jvm.Cond.methodLink "StaffRailwayLaw" (142 : Nat) ({ cls := "StaffRailwayModel", name := "stationOf", desc := "(II)I" } : Jvm.MethodName)) ∈ lw_all := lw_g (lw_at lw_m10 65 rfl) rfl
theorem q2333 : (Jvm.Cond.methodLink "StaffRailwayLaw" (145 : Nat) ({ cls := "StaffRailwayModel", name := "stretchOf", desc := "(II)I" } : Jvm.MethodName)) ∈ lw_all := lw_g (lw_at lw_m10 80 rfl) rfl
theorem q2341 : (Jvm.Cond.methodLink "StaffRailwayLaw" (148 : Nat) ({ cls := "StaffRailwayModel", name := "train", desc := "(II)I" } : Jvm.MethodName)) ∈ lw_all := lw_g (lw_at lw_m10 88 rfl) rfl
theorem q2361 : (Jvm.Cond.methodLink "StaffRailwayLaw" (152 : Nat) ({ cls := "StaffRailwayModel", name := "remove", desc := "(I)I" } : Jvm.MethodName)) ∈ lw_all := lw_g (lw_at lw_m10 108 rfl) rfl
theorem q2381 : (Jvm.Cond.methodLink "StaffRailwayLaw" (155 : Nat) ({ cls := "StaffRailwayModel", name := "divide", desc := "(II)I" } : Jvm.MethodName)) ∈ lw_all := lw_g (lw_at lw_m10 128 rfl) rfl
theorem q2393 : (Jvm.Cond.methodLink "StaffRailwayLaw" (158 : Nat) ({ cls := "StaffRailwayModel", name := "couple", desc := "(II)I" } : Jvm.MethodName)) ∈ lw_all := lw_g (lw_at lw_m10 140 rfl) rfl
theorem q2401 : (Jvm.Cond.methodLink "StaffRailwayLaw" (161 : Nat) ({ cls := "StaffRailwayModel", name := "trainOf", desc := "(II)I" } : Jvm.MethodName)) ∈ lw_all := lw_g (lw_at lw_m10 148 rfl) rfl
theorem q2405 : (Jvm.Cond.methodLink "StaffRailwayLaw" (164 : Nat) ({ cls := "StaffRailwayModel", name := "send", desc := "(II)I" } : Jvm.MethodName)) ∈ lw_all := lw_g (lw_at lw_m10 152 rfl) rfl
theorem q2437 : (Jvm.Cond.methodLink "StaffRailwayLaw" (167 : Nat) ({ cls := "StaffRailwayModel", name := "pass", desc := "(I)I" } : Jvm.MethodName)) ∈ lw_all := lw_g (lw_at lw_m10 184 rfl) rfl
theorem q2449 : (Jvm.Cond.methodLink "StaffRailwayLaw" (170 : Nat) ({ cls := "StaffRailwayModel", name := "lose", desc := "(I)I" } : Jvm.MethodName)) ∈ lw_all := lw_g (lw_at lw_m10 196 rfl) rfl
theorem q2461 : (Jvm.Cond.methodLink "StaffRailwayLaw" (173 : Nat) ({ cls := "StaffRailwayModel", name := "find", desc := "(II)I" } : Jvm.MethodName)) ∈ lw_all := lw_g (lw_at lw_m10 208 rfl) rfl
theorem q2472 : (Jvm.Cond.methodLink "StaffRailwayLaw" (176 : Nat) ({ cls := "StaffRailwayModel", name := "pilotman", desc := "(I)I" } : Jvm.MethodName)) ∈ lw_all := lw_g (lw_at lw_m10 219 rfl) rfl
theorem q2476 : (Jvm.Cond.methodLink "StaffRailwayLaw" (179 : Nat) ({ cls := "StaffRailwayModel", name := "walk", desc := "(II)I" } : Jvm.MethodName)) ∈ lw_all := lw_g (lw_at lw_m10 223 rfl) rfl
theorem q2492 : (Jvm.Cond.methodLink "StaffRailwayLaw" (182 : Nat) ({ cls := "StaffRailwayModel", name := "appoint", desc := "(II)I" } : Jvm.MethodName)) ∈ lw_all := lw_g (lw_at lw_m10 239 rfl) rfl
theorem q2500 : (Jvm.Cond.methodLink "StaffRailwayLaw" (185 : Nat) ({ cls := "StaffRailwayModel", name := "pilotmanOf", desc := "(II)I" } : Jvm.MethodName)) ∈ lw_all := lw_g (lw_at lw_m11 7 rfl) rfl
theorem q2508 : (Jvm.Cond.methodLink "StaffRailwayLaw" (189 : Nat) ({ cls := "StaffRailwayModel", name := "why", desc := "(IIIZ)I" } : Jvm.MethodName)) ∈ lw_all := lw_g (lw_at lw_m11 15 rfl) rfl
theorem q2512 : (Jvm.Cond.methodLink "StaffRailwayLaw" (193 : Nat) ({ cls := "StaffRailwayModel", name := "reach", desc := "(IZ)I" } : Jvm.MethodName)) ∈ lw_all := lw_g (lw_at lw_m11 19 rfl) rfl
theorem q2520 : (Jvm.Cond.methodLink "StaffRailwayLaw" (196 : Nat) ({ cls := "StaffRailwayModel", name := "reachAgain", desc := "(IZ)I" } : Jvm.MethodName)) ∈ lw_all := lw_g (lw_at lw_m11 27 rfl) rfl
theorem q2525 : (Jvm.Cond.methodLink "StaffRailwayLaw" (199 : Nat) ({ cls := "StaffRailwayModel", name := "minutes", desc := "(IZ)I" } : Jvm.MethodName)) ∈ lw_all := lw_g (lw_at lw_m11 32 rfl) rfl
theorem q2529 : (Jvm.Cond.methodLink "StaffRailwayLaw" (203 : Nat) ({ cls := "StaffRailwayModel", name := "movable", desc := "()I" } : Jvm.MethodName)) ∈ lw_all := lw_g (lw_at lw_m11 36 rfl) rfl
theorem q2533 : (Jvm.Cond.methodLink "StaffRailwayLaw" (207 : Nat) ({ cls := "StaffRailwayModel", name := "log", desc := "(III)I" } : Jvm.MethodName)) ∈ lw_all := lw_g (lw_at lw_m11 40 rfl) rfl
theorem q2537 : (Jvm.Cond.methodLink "StaffRailwayLaw" (210 : Nat) ({ cls := "StaffRailwayModel", name := "entries", desc := "(I)I" } : Jvm.MethodName)) ∈ lw_all := lw_g (lw_at lw_m11 44 rfl) rfl
theorem q2541 : (Jvm.Cond.methodLink "StaffRailwayLaw" (214 : Nat) ({ cls := "StaffRailwayModel", name := "append", desc := "(C)I" } : Jvm.MethodName)) ∈ lw_all := lw_g (lw_at lw_m11 48 rfl) rfl
theorem q2545 : (Jvm.Cond.methodLink "StaffRailwayLaw" (218 : Nat) ({ cls := "StaffRailwayModel", name := "run", desc := "()I" } : Jvm.MethodName)) ∈ lw_all := lw_g (lw_at lw_m11 52 rfl) rfl
theorem q2583 : (Jvm.Cond.methodLink "StaffRailwayLaw" (221 : Nat) ({ cls := "StaffRailwayModel", name := "fault", desc := "()I" } : Jvm.MethodName)) ∈ lw_all := lw_g (lw_at lw_m11 90 rfl) rfl
theorem q2587 : (Jvm.Cond.methodLink "StaffRailwayLaw" (224 : Nat) ({ cls := "StaffRailwayModel", name := "reason", desc := "(IZ)I" } : Jvm.MethodName)) ∈ lw_all := lw_g (lw_at lw_m11 94 rfl) rfl
theorem q2591 : (Jvm.Cond.methodLink "StaffRailwayLaw" (227 : Nat) ({ cls := "StaffRailwayModel", name := "account", desc := "(I)I" } : Jvm.MethodName)) ∈ lw_all := lw_g (lw_at lw_m11 98 rfl) rfl
theorem q2611 : (Jvm.Cond.methodLink "StaffRailwayLaw" (231 : Nat) ({ cls := "StaffRailwayModel", name := "share", desc := "()D" } : Jvm.MethodName)) ∈ lw_all := lw_g (lw_at lw_m11 118 rfl) rfl
theorem q2615 : (Jvm.Cond.methodLink "StaffRailwayLaw" (234 : Nat) ({ cls := "StaffRailwayModel", name := "undo", desc := "()I" } : Jvm.MethodName)) ∈ lw_all := lw_g (lw_at lw_m11 122 rfl) rfl
theorem q2619 : (Jvm.Cond.methodLink "StaffRailwayLaw" (238 : Nat) ({ cls := "StaffRailwayModel", name := "save", desc := "()I" } : Jvm.MethodName)) ∈ lw_all := lw_g (lw_at lw_m11 126 rfl) rfl
theorem q2623 : (Jvm.Cond.methodLink "StaffRailwayLaw" (241 : Nat) ({ cls := "StaffRailwayModel", name := "restore", desc := "()I" } : Jvm.MethodName)) ∈ lw_all := lw_g (lw_at lw_m11 130 rfl) rfl
/-! StaffRailway -/
set_option maxRecDepth 100000
def RX1 : String := "StaffRailway"
def TX1 : u_T := fun k => match k with
  | 0 => ("StaffRailway", "line", "LStaffRailway$Line;", false)
  | 1 => ("StaffRailway", "saved", "LStaffRailway$Line;", false)
  | 2 => ("StaffRailway", "past", "Ljava/util/ArrayDeque;", true)
  | 3 => ("StaffRailway", "latest", "LStaffRailway$Refused;", false)
  | 4 => ("StaffRailway", "text", "Ljava/lang/StringBuilder;", true)
  | _ => ("StaffRailway", "faultAt", "I", false)
def tyX1 : Nat → FieldType := fun k => match k with
  | 0 => .object "StaffRailway$Line"
  | 1 => .object "StaffRailway$Line"
  | 2 => .object "java/util/ArrayDeque"
  | 3 => .object "StaffRailway$Refused"
  | 4 => .object "java/lang/StringBuilder"
  | _ => .int
abbrev wsX10 : List Cond := u_ws RX1 TX1 6
theorem nmX1 : ∀ a, a < 6 → ∀ b, b < 6 → a ≠ b → (TX1 a).2.1 ≠ (TX1 b).2.1 := by decide +kernel
theorem tyX1_ok : ∀ k, k < 6 → parseFieldDescriptor (TX1 k).2.2.1 = some (tyX1 k) := by decide +kernel
abbrev cX1_init : ByteArray := prog_1_method_1_code
def yX1_init : MethodName := ⟨RX1, "<init>", "()V"⟩
def dkwX1_init_1 : List UInt8 := [181, 0, 19, 42, 187, 0, 23, 89, 183, 0, 25, 181, 0, 26, 42, 2, 181, 0, 30, 177]
abbrev dktX1_init_1 : List UInt8 := dkwX1_init_1 ++ []
def dkwX1_init_0 : List UInt8 := [42, 183, 0, 1, 42, 187, 0, 7, 89, 183, 0, 9, 181, 0, 10, 42, 187, 0, 16, 89, 183, 0, 18]
abbrev dktX1_init_0 : List UInt8 := dkwX1_init_0 ++ dktX1_init_1
theorem dksX1_init_0 : cX1_init.data.toList.drop 0 = dktX1_init_0 := by decide +kernel
theorem dksX1_init_1 : cX1_init.data.toList.drop 23 = dktX1_init_1 := dk_seg dksX1_init_0 23 rfl rfl
theorem dX1_init_0 : decode cX1_init 0 = .ok (.aload_n 0, 1) := dk_42 (dk_at dksX1_init_0 0 rfl rfl)
theorem dX1_init_1 : decode cX1_init 1 = .ok (.invokespecial 1, 3) := dk_183 0 1 (dk_at dksX1_init_0 1 rfl rfl)
theorem dX1_init_4 : decode cX1_init 4 = .ok (.aload_n 0, 1) := dk_42 (dk_at dksX1_init_0 4 rfl rfl)
theorem dX1_init_5 : decode cX1_init 5 = .ok (.new 7, 3) := dk_187 0 7 (dk_at dksX1_init_0 5 rfl rfl)
theorem dX1_init_8 : decode cX1_init 8 = .ok (.dup, 1) := dk_89 (dk_at dksX1_init_0 8 rfl rfl)
theorem dX1_init_9 : decode cX1_init 9 = .ok (.invokespecial 9, 3) := dk_183 0 9 (dk_at dksX1_init_0 9 rfl rfl)
theorem dX1_init_12 : decode cX1_init 12 = .ok (.putfield 10, 3) := dk_181 0 10 (dk_at dksX1_init_0 12 rfl rfl)
theorem dX1_init_15 : decode cX1_init 15 = .ok (.aload_n 0, 1) := dk_42 (dk_at dksX1_init_0 15 rfl rfl)
theorem dX1_init_16 : decode cX1_init 16 = .ok (.new 16, 3) := dk_187 0 16 (dk_at dksX1_init_0 16 rfl rfl)
theorem dX1_init_19 : decode cX1_init 19 = .ok (.dup, 1) := dk_89 (dk_at dksX1_init_0 19 rfl rfl)
theorem dX1_init_20 : decode cX1_init 20 = .ok (.invokespecial 18, 3) := dk_183 0 18 (dk_at dksX1_init_0 20 rfl rfl)
theorem dX1_init_23 : decode cX1_init 23 = .ok (.putfield 19, 3) := dk_181 0 19 (dk_at dksX1_init_1 0 rfl rfl)
theorem dX1_init_26 : decode cX1_init 26 = .ok (.aload_n 0, 1) := dk_42 (dk_at dksX1_init_1 3 rfl rfl)
theorem dX1_init_27 : decode cX1_init 27 = .ok (.new 23, 3) := dk_187 0 23 (dk_at dksX1_init_1 4 rfl rfl)
theorem dX1_init_30 : decode cX1_init 30 = .ok (.dup, 1) := dk_89 (dk_at dksX1_init_1 7 rfl rfl)
theorem dX1_init_31 : decode cX1_init 31 = .ok (.invokespecial 25, 3) := dk_183 0 25 (dk_at dksX1_init_1 8 rfl rfl)
theorem dX1_init_34 : decode cX1_init 34 = .ok (.putfield 26, 3) := dk_181 0 26 (dk_at dksX1_init_1 11 rfl rfl)
theorem dX1_init_37 : decode cX1_init 37 = .ok (.aload_n 0, 1) := dk_42 (dk_at dksX1_init_1 14 rfl rfl)
theorem dX1_init_38 : decode cX1_init 38 = .ok (.iconst (-1), 1) := dk_2 (dk_at dksX1_init_1 15 rfl rfl)
theorem dX1_init_39 : decode cX1_init 39 = .ok (.putfield 30, 3) := dk_181 0 30 (dk_at dksX1_init_1 16 rfl rfl)
theorem dX1_init_42 : decode cX1_init 42 = .ok (.return_, 1) := dk_177 (dk_at dksX1_init_1 19 rfl rfl)
abbrev cX1_movable : ByteArray := prog_1_method_43_code
def yX1_movable : MethodName := ⟨RX1, "movable", "()I"⟩
def dkwX1_movable_0 : List UInt8 := [42, 180, 0, 10, 42, 186, 1, 73, 0, 0, 182, 1, 76, 172]
abbrev dktX1_movable_0 : List UInt8 := dkwX1_movable_0 ++ []
theorem dksX1_movable_0 : cX1_movable.data.toList.drop 0 = dktX1_movable_0 := by decide +kernel
theorem dX1_movable_0 : decode cX1_movable 0 = .ok (.aload_n 0, 1) := dk_42 (dk_at dksX1_movable_0 0 rfl rfl)
theorem dX1_movable_1 : decode cX1_movable 1 = .ok (.getfield 10, 3) := dk_180 0 10 (dk_at dksX1_movable_0 1 rfl rfl)
theorem dX1_movable_4 : decode cX1_movable 4 = .ok (.aload_n 0, 1) := dk_42 (dk_at dksX1_movable_0 4 rfl rfl)
theorem dX1_movable_5 : decode cX1_movable 5 = .ok (.invokedynamic 329, 5) := by decide +kernel
theorem dX1_movable_10 : decode cX1_movable 10 = .ok (.invokevirtual 332, 3) := dk_182 1 76 (dk_at dksX1_movable_0 10 rfl rfl)
theorem dX1_movable_13 : decode cX1_movable 13 = .ok (.ireturn, 1) := dk_172 (dk_at dksX1_movable_0 13 rfl rfl)
abbrev cX1_isMovable : ByteArray := prog_1_method_42_code
def yX1_isMovable : MethodName := ⟨RX1, "isMovable", "(LStaffRailway$Train;)Z"⟩
def dkwX1_isMovable_2 : List UInt8 := [4, 96, 43, 180, 0, 210, 182, 1, 70, 153, 0, 7, 4, 167, 0, 4, 3, 172]
abbrev dktX1_isMovable_2 : List UInt8 := dkwX1_isMovable_2 ++ []
def dkwX1_isMovable_1 : List UInt8 := [4, 100, 43, 180, 0, 210, 182, 1, 70, 154, 0, 27, 28, 4, 96, 184, 0, 98, 153, 0, 22, 42, 28, 28]
abbrev dktX1_isMovable_1 : List UInt8 := dkwX1_isMovable_1 ++ dktX1_isMovable_2
def dkwX1_isMovable_0 : List UInt8 := [43, 180, 0, 213, 61, 43, 182, 1, 67, 154, 0, 55, 28, 4, 100, 184, 0, 98, 153, 0, 18, 42, 28, 28]
abbrev dktX1_isMovable_0 : List UInt8 := dkwX1_isMovable_0 ++ dktX1_isMovable_1
theorem dksX1_isMovable_0 : cX1_isMovable.data.toList.drop 0 = dktX1_isMovable_0 := by decide +kernel
theorem dksX1_isMovable_1 : cX1_isMovable.data.toList.drop 24 = dktX1_isMovable_1 := dk_seg dksX1_isMovable_0 24 rfl rfl
theorem dksX1_isMovable_2 : cX1_isMovable.data.toList.drop 48 = dktX1_isMovable_2 := dk_seg dksX1_isMovable_1 24 rfl rfl
theorem dX1_isMovable_0 : decode cX1_isMovable 0 = .ok (.aload_n 1, 1) := dk_43 (dk_at dksX1_isMovable_0 0 rfl rfl)
theorem dX1_isMovable_1 : decode cX1_isMovable 1 = .ok (.getfield 213, 3) := dk_180 0 213 (dk_at dksX1_isMovable_0 1 rfl rfl)
theorem dX1_isMovable_4 : decode cX1_isMovable 4 = .ok (.istore_n 2, 1) := dk_61 (dk_at dksX1_isMovable_0 4 rfl rfl)
theorem dX1_isMovable_5 : decode cX1_isMovable 5 = .ok (.aload_n 1, 1) := dk_43 (dk_at dksX1_isMovable_0 5 rfl rfl)
theorem dX1_isMovable_6 : decode cX1_isMovable 6 = .ok (.invokevirtual 323, 3) := dk_182 1 67 (dk_at dksX1_isMovable_0 6 rfl rfl)
theorem dX1_isMovable_9 : decode cX1_isMovable 9 = .ok (.ifCond .ne 55, 3) := dk_154 0 55 (dk_at dksX1_isMovable_0 9 rfl rfl)
theorem dX1_isMovable_12 : decode cX1_isMovable 12 = .ok (.iload_n 2, 1) := dk_28 (dk_at dksX1_isMovable_0 12 rfl rfl)
theorem dX1_isMovable_13 : decode cX1_isMovable 13 = .ok (.iconst 1, 1) := dk_4 (dk_at dksX1_isMovable_0 13 rfl rfl)
theorem dX1_isMovable_14 : decode cX1_isMovable 14 = .ok (.isub, 1) := dk_100 (dk_at dksX1_isMovable_0 14 rfl rfl)
theorem dX1_isMovable_15 : decode cX1_isMovable 15 = .ok (.invokestatic 98, 3) := dk_184 0 98 (dk_at dksX1_isMovable_0 15 rfl rfl)
theorem dX1_isMovable_18 : decode cX1_isMovable 18 = .ok (.ifCond .eq 18, 3) := dk_153 0 18 (dk_at dksX1_isMovable_0 18 rfl rfl)
theorem dX1_isMovable_21 : decode cX1_isMovable 21 = .ok (.aload_n 0, 1) := dk_42 (dk_at dksX1_isMovable_0 21 rfl rfl)
theorem dX1_isMovable_22 : decode cX1_isMovable 22 = .ok (.iload_n 2, 1) := dk_28 (dk_at dksX1_isMovable_0 22 rfl rfl)
theorem dX1_isMovable_23 : decode cX1_isMovable 23 = .ok (.iload_n 2, 1) := dk_28 (dk_at dksX1_isMovable_0 23 rfl rfl)
theorem dX1_isMovable_24 : decode cX1_isMovable 24 = .ok (.iconst 1, 1) := dk_4 (dk_at dksX1_isMovable_1 0 rfl rfl)
theorem dX1_isMovable_25 : decode cX1_isMovable 25 = .ok (.isub, 1) := dk_100 (dk_at dksX1_isMovable_1 1 rfl rfl)
theorem dX1_isMovable_26 : decode cX1_isMovable 26 = .ok (.aload_n 1, 1) := dk_43 (dk_at dksX1_isMovable_1 2 rfl rfl)
theorem dX1_isMovable_27 : decode cX1_isMovable 27 = .ok (.getfield 210, 3) := dk_180 0 210 (dk_at dksX1_isMovable_1 3 rfl rfl)
theorem dX1_isMovable_30 : decode cX1_isMovable 30 = .ok (.invokevirtual 326, 3) := dk_182 1 70 (dk_at dksX1_isMovable_1 6 rfl rfl)
theorem dX1_isMovable_33 : decode cX1_isMovable 33 = .ok (.ifCond .ne 27, 3) := dk_154 0 27 (dk_at dksX1_isMovable_1 9 rfl rfl)
theorem dX1_isMovable_36 : decode cX1_isMovable 36 = .ok (.iload_n 2, 1) := dk_28 (dk_at dksX1_isMovable_1 12 rfl rfl)
theorem dX1_isMovable_37 : decode cX1_isMovable 37 = .ok (.iconst 1, 1) := dk_4 (dk_at dksX1_isMovable_1 13 rfl rfl)
theorem dX1_isMovable_38 : decode cX1_isMovable 38 = .ok (.iadd, 1) := dk_96 (dk_at dksX1_isMovable_1 14 rfl rfl)
theorem dX1_isMovable_39 : decode cX1_isMovable 39 = .ok (.invokestatic 98, 3) := dk_184 0 98 (dk_at dksX1_isMovable_1 15 rfl rfl)
theorem dX1_isMovable_42 : decode cX1_isMovable 42 = .ok (.ifCond .eq 22, 3) := dk_153 0 22 (dk_at dksX1_isMovable_1 18 rfl rfl)
theorem dX1_isMovable_45 : decode cX1_isMovable 45 = .ok (.aload_n 0, 1) := dk_42 (dk_at dksX1_isMovable_1 21 rfl rfl)
theorem dX1_isMovable_46 : decode cX1_isMovable 46 = .ok (.iload_n 2, 1) := dk_28 (dk_at dksX1_isMovable_1 22 rfl rfl)
theorem dX1_isMovable_47 : decode cX1_isMovable 47 = .ok (.iload_n 2, 1) := dk_28 (dk_at dksX1_isMovable_1 23 rfl rfl)
theorem dX1_isMovable_48 : decode cX1_isMovable 48 = .ok (.iconst 1, 1) := dk_4 (dk_at dksX1_isMovable_2 0 rfl rfl)
theorem dX1_isMovable_49 : decode cX1_isMovable 49 = .ok (.iadd, 1) := dk_96 (dk_at dksX1_isMovable_2 1 rfl rfl)
theorem dX1_isMovable_50 : decode cX1_isMovable 50 = .ok (.aload_n 1, 1) := dk_43 (dk_at dksX1_isMovable_2 2 rfl rfl)
theorem dX1_isMovable_51 : decode cX1_isMovable 51 = .ok (.getfield 210, 3) := dk_180 0 210 (dk_at dksX1_isMovable_2 3 rfl rfl)
theorem dX1_isMovable_54 : decode cX1_isMovable 54 = .ok (.invokevirtual 326, 3) := dk_182 1 70 (dk_at dksX1_isMovable_2 6 rfl rfl)
theorem dX1_isMovable_57 : decode cX1_isMovable 57 = .ok (.ifCond .eq 7, 3) := dk_153 0 7 (dk_at dksX1_isMovable_2 9 rfl rfl)
theorem dX1_isMovable_60 : decode cX1_isMovable 60 = .ok (.iconst 1, 1) := dk_4 (dk_at dksX1_isMovable_2 12 rfl rfl)
theorem dX1_isMovable_61 : decode cX1_isMovable 61 = .ok (.goto 4, 3) := dk_167 0 4 (dk_at dksX1_isMovable_2 13 rfl rfl)
theorem dX1_isMovable_64 : decode cX1_isMovable 64 = .ok (.iconst 0, 1) := dk_3 (dk_at dksX1_isMovable_2 16 rfl rfl)
theorem dX1_isMovable_65 : decode cX1_isMovable 65 = .ok (.ireturn, 1) := dk_172 (dk_at dksX1_isMovable_2 17 rfl rfl)
abbrev cX1_isStation : ByteArray := prog_1_method_12_code
def yX1_isStation : MethodName := ⟨RX1, "isStation", "(I)Z"⟩
def dkwX1_isStation_0 : List UInt8 := [26, 3, 8, 184, 0, 94, 172]
abbrev dktX1_isStation_0 : List UInt8 := dkwX1_isStation_0 ++ []
theorem dksX1_isStation_0 : cX1_isStation.data.toList.drop 0 = dktX1_isStation_0 := by decide +kernel
theorem dX1_isStation_0 : decode cX1_isStation 0 = .ok (.iload_n 0, 1) := dk_26 (dk_at dksX1_isStation_0 0 rfl rfl)
theorem dX1_isStation_1 : decode cX1_isStation 1 = .ok (.iconst 0, 1) := dk_3 (dk_at dksX1_isStation_0 1 rfl rfl)
theorem dX1_isStation_2 : decode cX1_isStation 2 = .ok (.iconst 5, 1) := dk_8 (dk_at dksX1_isStation_0 2 rfl rfl)
theorem dX1_isStation_3 : decode cX1_isStation 3 = .ok (.invokestatic 94, 3) := dk_184 0 94 (dk_at dksX1_isStation_0 3 rfl rfl)
theorem dX1_isStation_6 : decode cX1_isStation 6 = .ok (.ireturn, 1) := dk_172 (dk_at dksX1_isStation_0 6 rfl rfl)
abbrev cX1_isIn : ByteArray := prog_1_method_2_code
def yX1_isIn : MethodName := ⟨RX1, "isIn", "(III)Z"⟩
def dkwX1_isIn_0 : List UInt8 := [26, 27, 161, 0, 12, 26, 28, 163, 0, 7, 4, 167, 0, 4, 3, 172]
abbrev dktX1_isIn_0 : List UInt8 := dkwX1_isIn_0 ++ []
theorem dksX1_isIn_0 : cX1_isIn.data.toList.drop 0 = dktX1_isIn_0 := by decide +kernel
theorem dX1_isIn_0 : decode cX1_isIn 0 = .ok (.iload_n 0, 1) := dk_26 (dk_at dksX1_isIn_0 0 rfl rfl)
theorem dX1_isIn_1 : decode cX1_isIn 1 = .ok (.iload_n 1, 1) := dk_27 (dk_at dksX1_isIn_0 1 rfl rfl)
theorem dX1_isIn_2 : decode cX1_isIn 2 = .ok (.if_icmp .lt 12, 3) := dk_161 0 12 (dk_at dksX1_isIn_0 2 rfl rfl)
theorem dX1_isIn_5 : decode cX1_isIn 5 = .ok (.iload_n 0, 1) := dk_26 (dk_at dksX1_isIn_0 5 rfl rfl)
theorem dX1_isIn_6 : decode cX1_isIn 6 = .ok (.iload_n 2, 1) := dk_28 (dk_at dksX1_isIn_0 6 rfl rfl)
theorem dX1_isIn_7 : decode cX1_isIn 7 = .ok (.if_icmp .gt 7, 3) := dk_163 0 7 (dk_at dksX1_isIn_0 7 rfl rfl)
theorem dX1_isIn_10 : decode cX1_isIn 10 = .ok (.iconst 1, 1) := dk_4 (dk_at dksX1_isIn_0 10 rfl rfl)
theorem dX1_isIn_11 : decode cX1_isIn 11 = .ok (.goto 4, 3) := dk_167 0 4 (dk_at dksX1_isIn_0 11 rfl rfl)
theorem dX1_isIn_14 : decode cX1_isIn 14 = .ok (.iconst 0, 1) := dk_3 (dk_at dksX1_isIn_0 14 rfl rfl)
theorem dX1_isIn_15 : decode cX1_isIn 15 = .ok (.ireturn, 1) := dk_172 (dk_at dksX1_isIn_0 15 rfl rfl)
abbrev cX1_canGo : ByteArray := prog_1_method_35_code
def yX1_canGo : MethodName := ⟨RX1, "canGo", "(III)Z"⟩
def dkwX1_canGo_0 : List UInt8 := [42, 180, 0, 10, 27, 28, 29, 182, 1, 7, 4, 172, 58, 4, 3, 172]
abbrev dktX1_canGo_0 : List UInt8 := dkwX1_canGo_0 ++ []
theorem dksX1_canGo_0 : cX1_canGo.data.toList.drop 0 = dktX1_canGo_0 := by decide +kernel
theorem dX1_canGo_0 : decode cX1_canGo 0 = .ok (.aload_n 0, 1) := dk_42 (dk_at dksX1_canGo_0 0 rfl rfl)
theorem dX1_canGo_1 : decode cX1_canGo 1 = .ok (.getfield 10, 3) := dk_180 0 10 (dk_at dksX1_canGo_0 1 rfl rfl)
theorem dX1_canGo_4 : decode cX1_canGo 4 = .ok (.iload_n 1, 1) := dk_27 (dk_at dksX1_canGo_0 4 rfl rfl)
theorem dX1_canGo_5 : decode cX1_canGo 5 = .ok (.iload_n 2, 1) := dk_28 (dk_at dksX1_canGo_0 5 rfl rfl)
theorem dX1_canGo_6 : decode cX1_canGo 6 = .ok (.iload_n 3, 1) := dk_29 (dk_at dksX1_canGo_0 6 rfl rfl)
theorem dX1_canGo_7 : decode cX1_canGo 7 = .ok (.invokevirtual 263, 3) := dk_182 1 7 (dk_at dksX1_canGo_0 7 rfl rfl)
theorem dX1_canGo_10 : decode cX1_canGo 10 = .ok (.iconst 1, 1) := dk_4 (dk_at dksX1_canGo_0 10 rfl rfl)
theorem dX1_canGo_11 : decode cX1_canGo 11 = .ok (.ireturn, 1) := dk_172 (dk_at dksX1_canGo_0 11 rfl rfl)
theorem dX1_canGo_12 : decode cX1_canGo 12 = .ok (.astore 4, 2) := dk_58 4 (dk_at dksX1_canGo_0 12 rfl rfl)
theorem dX1_canGo_14 : decode cX1_canGo 14 = .ok (.iconst 0, 1) := dk_3 (dk_at dksX1_canGo_0 14 rfl rfl)
theorem dX1_canGo_15 : decode cX1_canGo 15 = .ok (.ireturn, 1) := dk_172 (dk_at dksX1_canGo_0 15 rfl rfl)
abbrev cX1_refuse : ByteArray := prog_1_method_7_code
def yX1_refuse : MethodName := ⟨RX1, "refuse", "(ZII)V"⟩
def dkwX1_refuse_0 : List UInt8 := [26, 153, 0, 13, 187, 0, 46, 89, 27, 28, 183, 0, 48, 191, 177]
abbrev dktX1_refuse_0 : List UInt8 := dkwX1_refuse_0 ++ []
theorem dksX1_refuse_0 : cX1_refuse.data.toList.drop 0 = dktX1_refuse_0 := by decide +kernel
theorem dX1_refuse_0 : decode cX1_refuse 0 = .ok (.iload_n 0, 1) := dk_26 (dk_at dksX1_refuse_0 0 rfl rfl)
theorem dX1_refuse_1 : decode cX1_refuse 1 = .ok (.ifCond .eq 13, 3) := dk_153 0 13 (dk_at dksX1_refuse_0 1 rfl rfl)
theorem dX1_refuse_4 : decode cX1_refuse 4 = .ok (.new 46, 3) := dk_187 0 46 (dk_at dksX1_refuse_0 4 rfl rfl)
theorem dX1_refuse_7 : decode cX1_refuse 7 = .ok (.dup, 1) := dk_89 (dk_at dksX1_refuse_0 7 rfl rfl)
theorem dX1_refuse_8 : decode cX1_refuse 8 = .ok (.iload_n 1, 1) := dk_27 (dk_at dksX1_refuse_0 8 rfl rfl)
theorem dX1_refuse_9 : decode cX1_refuse 9 = .ok (.iload_n 2, 1) := dk_28 (dk_at dksX1_refuse_0 9 rfl rfl)
theorem dX1_refuse_10 : decode cX1_refuse 10 = .ok (.invokespecial 48, 3) := dk_183 0 48 (dk_at dksX1_refuse_0 10 rfl rfl)
theorem dX1_refuse_13 : decode cX1_refuse 13 = .ok (.athrow, 1) := dk_191 (dk_at dksX1_refuse_0 13 rfl rfl)
theorem dX1_refuse_14 : decode cX1_refuse 14 = .ok (.return_, 1) := dk_177 (dk_at dksX1_refuse_0 14 rfl rfl)
abbrev cX1_save : ByteArray := prog_1_method_56_code
def yX1_save : MethodName := ⟨RX1, "save", "()I"⟩
def dkwX1_save_0 : List UInt8 := [42, 42, 180, 0, 10, 182, 0, 74, 181, 1, 170, 42, 180, 1, 170, 180, 0, 197, 182, 0, 201, 172]
abbrev dktX1_save_0 : List UInt8 := dkwX1_save_0 ++ []
theorem dksX1_save_0 : cX1_save.data.toList.drop 0 = dktX1_save_0 := by decide +kernel
theorem dX1_save_0 : decode cX1_save 0 = .ok (.aload_n 0, 1) := dk_42 (dk_at dksX1_save_0 0 rfl rfl)
theorem dX1_save_1 : decode cX1_save 1 = .ok (.aload_n 0, 1) := dk_42 (dk_at dksX1_save_0 1 rfl rfl)
theorem dX1_save_2 : decode cX1_save 2 = .ok (.getfield 10, 3) := dk_180 0 10 (dk_at dksX1_save_0 2 rfl rfl)
theorem dX1_save_5 : decode cX1_save 5 = .ok (.invokevirtual 74, 3) := dk_182 0 74 (dk_at dksX1_save_0 5 rfl rfl)
theorem dX1_save_8 : decode cX1_save 8 = .ok (.putfield 426, 3) := dk_181 1 170 (dk_at dksX1_save_0 8 rfl rfl)
theorem dX1_save_11 : decode cX1_save 11 = .ok (.aload_n 0, 1) := dk_42 (dk_at dksX1_save_0 11 rfl rfl)
theorem dX1_save_12 : decode cX1_save 12 = .ok (.getfield 426, 3) := dk_180 1 170 (dk_at dksX1_save_0 12 rfl rfl)
theorem dX1_save_15 : decode cX1_save 15 = .ok (.getfield 197, 3) := dk_180 0 197 (dk_at dksX1_save_0 15 rfl rfl)
theorem dX1_save_18 : decode cX1_save 18 = .ok (.invokevirtual 201, 3) := dk_182 0 201 (dk_at dksX1_save_0 18 rfl rfl)
theorem dX1_save_21 : decode cX1_save 21 = .ok (.ireturn, 1) := dk_172 (dk_at dksX1_save_0 21 rfl rfl)
abbrev cX1_tracks : ByteArray := prog_1_method_13_code
def yX1_tracks : MethodName := ⟨RX1, "tracks", "(II)I"⟩
def dkwX1_tracks_1 : List UInt8 := [182, 0, 112, 172]
abbrev dktX1_tracks_1 : List UInt8 := dkwX1_tracks_1 ++ []
def dkwX1_tracks_0 : List UInt8 := [27, 184, 0, 98, 184, 0, 102, 28, 4, 7, 184, 0, 94, 184, 0, 106, 42, 27, 28, 186, 0, 109, 0, 0]
abbrev dktX1_tracks_0 : List UInt8 := dkwX1_tracks_0 ++ dktX1_tracks_1
theorem dksX1_tracks_0 : cX1_tracks.data.toList.drop 0 = dktX1_tracks_0 := by decide +kernel
theorem dksX1_tracks_1 : cX1_tracks.data.toList.drop 24 = dktX1_tracks_1 := dk_seg dksX1_tracks_0 24 rfl rfl
theorem dX1_tracks_0 : decode cX1_tracks 0 = .ok (.iload_n 1, 1) := dk_27 (dk_at dksX1_tracks_0 0 rfl rfl)
theorem dX1_tracks_1 : decode cX1_tracks 1 = .ok (.invokestatic 98, 3) := dk_184 0 98 (dk_at dksX1_tracks_0 1 rfl rfl)
theorem dX1_tracks_4 : decode cX1_tracks 4 = .ok (.invokestatic 102, 3) := dk_184 0 102 (dk_at dksX1_tracks_0 4 rfl rfl)
theorem dX1_tracks_7 : decode cX1_tracks 7 = .ok (.iload_n 2, 1) := dk_28 (dk_at dksX1_tracks_0 7 rfl rfl)
theorem dX1_tracks_8 : decode cX1_tracks 8 = .ok (.iconst 1, 1) := dk_4 (dk_at dksX1_tracks_0 8 rfl rfl)
theorem dX1_tracks_9 : decode cX1_tracks 9 = .ok (.iconst 4, 1) := dk_7 (dk_at dksX1_tracks_0 9 rfl rfl)
theorem dX1_tracks_10 : decode cX1_tracks 10 = .ok (.invokestatic 94, 3) := dk_184 0 94 (dk_at dksX1_tracks_0 10 rfl rfl)
theorem dX1_tracks_13 : decode cX1_tracks 13 = .ok (.invokestatic 106, 3) := dk_184 0 106 (dk_at dksX1_tracks_0 13 rfl rfl)
theorem dX1_tracks_16 : decode cX1_tracks 16 = .ok (.aload_n 0, 1) := dk_42 (dk_at dksX1_tracks_0 16 rfl rfl)
theorem dX1_tracks_17 : decode cX1_tracks 17 = .ok (.iload_n 1, 1) := dk_27 (dk_at dksX1_tracks_0 17 rfl rfl)
theorem dX1_tracks_18 : decode cX1_tracks 18 = .ok (.iload_n 2, 1) := dk_28 (dk_at dksX1_tracks_0 18 rfl rfl)
theorem dX1_tracks_19 : decode cX1_tracks 19 = .ok (.invokedynamic 109, 5) := by decide +kernel
theorem dX1_tracks_24 : decode cX1_tracks 24 = .ok (.invokevirtual 112, 3) := dk_182 0 112 (dk_at dksX1_tracks_1 0 rfl rfl)
theorem dX1_tracks_27 : decode cX1_tracks 27 = .ok (.ireturn, 1) := dk_172 (dk_at dksX1_tracks_1 3 rfl rfl)
abbrev cX1_checkIndex : ByteArray := prog_1_method_3_code
def yX1_checkIndex : MethodName := ⟨RX1, "checkIndex", "(Z)V"⟩
def dkwX1_checkIndex_0 : List UInt8 := [26, 154, 0, 11, 187, 0, 34, 89, 183, 0, 36, 191, 177]
abbrev dktX1_checkIndex_0 : List UInt8 := dkwX1_checkIndex_0 ++ []
theorem dksX1_checkIndex_0 : cX1_checkIndex.data.toList.drop 0 = dktX1_checkIndex_0 := by decide +kernel
theorem dX1_checkIndex_0 : decode cX1_checkIndex 0 = .ok (.iload_n 0, 1) := dk_26 (dk_at dksX1_checkIndex_0 0 rfl rfl)
theorem dX1_checkIndex_1 : decode cX1_checkIndex 1 = .ok (.ifCond .ne 11, 3) := dk_154 0 11 (dk_at dksX1_checkIndex_0 1 rfl rfl)
theorem dX1_checkIndex_4 : decode cX1_checkIndex 4 = .ok (.new 34, 3) := dk_187 0 34 (dk_at dksX1_checkIndex_0 4 rfl rfl)
theorem dX1_checkIndex_7 : decode cX1_checkIndex 7 = .ok (.dup, 1) := dk_89 (dk_at dksX1_checkIndex_0 7 rfl rfl)
theorem dX1_checkIndex_8 : decode cX1_checkIndex 8 = .ok (.invokespecial 36, 3) := dk_183 0 36 (dk_at dksX1_checkIndex_0 8 rfl rfl)
theorem dX1_checkIndex_11 : decode cX1_checkIndex 11 = .ok (.athrow, 1) := dk_191 (dk_at dksX1_checkIndex_0 11 rfl rfl)
theorem dX1_checkIndex_12 : decode cX1_checkIndex 12 = .ok (.return_, 1) := dk_177 (dk_at dksX1_checkIndex_0 12 rfl rfl)
abbrev cX1_check : ByteArray := prog_1_method_4_code
def yX1_check : MethodName := ⟨RX1, "check", "(Z)V"⟩
def dkwX1_check_0 : List UInt8 := [26, 154, 0, 11, 187, 0, 37, 89, 183, 0, 39, 191, 177]
abbrev dktX1_check_0 : List UInt8 := dkwX1_check_0 ++ []
theorem dksX1_check_0 : cX1_check.data.toList.drop 0 = dktX1_check_0 := by decide +kernel
theorem dX1_check_0 : decode cX1_check 0 = .ok (.iload_n 0, 1) := dk_26 (dk_at dksX1_check_0 0 rfl rfl)
theorem dX1_check_1 : decode cX1_check 1 = .ok (.ifCond .ne 11, 3) := dk_154 0 11 (dk_at dksX1_check_0 1 rfl rfl)
theorem dX1_check_4 : decode cX1_check 4 = .ok (.new 37, 3) := dk_187 0 37 (dk_at dksX1_check_0 4 rfl rfl)
theorem dX1_check_7 : decode cX1_check 7 = .ok (.dup, 1) := dk_89 (dk_at dksX1_check_0 7 rfl rfl)
theorem dX1_check_8 : decode cX1_check 8 = .ok (.invokespecial 39, 3) := dk_183 0 39 (dk_at dksX1_check_0 8 rfl rfl)
theorem dX1_check_11 : decode cX1_check 11 = .ok (.athrow, 1) := dk_191 (dk_at dksX1_check_0 11 rfl rfl)
theorem dX1_check_12 : decode cX1_check 12 = .ok (.return_, 1) := dk_177 (dk_at dksX1_check_0 12 rfl rfl)
abbrev cX1_lambda_tracks_0 : ByteArray := prog_1_method_77_code
def yX1_lambda_tracks_0 : MethodName := ⟨RX1, "lambda$tracks$0", "(IILStaffRailway$Line;)I"⟩
def dkwX1_lambda_tracks_0_1 : List UInt8 := [26, 46, 62, 44, 180, 0, 122, 26, 27, 79, 29, 172]
abbrev dktX1_lambda_tracks_0_1 : List UInt8 := dkwX1_lambda_tracks_0_1 ++ []
def dkwX1_lambda_tracks_0_0 : List UInt8 := [44, 26, 182, 0, 126, 27, 164, 0, 7, 4, 167, 0, 4, 3, 16, 8, 26, 184, 1, 185, 44, 180, 0, 122]
abbrev dktX1_lambda_tracks_0_0 : List UInt8 := dkwX1_lambda_tracks_0_0 ++ dktX1_lambda_tracks_0_1
theorem dksX1_lambda_tracks_0_0 : cX1_lambda_tracks_0.data.toList.drop 0 = dktX1_lambda_tracks_0_0 := by decide +kernel
theorem dksX1_lambda_tracks_0_1 : cX1_lambda_tracks_0.data.toList.drop 24 = dktX1_lambda_tracks_0_1 := dk_seg dksX1_lambda_tracks_0_0 24 rfl rfl
theorem dX1_lambda_tracks_0_0 : decode cX1_lambda_tracks_0 0 = .ok (.aload_n 2, 1) := dk_44 (dk_at dksX1_lambda_tracks_0_0 0 rfl rfl)
theorem dX1_lambda_tracks_0_1 : decode cX1_lambda_tracks_0 1 = .ok (.iload_n 0, 1) := dk_26 (dk_at dksX1_lambda_tracks_0_0 1 rfl rfl)
theorem dX1_lambda_tracks_0_2 : decode cX1_lambda_tracks_0 2 = .ok (.invokevirtual 126, 3) := dk_182 0 126 (dk_at dksX1_lambda_tracks_0_0 2 rfl rfl)
theorem dX1_lambda_tracks_0_5 : decode cX1_lambda_tracks_0 5 = .ok (.iload_n 1, 1) := dk_27 (dk_at dksX1_lambda_tracks_0_0 5 rfl rfl)
theorem dX1_lambda_tracks_0_6 : decode cX1_lambda_tracks_0 6 = .ok (.if_icmp .le 7, 3) := dk_164 0 7 (dk_at dksX1_lambda_tracks_0_0 6 rfl rfl)
theorem dX1_lambda_tracks_0_9 : decode cX1_lambda_tracks_0 9 = .ok (.iconst 1, 1) := dk_4 (dk_at dksX1_lambda_tracks_0_0 9 rfl rfl)
theorem dX1_lambda_tracks_0_10 : decode cX1_lambda_tracks_0 10 = .ok (.goto 4, 3) := dk_167 0 4 (dk_at dksX1_lambda_tracks_0_0 10 rfl rfl)
theorem dX1_lambda_tracks_0_13 : decode cX1_lambda_tracks_0 13 = .ok (.iconst 0, 1) := dk_3 (dk_at dksX1_lambda_tracks_0_0 13 rfl rfl)
theorem dX1_lambda_tracks_0_14 : decode cX1_lambda_tracks_0 14 = .ok (.bipush 8, 2) := dk_16 8 (dk_at dksX1_lambda_tracks_0_0 14 rfl rfl)
theorem dX1_lambda_tracks_0_16 : decode cX1_lambda_tracks_0 16 = .ok (.iload_n 0, 1) := dk_26 (dk_at dksX1_lambda_tracks_0_0 16 rfl rfl)
theorem dX1_lambda_tracks_0_17 : decode cX1_lambda_tracks_0 17 = .ok (.invokestatic 441, 3) := dk_184 1 185 (dk_at dksX1_lambda_tracks_0_0 17 rfl rfl)
theorem dX1_lambda_tracks_0_20 : decode cX1_lambda_tracks_0 20 = .ok (.aload_n 2, 1) := dk_44 (dk_at dksX1_lambda_tracks_0_0 20 rfl rfl)
theorem dX1_lambda_tracks_0_21 : decode cX1_lambda_tracks_0 21 = .ok (.getfield 122, 3) := dk_180 0 122 (dk_at dksX1_lambda_tracks_0_0 21 rfl rfl)
theorem dX1_lambda_tracks_0_24 : decode cX1_lambda_tracks_0 24 = .ok (.iload_n 0, 1) := dk_26 (dk_at dksX1_lambda_tracks_0_1 0 rfl rfl)
theorem dX1_lambda_tracks_0_25 : decode cX1_lambda_tracks_0 25 = .ok (.iaload, 1) := dk_46 (dk_at dksX1_lambda_tracks_0_1 1 rfl rfl)
theorem dX1_lambda_tracks_0_26 : decode cX1_lambda_tracks_0 26 = .ok (.istore_n 3, 1) := dk_62 (dk_at dksX1_lambda_tracks_0_1 2 rfl rfl)
theorem dX1_lambda_tracks_0_27 : decode cX1_lambda_tracks_0 27 = .ok (.aload_n 2, 1) := dk_44 (dk_at dksX1_lambda_tracks_0_1 3 rfl rfl)
theorem dX1_lambda_tracks_0_28 : decode cX1_lambda_tracks_0 28 = .ok (.getfield 122, 3) := dk_180 0 122 (dk_at dksX1_lambda_tracks_0_1 4 rfl rfl)
theorem dX1_lambda_tracks_0_31 : decode cX1_lambda_tracks_0 31 = .ok (.iload_n 0, 1) := dk_26 (dk_at dksX1_lambda_tracks_0_1 7 rfl rfl)
theorem dX1_lambda_tracks_0_32 : decode cX1_lambda_tracks_0 32 = .ok (.iload_n 1, 1) := dk_27 (dk_at dksX1_lambda_tracks_0_1 8 rfl rfl)
theorem dX1_lambda_tracks_0_33 : decode cX1_lambda_tracks_0 33 = .ok (.iastore, 1) := dk_79 (dk_at dksX1_lambda_tracks_0_1 9 rfl rfl)
theorem dX1_lambda_tracks_0_34 : decode cX1_lambda_tracks_0 34 = .ok (.iload_n 3, 1) := dk_29 (dk_at dksX1_lambda_tracks_0_1 10 rfl rfl)
theorem dX1_lambda_tracks_0_35 : decode cX1_lambda_tracks_0 35 = .ok (.ireturn, 1) := dk_172 (dk_at dksX1_lambda_tracks_0_1 11 rfl rfl)
abbrev cX1_changes : ByteArray := prog_1_method_11_code
def yX1_changes : MethodName := ⟨RX1, "changes", "(LStaffRailway$Deed;)I"⟩
def dkwX1_changes_1 : List UInt8 := [78, 42, 45, 182, 0, 90, 191]
abbrev dktX1_changes_1 : List UInt8 := dkwX1_changes_1 ++ []
def dkwX1_changes_0 : List UInt8 := [42, 180, 0, 10, 182, 0, 74, 77, 42, 44, 43, 42, 180, 0, 10, 185, 0, 78, 2, 0, 182, 0, 84, 172]
abbrev dktX1_changes_0 : List UInt8 := dkwX1_changes_0 ++ dktX1_changes_1
theorem dksX1_changes_0 : cX1_changes.data.toList.drop 0 = dktX1_changes_0 := by decide +kernel
theorem dksX1_changes_1 : cX1_changes.data.toList.drop 24 = dktX1_changes_1 := dk_seg dksX1_changes_0 24 rfl rfl
theorem dX1_changes_0 : decode cX1_changes 0 = .ok (.aload_n 0, 1) := dk_42 (dk_at dksX1_changes_0 0 rfl rfl)
theorem dX1_changes_1 : decode cX1_changes 1 = .ok (.getfield 10, 3) := dk_180 0 10 (dk_at dksX1_changes_0 1 rfl rfl)
theorem dX1_changes_4 : decode cX1_changes 4 = .ok (.invokevirtual 74, 3) := dk_182 0 74 (dk_at dksX1_changes_0 4 rfl rfl)
theorem dX1_changes_7 : decode cX1_changes 7 = .ok (.astore_n 2, 1) := dk_77 (dk_at dksX1_changes_0 7 rfl rfl)
theorem dX1_changes_8 : decode cX1_changes 8 = .ok (.aload_n 0, 1) := dk_42 (dk_at dksX1_changes_0 8 rfl rfl)
theorem dX1_changes_9 : decode cX1_changes 9 = .ok (.aload_n 2, 1) := dk_44 (dk_at dksX1_changes_0 9 rfl rfl)
theorem dX1_changes_10 : decode cX1_changes 10 = .ok (.aload_n 1, 1) := dk_43 (dk_at dksX1_changes_0 10 rfl rfl)
theorem dX1_changes_11 : decode cX1_changes 11 = .ok (.aload_n 0, 1) := dk_42 (dk_at dksX1_changes_0 11 rfl rfl)
theorem dX1_changes_12 : decode cX1_changes 12 = .ok (.getfield 10, 3) := dk_180 0 10 (dk_at dksX1_changes_0 12 rfl rfl)
theorem dX1_changes_15 : decode cX1_changes 15 = .ok (.invokeinterface 78 2, 5) := by decide +kernel
theorem dX1_changes_20 : decode cX1_changes 20 = .ok (.invokevirtual 84, 3) := dk_182 0 84 (dk_at dksX1_changes_0 20 rfl rfl)
theorem dX1_changes_23 : decode cX1_changes 23 = .ok (.ireturn, 1) := dk_172 (dk_at dksX1_changes_0 23 rfl rfl)
theorem dX1_changes_24 : decode cX1_changes 24 = .ok (.astore_n 3, 1) := dk_78 (dk_at dksX1_changes_1 0 rfl rfl)
theorem dX1_changes_25 : decode cX1_changes 25 = .ok (.aload_n 0, 1) := dk_42 (dk_at dksX1_changes_1 1 rfl rfl)
theorem dX1_changes_26 : decode cX1_changes 26 = .ok (.aload_n 3, 1) := dk_45 (dk_at dksX1_changes_1 2 rfl rfl)
theorem dX1_changes_27 : decode cX1_changes 27 = .ok (.invokevirtual 90, 3) := dk_182 0 90 (dk_at dksX1_changes_1 3 rfl rfl)
theorem dX1_changes_30 : decode cX1_changes 30 = .ok (.athrow, 1) := dk_191 (dk_at dksX1_changes_1 6 rfl rfl)
abbrev cX1_keeps : ByteArray := prog_1_method_10_code
def yX1_keeps : MethodName := ⟨RX1, "keeps", "(LStaffRailway$Line;I)I"⟩
def dkwX1_keeps_1 : List UInt8 := [182, 0, 70, 87, 28, 172]
abbrev dktX1_keeps_1 : List UInt8 := dkwX1_keeps_1 ++ []
def dkwX1_keeps_0 : List UInt8 := [42, 180, 0, 19, 43, 182, 0, 62, 42, 180, 0, 19, 182, 0, 66, 16, 8, 164, 0, 11, 42, 180, 0, 19]
abbrev dktX1_keeps_0 : List UInt8 := dkwX1_keeps_0 ++ dktX1_keeps_1
theorem dksX1_keeps_0 : cX1_keeps.data.toList.drop 0 = dktX1_keeps_0 := by decide +kernel
theorem dksX1_keeps_1 : cX1_keeps.data.toList.drop 24 = dktX1_keeps_1 := dk_seg dksX1_keeps_0 24 rfl rfl
theorem dX1_keeps_0 : decode cX1_keeps 0 = .ok (.aload_n 0, 1) := dk_42 (dk_at dksX1_keeps_0 0 rfl rfl)
theorem dX1_keeps_1 : decode cX1_keeps 1 = .ok (.getfield 19, 3) := dk_180 0 19 (dk_at dksX1_keeps_0 1 rfl rfl)
theorem dX1_keeps_4 : decode cX1_keeps 4 = .ok (.aload_n 1, 1) := dk_43 (dk_at dksX1_keeps_0 4 rfl rfl)
theorem dX1_keeps_5 : decode cX1_keeps 5 = .ok (.invokevirtual 62, 3) := dk_182 0 62 (dk_at dksX1_keeps_0 5 rfl rfl)
theorem dX1_keeps_8 : decode cX1_keeps 8 = .ok (.aload_n 0, 1) := dk_42 (dk_at dksX1_keeps_0 8 rfl rfl)
theorem dX1_keeps_9 : decode cX1_keeps 9 = .ok (.getfield 19, 3) := dk_180 0 19 (dk_at dksX1_keeps_0 9 rfl rfl)
theorem dX1_keeps_12 : decode cX1_keeps 12 = .ok (.invokevirtual 66, 3) := dk_182 0 66 (dk_at dksX1_keeps_0 12 rfl rfl)
theorem dX1_keeps_15 : decode cX1_keeps 15 = .ok (.bipush 8, 2) := dk_16 8 (dk_at dksX1_keeps_0 15 rfl rfl)
theorem dX1_keeps_17 : decode cX1_keeps 17 = .ok (.if_icmp .le 11, 3) := dk_164 0 11 (dk_at dksX1_keeps_0 17 rfl rfl)
theorem dX1_keeps_20 : decode cX1_keeps 20 = .ok (.aload_n 0, 1) := dk_42 (dk_at dksX1_keeps_0 20 rfl rfl)
theorem dX1_keeps_21 : decode cX1_keeps 21 = .ok (.getfield 19, 3) := dk_180 0 19 (dk_at dksX1_keeps_0 21 rfl rfl)
theorem dX1_keeps_24 : decode cX1_keeps 24 = .ok (.invokevirtual 70, 3) := dk_182 0 70 (dk_at dksX1_keeps_1 0 rfl rfl)
theorem dX1_keeps_27 : decode cX1_keeps 27 = .ok (.pop, 1) := dk_87 (dk_at dksX1_keeps_1 3 rfl rfl)
theorem dX1_keeps_28 : decode cX1_keeps 28 = .ok (.iload_n 2, 1) := dk_28 (dk_at dksX1_keeps_1 4 rfl rfl)
theorem dX1_keeps_29 : decode cX1_keeps 29 = .ok (.ireturn, 1) := dk_172 (dk_at dksX1_keeps_1 5 rfl rfl)
abbrev cX1_told : ByteArray := prog_1_method_9_code
def yX1_told : MethodName := ⟨RX1, "told", "(Ljava/lang/Exception;)Ljava/lang/RuntimeException;"⟩
def dkwX1_told_1 : List UInt8 := [183, 0, 39, 176]
abbrev dktX1_told_1 : List UInt8 := dkwX1_told_1 ++ []
def dkwX1_told_0 : List UInt8 := [43, 193, 0, 46, 153, 0, 16, 43, 192, 0, 46, 77, 42, 44, 182, 0, 58, 167, 0, 10, 187, 0, 37, 89]
abbrev dktX1_told_0 : List UInt8 := dkwX1_told_0 ++ dktX1_told_1
theorem dksX1_told_0 : cX1_told.data.toList.drop 0 = dktX1_told_0 := by decide +kernel
theorem dksX1_told_1 : cX1_told.data.toList.drop 24 = dktX1_told_1 := dk_seg dksX1_told_0 24 rfl rfl
theorem dX1_told_0 : decode cX1_told 0 = .ok (.aload_n 1, 1) := dk_43 (dk_at dksX1_told_0 0 rfl rfl)
theorem dX1_told_1 : decode cX1_told 1 = .ok (.instanceof 46, 3) := dk_193 0 46 (dk_at dksX1_told_0 1 rfl rfl)
theorem dX1_told_4 : decode cX1_told 4 = .ok (.ifCond .eq 16, 3) := dk_153 0 16 (dk_at dksX1_told_0 4 rfl rfl)
theorem dX1_told_7 : decode cX1_told 7 = .ok (.aload_n 1, 1) := dk_43 (dk_at dksX1_told_0 7 rfl rfl)
theorem dX1_told_8 : decode cX1_told 8 = .ok (.checkcast 46, 3) := dk_192 0 46 (dk_at dksX1_told_0 8 rfl rfl)
theorem dX1_told_11 : decode cX1_told 11 = .ok (.astore_n 2, 1) := dk_77 (dk_at dksX1_told_0 11 rfl rfl)
theorem dX1_told_12 : decode cX1_told 12 = .ok (.aload_n 0, 1) := dk_42 (dk_at dksX1_told_0 12 rfl rfl)
theorem dX1_told_13 : decode cX1_told 13 = .ok (.aload_n 2, 1) := dk_44 (dk_at dksX1_told_0 13 rfl rfl)
theorem dX1_told_14 : decode cX1_told 14 = .ok (.invokevirtual 58, 3) := dk_182 0 58 (dk_at dksX1_told_0 14 rfl rfl)
theorem dX1_told_17 : decode cX1_told 17 = .ok (.goto 10, 3) := dk_167 0 10 (dk_at dksX1_told_0 17 rfl rfl)
theorem dX1_told_20 : decode cX1_told 20 = .ok (.new 37, 3) := dk_187 0 37 (dk_at dksX1_told_0 20 rfl rfl)
theorem dX1_told_23 : decode cX1_told 23 = .ok (.dup, 1) := dk_89 (dk_at dksX1_told_0 23 rfl rfl)
theorem dX1_told_24 : decode cX1_told 24 = .ok (.invokespecial 39, 3) := dk_183 0 39 (dk_at dksX1_told_1 0 rfl rfl)
theorem dX1_told_27 : decode cX1_told 27 = .ok (.areturn, 1) := dk_176 (dk_at dksX1_told_1 3 rfl rfl)
abbrev cX1_kept : ByteArray := prog_1_method_8_code
def yX1_kept : MethodName := ⟨RX1, "kept", "(LStaffRailway$Refused;)Ljava/lang/UnsupportedOperationException;"⟩
def dkwX1_kept_0 : List UInt8 := [42, 43, 181, 0, 51, 187, 0, 55, 89, 183, 0, 57, 176]
abbrev dktX1_kept_0 : List UInt8 := dkwX1_kept_0 ++ []
theorem dksX1_kept_0 : cX1_kept.data.toList.drop 0 = dktX1_kept_0 := by decide +kernel
theorem dX1_kept_0 : decode cX1_kept 0 = .ok (.aload_n 0, 1) := dk_42 (dk_at dksX1_kept_0 0 rfl rfl)
theorem dX1_kept_1 : decode cX1_kept 1 = .ok (.aload_n 1, 1) := dk_43 (dk_at dksX1_kept_0 1 rfl rfl)
theorem dX1_kept_2 : decode cX1_kept 2 = .ok (.putfield 51, 3) := dk_181 0 51 (dk_at dksX1_kept_0 2 rfl rfl)
theorem dX1_kept_5 : decode cX1_kept 5 = .ok (.new 55, 3) := dk_187 0 55 (dk_at dksX1_kept_0 5 rfl rfl)
theorem dX1_kept_8 : decode cX1_kept 8 = .ok (.dup, 1) := dk_89 (dk_at dksX1_kept_0 8 rfl rfl)
theorem dX1_kept_9 : decode cX1_kept 9 = .ok (.invokespecial 57, 3) := dk_183 0 57 (dk_at dksX1_kept_0 9 rfl rfl)
theorem dX1_kept_12 : decode cX1_kept 12 = .ok (.areturn, 1) := dk_176 (dk_at dksX1_kept_0 12 rfl rfl)
abbrev cX1_stretch : ByteArray := prog_1_method_15_code
def yX1_stretch : MethodName := ⟨RX1, "stretch", "(IIII)I"⟩
def dkwX1_stretch_2 : List UInt8 := [28, 29, 21, 4, 186, 0, 119, 0, 0, 182, 0, 112, 172]
abbrev dktX1_stretch_2 : List UInt8 := dkwX1_stretch_2 ++ []
def dkwX1_stretch_1 : List UInt8 := [153, 0, 18, 21, 4, 4, 16, 20, 184, 0, 94, 153, 0, 7, 4, 167, 0, 4, 3, 184, 0, 106, 42, 27]
abbrev dktX1_stretch_1 : List UInt8 := dkwX1_stretch_1 ++ dktX1_stretch_2
def dkwX1_stretch_0 : List UInt8 := [27, 184, 0, 116, 184, 0, 102, 28, 3, 16, 6, 184, 0, 94, 153, 0, 28, 29, 4, 16, 20, 184, 0, 94]
abbrev dktX1_stretch_0 : List UInt8 := dkwX1_stretch_0 ++ dktX1_stretch_1
theorem dksX1_stretch_0 : cX1_stretch.data.toList.drop 0 = dktX1_stretch_0 := by decide +kernel
theorem dksX1_stretch_1 : cX1_stretch.data.toList.drop 24 = dktX1_stretch_1 := dk_seg dksX1_stretch_0 24 rfl rfl
theorem dksX1_stretch_2 : cX1_stretch.data.toList.drop 48 = dktX1_stretch_2 := dk_seg dksX1_stretch_1 24 rfl rfl
theorem dX1_stretch_0 : decode cX1_stretch 0 = .ok (.iload_n 1, 1) := dk_27 (dk_at dksX1_stretch_0 0 rfl rfl)
theorem dX1_stretch_1 : decode cX1_stretch 1 = .ok (.invokestatic 116, 3) := dk_184 0 116 (dk_at dksX1_stretch_0 1 rfl rfl)
theorem dX1_stretch_4 : decode cX1_stretch 4 = .ok (.invokestatic 102, 3) := dk_184 0 102 (dk_at dksX1_stretch_0 4 rfl rfl)
theorem dX1_stretch_7 : decode cX1_stretch 7 = .ok (.iload_n 2, 1) := dk_28 (dk_at dksX1_stretch_0 7 rfl rfl)
theorem dX1_stretch_8 : decode cX1_stretch 8 = .ok (.iconst 0, 1) := dk_3 (dk_at dksX1_stretch_0 8 rfl rfl)
theorem dX1_stretch_9 : decode cX1_stretch 9 = .ok (.bipush 6, 2) := dk_16 6 (dk_at dksX1_stretch_0 9 rfl rfl)
theorem dX1_stretch_11 : decode cX1_stretch 11 = .ok (.invokestatic 94, 3) := dk_184 0 94 (dk_at dksX1_stretch_0 11 rfl rfl)
theorem dX1_stretch_14 : decode cX1_stretch 14 = .ok (.ifCond .eq 28, 3) := dk_153 0 28 (dk_at dksX1_stretch_0 14 rfl rfl)
theorem dX1_stretch_17 : decode cX1_stretch 17 = .ok (.iload_n 3, 1) := dk_29 (dk_at dksX1_stretch_0 17 rfl rfl)
theorem dX1_stretch_18 : decode cX1_stretch 18 = .ok (.iconst 1, 1) := dk_4 (dk_at dksX1_stretch_0 18 rfl rfl)
theorem dX1_stretch_19 : decode cX1_stretch 19 = .ok (.bipush 20, 2) := dk_16 20 (dk_at dksX1_stretch_0 19 rfl rfl)
theorem dX1_stretch_21 : decode cX1_stretch 21 = .ok (.invokestatic 94, 3) := dk_184 0 94 (dk_at dksX1_stretch_0 21 rfl rfl)
theorem dX1_stretch_24 : decode cX1_stretch 24 = .ok (.ifCond .eq 18, 3) := dk_153 0 18 (dk_at dksX1_stretch_1 0 rfl rfl)
theorem dX1_stretch_27 : decode cX1_stretch 27 = .ok (.iload 4, 2) := dk_21 4 (dk_at dksX1_stretch_1 3 rfl rfl)
theorem dX1_stretch_29 : decode cX1_stretch 29 = .ok (.iconst 1, 1) := dk_4 (dk_at dksX1_stretch_1 5 rfl rfl)
theorem dX1_stretch_30 : decode cX1_stretch 30 = .ok (.bipush 20, 2) := dk_16 20 (dk_at dksX1_stretch_1 6 rfl rfl)
theorem dX1_stretch_32 : decode cX1_stretch 32 = .ok (.invokestatic 94, 3) := dk_184 0 94 (dk_at dksX1_stretch_1 8 rfl rfl)
theorem dX1_stretch_35 : decode cX1_stretch 35 = .ok (.ifCond .eq 7, 3) := dk_153 0 7 (dk_at dksX1_stretch_1 11 rfl rfl)
theorem dX1_stretch_38 : decode cX1_stretch 38 = .ok (.iconst 1, 1) := dk_4 (dk_at dksX1_stretch_1 14 rfl rfl)
theorem dX1_stretch_39 : decode cX1_stretch 39 = .ok (.goto 4, 3) := dk_167 0 4 (dk_at dksX1_stretch_1 15 rfl rfl)
theorem dX1_stretch_42 : decode cX1_stretch 42 = .ok (.iconst 0, 1) := dk_3 (dk_at dksX1_stretch_1 18 rfl rfl)
theorem dX1_stretch_43 : decode cX1_stretch 43 = .ok (.invokestatic 106, 3) := dk_184 0 106 (dk_at dksX1_stretch_1 19 rfl rfl)
theorem dX1_stretch_46 : decode cX1_stretch 46 = .ok (.aload_n 0, 1) := dk_42 (dk_at dksX1_stretch_1 22 rfl rfl)
theorem dX1_stretch_47 : decode cX1_stretch 47 = .ok (.iload_n 1, 1) := dk_27 (dk_at dksX1_stretch_1 23 rfl rfl)
theorem dX1_stretch_48 : decode cX1_stretch 48 = .ok (.iload_n 2, 1) := dk_28 (dk_at dksX1_stretch_2 0 rfl rfl)
theorem dX1_stretch_49 : decode cX1_stretch 49 = .ok (.iload_n 3, 1) := dk_29 (dk_at dksX1_stretch_2 1 rfl rfl)
theorem dX1_stretch_50 : decode cX1_stretch 50 = .ok (.iload 4, 2) := dk_21 4 (dk_at dksX1_stretch_2 2 rfl rfl)
theorem dX1_stretch_52 : decode cX1_stretch 52 = .ok (.invokedynamic 119, 5) := by decide +kernel
theorem dX1_stretch_57 : decode cX1_stretch 57 = .ok (.invokevirtual 112, 3) := dk_182 0 112 (dk_at dksX1_stretch_2 9 rfl rfl)
theorem dX1_stretch_60 : decode cX1_stretch 60 = .ok (.ireturn, 1) := dk_172 (dk_at dksX1_stretch_2 12 rfl rfl)
abbrev cX1_isStretch : ByteArray := prog_1_method_14_code
def yX1_isStretch : MethodName := ⟨RX1, "isStretch", "(I)Z"⟩
def dkwX1_isStretch_0 : List UInt8 := [26, 3, 7, 184, 0, 94, 172]
abbrev dktX1_isStretch_0 : List UInt8 := dkwX1_isStretch_0 ++ []
theorem dksX1_isStretch_0 : cX1_isStretch.data.toList.drop 0 = dktX1_isStretch_0 := by decide +kernel
theorem dX1_isStretch_0 : decode cX1_isStretch 0 = .ok (.iload_n 0, 1) := dk_26 (dk_at dksX1_isStretch_0 0 rfl rfl)
theorem dX1_isStretch_1 : decode cX1_isStretch 1 = .ok (.iconst 0, 1) := dk_3 (dk_at dksX1_isStretch_0 1 rfl rfl)
theorem dX1_isStretch_2 : decode cX1_isStretch 2 = .ok (.iconst 4, 1) := dk_7 (dk_at dksX1_isStretch_0 2 rfl rfl)
theorem dX1_isStretch_3 : decode cX1_isStretch 3 = .ok (.invokestatic 94, 3) := dk_184 0 94 (dk_at dksX1_isStretch_0 3 rfl rfl)
theorem dX1_isStretch_6 : decode cX1_isStretch 6 = .ok (.ireturn, 1) := dk_172 (dk_at dksX1_isStretch_0 6 rfl rfl)
abbrev cX1_lambda_stretch_1 : ByteArray := prog_1_method_76_code
def yX1_lambda_stretch_1 : MethodName := ⟨RX1, "lambda$stretch$1", "(IIIILStaffRailway$Line;)I"⟩
def dkwX1_lambda_stretch_1_1 : List UInt8 := [184, 1, 185, 25, 5, 180, 0, 164, 54, 6, 25, 5, 27, 28, 29, 182, 1, 218, 21, 6, 172]
abbrev dktX1_lambda_stretch_1_1 : List UInt8 := dkwX1_lambda_stretch_1_1 ++ []
def dkwX1_lambda_stretch_1_0 : List UInt8 := [25, 4, 180, 0, 155, 26, 50, 58, 5, 25, 4, 26, 182, 1, 215, 25, 5, 180, 0, 176, 16, 10, 26]
abbrev dktX1_lambda_stretch_1_0 : List UInt8 := dkwX1_lambda_stretch_1_0 ++ dktX1_lambda_stretch_1_1
theorem dksX1_lambda_stretch_1_0 : cX1_lambda_stretch_1.data.toList.drop 0 = dktX1_lambda_stretch_1_0 := by decide +kernel
theorem dksX1_lambda_stretch_1_1 : cX1_lambda_stretch_1.data.toList.drop 23 = dktX1_lambda_stretch_1_1 := dk_seg dksX1_lambda_stretch_1_0 23 rfl rfl
theorem dX1_lambda_stretch_1_0 : decode cX1_lambda_stretch_1 0 = .ok (.aload 4, 2) := dk_25 4 (dk_at dksX1_lambda_stretch_1_0 0 rfl rfl)
theorem dX1_lambda_stretch_1_2 : decode cX1_lambda_stretch_1 2 = .ok (.getfield 155, 3) := dk_180 0 155 (dk_at dksX1_lambda_stretch_1_0 2 rfl rfl)
theorem dX1_lambda_stretch_1_5 : decode cX1_lambda_stretch_1 5 = .ok (.iload_n 0, 1) := dk_26 (dk_at dksX1_lambda_stretch_1_0 5 rfl rfl)
theorem dX1_lambda_stretch_1_6 : decode cX1_lambda_stretch_1 6 = .ok (.aaload, 1) := dk_50 (dk_at dksX1_lambda_stretch_1_0 6 rfl rfl)
theorem dX1_lambda_stretch_1_7 : decode cX1_lambda_stretch_1 7 = .ok (.astore 5, 2) := dk_58 5 (dk_at dksX1_lambda_stretch_1_0 7 rfl rfl)
theorem dX1_lambda_stretch_1_9 : decode cX1_lambda_stretch_1 9 = .ok (.aload 4, 2) := dk_25 4 (dk_at dksX1_lambda_stretch_1_0 9 rfl rfl)
theorem dX1_lambda_stretch_1_11 : decode cX1_lambda_stretch_1 11 = .ok (.iload_n 0, 1) := dk_26 (dk_at dksX1_lambda_stretch_1_0 11 rfl rfl)
theorem dX1_lambda_stretch_1_12 : decode cX1_lambda_stretch_1 12 = .ok (.invokevirtual 471, 3) := dk_182 1 215 (dk_at dksX1_lambda_stretch_1_0 12 rfl rfl)
theorem dX1_lambda_stretch_1_15 : decode cX1_lambda_stretch_1 15 = .ok (.aload 5, 2) := dk_25 5 (dk_at dksX1_lambda_stretch_1_0 15 rfl rfl)
theorem dX1_lambda_stretch_1_17 : decode cX1_lambda_stretch_1 17 = .ok (.getfield 176, 3) := dk_180 0 176 (dk_at dksX1_lambda_stretch_1_0 17 rfl rfl)
theorem dX1_lambda_stretch_1_20 : decode cX1_lambda_stretch_1 20 = .ok (.bipush 10, 2) := dk_16 10 (dk_at dksX1_lambda_stretch_1_0 20 rfl rfl)
theorem dX1_lambda_stretch_1_22 : decode cX1_lambda_stretch_1 22 = .ok (.iload_n 0, 1) := dk_26 (dk_at dksX1_lambda_stretch_1_0 22 rfl rfl)
theorem dX1_lambda_stretch_1_23 : decode cX1_lambda_stretch_1 23 = .ok (.invokestatic 441, 3) := dk_184 1 185 (dk_at dksX1_lambda_stretch_1_1 0 rfl rfl)
theorem dX1_lambda_stretch_1_26 : decode cX1_lambda_stretch_1 26 = .ok (.aload 5, 2) := dk_25 5 (dk_at dksX1_lambda_stretch_1_1 3 rfl rfl)
theorem dX1_lambda_stretch_1_28 : decode cX1_lambda_stretch_1 28 = .ok (.getfield 164, 3) := dk_180 0 164 (dk_at dksX1_lambda_stretch_1_1 5 rfl rfl)
theorem dX1_lambda_stretch_1_31 : decode cX1_lambda_stretch_1 31 = .ok (.istore 6, 2) := dk_54 6 (dk_at dksX1_lambda_stretch_1_1 8 rfl rfl)
theorem dX1_lambda_stretch_1_33 : decode cX1_lambda_stretch_1 33 = .ok (.aload 5, 2) := dk_25 5 (dk_at dksX1_lambda_stretch_1_1 10 rfl rfl)
theorem dX1_lambda_stretch_1_35 : decode cX1_lambda_stretch_1 35 = .ok (.iload_n 1, 1) := dk_27 (dk_at dksX1_lambda_stretch_1_1 12 rfl rfl)
theorem dX1_lambda_stretch_1_36 : decode cX1_lambda_stretch_1 36 = .ok (.iload_n 2, 1) := dk_28 (dk_at dksX1_lambda_stretch_1_1 13 rfl rfl)
theorem dX1_lambda_stretch_1_37 : decode cX1_lambda_stretch_1 37 = .ok (.iload_n 3, 1) := dk_29 (dk_at dksX1_lambda_stretch_1_1 14 rfl rfl)
theorem dX1_lambda_stretch_1_38 : decode cX1_lambda_stretch_1 38 = .ok (.invokevirtual 474, 3) := dk_182 1 218 (dk_at dksX1_lambda_stretch_1_1 15 rfl rfl)
theorem dX1_lambda_stretch_1_41 : decode cX1_lambda_stretch_1 41 = .ok (.iload 6, 2) := dk_21 6 (dk_at dksX1_lambda_stretch_1_1 18 rfl rfl)
theorem dX1_lambda_stretch_1_43 : decode cX1_lambda_stretch_1 43 = .ok (.ireturn, 1) := dk_172 (dk_at dksX1_lambda_stretch_1_1 20 rfl rfl)
abbrev cX1_stationOf : ByteArray := prog_1_method_16_code
def yX1_stationOf : MethodName := ⟨RX1, "stationOf", "(II)I"⟩
def dkwX1_stationOf_4 : List UInt8 := [167, 0, 15, 42, 180, 0, 10, 180, 0, 141, 27, 50, 180, 0, 145, 172]
abbrev dktX1_stationOf_4 : List UInt8 := dkwX1_stationOf_4 ++ []
def dkwX1_stationOf_3 : List UInt8 := [180, 0, 10, 27, 182, 0, 130, 167, 0, 31, 42, 180, 0, 10, 27, 186, 0, 133, 0, 0, 182, 0, 137]
abbrev dktX1_stationOf_3 : List UInt8 := dkwX1_stationOf_3 ++ dktX1_stationOf_4
def dkwX1_stationOf_2 : List UInt8 := [42, 180, 0, 10, 180, 0, 122, 27, 46, 167, 0, 53, 42, 180, 0, 10, 27, 182, 0, 126, 167, 0, 42, 42]
abbrev dktX1_stationOf_2 : List UInt8 := dkwX1_stationOf_2 ++ dktX1_stationOf_3
def dkwX1_stationOf_1 : List UInt8 := [170, 0, 0, 0, 0, 0, 81, 0, 0, 0, 0, 0, 0, 0, 3, 0, 0, 0, 31, 0, 0, 0, 43, 0, 0, 0, 54, 0, 0, 0, 65]
abbrev dktX1_stationOf_1 : List UInt8 := dkwX1_stationOf_1 ++ dktX1_stationOf_2
def dkwX1_stationOf_0 : List UInt8 := [27, 184, 0, 98, 184, 0, 102, 28, 3, 7, 184, 0, 94, 184, 0, 106, 28]
abbrev dktX1_stationOf_0 : List UInt8 := dkwX1_stationOf_0 ++ dktX1_stationOf_1
theorem dksX1_stationOf_0 : cX1_stationOf.data.toList.drop 0 = dktX1_stationOf_0 := by decide +kernel
theorem dksX1_stationOf_1 : cX1_stationOf.data.toList.drop 17 = dktX1_stationOf_1 := dk_seg dksX1_stationOf_0 17 rfl rfl
theorem dksX1_stationOf_2 : cX1_stationOf.data.toList.drop 48 = dktX1_stationOf_2 := dk_seg dksX1_stationOf_1 31 rfl rfl
theorem dksX1_stationOf_3 : cX1_stationOf.data.toList.drop 72 = dktX1_stationOf_3 := dk_seg dksX1_stationOf_2 24 rfl rfl
theorem dksX1_stationOf_4 : cX1_stationOf.data.toList.drop 95 = dktX1_stationOf_4 := dk_seg dksX1_stationOf_3 23 rfl rfl
theorem dX1_stationOf_0 : decode cX1_stationOf 0 = .ok (.iload_n 1, 1) := dk_27 (dk_at dksX1_stationOf_0 0 rfl rfl)
theorem dX1_stationOf_1 : decode cX1_stationOf 1 = .ok (.invokestatic 98, 3) := dk_184 0 98 (dk_at dksX1_stationOf_0 1 rfl rfl)
theorem dX1_stationOf_4 : decode cX1_stationOf 4 = .ok (.invokestatic 102, 3) := dk_184 0 102 (dk_at dksX1_stationOf_0 4 rfl rfl)
theorem dX1_stationOf_7 : decode cX1_stationOf 7 = .ok (.iload_n 2, 1) := dk_28 (dk_at dksX1_stationOf_0 7 rfl rfl)
theorem dX1_stationOf_8 : decode cX1_stationOf 8 = .ok (.iconst 0, 1) := dk_3 (dk_at dksX1_stationOf_0 8 rfl rfl)
theorem dX1_stationOf_9 : decode cX1_stationOf 9 = .ok (.iconst 4, 1) := dk_7 (dk_at dksX1_stationOf_0 9 rfl rfl)
theorem dX1_stationOf_10 : decode cX1_stationOf 10 = .ok (.invokestatic 94, 3) := dk_184 0 94 (dk_at dksX1_stationOf_0 10 rfl rfl)
theorem dX1_stationOf_13 : decode cX1_stationOf 13 = .ok (.invokestatic 106, 3) := dk_184 0 106 (dk_at dksX1_stationOf_0 13 rfl rfl)
theorem dX1_stationOf_16 : decode cX1_stationOf 16 = .ok (.iload_n 2, 1) := dk_28 (dk_at dksX1_stationOf_0 16 rfl rfl)
theorem dX1_stationOf_17 : decode cX1_stationOf 17 = .ok (.tableswitch 81 0 3 #[31, 43, 54, 65], 31) := by decide +kernel
theorem dX1_stationOf_48 : decode cX1_stationOf 48 = .ok (.aload_n 0, 1) := dk_42 (dk_at dksX1_stationOf_2 0 rfl rfl)
theorem dX1_stationOf_49 : decode cX1_stationOf 49 = .ok (.getfield 10, 3) := dk_180 0 10 (dk_at dksX1_stationOf_2 1 rfl rfl)
theorem dX1_stationOf_52 : decode cX1_stationOf 52 = .ok (.getfield 122, 3) := dk_180 0 122 (dk_at dksX1_stationOf_2 4 rfl rfl)
theorem dX1_stationOf_55 : decode cX1_stationOf 55 = .ok (.iload_n 1, 1) := dk_27 (dk_at dksX1_stationOf_2 7 rfl rfl)
theorem dX1_stationOf_56 : decode cX1_stationOf 56 = .ok (.iaload, 1) := dk_46 (dk_at dksX1_stationOf_2 8 rfl rfl)
theorem dX1_stationOf_57 : decode cX1_stationOf 57 = .ok (.goto 53, 3) := dk_167 0 53 (dk_at dksX1_stationOf_2 9 rfl rfl)
theorem dX1_stationOf_60 : decode cX1_stationOf 60 = .ok (.aload_n 0, 1) := dk_42 (dk_at dksX1_stationOf_2 12 rfl rfl)
theorem dX1_stationOf_61 : decode cX1_stationOf 61 = .ok (.getfield 10, 3) := dk_180 0 10 (dk_at dksX1_stationOf_2 13 rfl rfl)
theorem dX1_stationOf_64 : decode cX1_stationOf 64 = .ok (.iload_n 1, 1) := dk_27 (dk_at dksX1_stationOf_2 16 rfl rfl)
theorem dX1_stationOf_65 : decode cX1_stationOf 65 = .ok (.invokevirtual 126, 3) := dk_182 0 126 (dk_at dksX1_stationOf_2 17 rfl rfl)
theorem dX1_stationOf_68 : decode cX1_stationOf 68 = .ok (.goto 42, 3) := dk_167 0 42 (dk_at dksX1_stationOf_2 20 rfl rfl)
theorem dX1_stationOf_71 : decode cX1_stationOf 71 = .ok (.aload_n 0, 1) := dk_42 (dk_at dksX1_stationOf_2 23 rfl rfl)
theorem dX1_stationOf_72 : decode cX1_stationOf 72 = .ok (.getfield 10, 3) := dk_180 0 10 (dk_at dksX1_stationOf_3 0 rfl rfl)
theorem dX1_stationOf_75 : decode cX1_stationOf 75 = .ok (.iload_n 1, 1) := dk_27 (dk_at dksX1_stationOf_3 3 rfl rfl)
theorem dX1_stationOf_76 : decode cX1_stationOf 76 = .ok (.invokevirtual 130, 3) := dk_182 0 130 (dk_at dksX1_stationOf_3 4 rfl rfl)
theorem dX1_stationOf_79 : decode cX1_stationOf 79 = .ok (.goto 31, 3) := dk_167 0 31 (dk_at dksX1_stationOf_3 7 rfl rfl)
theorem dX1_stationOf_82 : decode cX1_stationOf 82 = .ok (.aload_n 0, 1) := dk_42 (dk_at dksX1_stationOf_3 10 rfl rfl)
theorem dX1_stationOf_83 : decode cX1_stationOf 83 = .ok (.getfield 10, 3) := dk_180 0 10 (dk_at dksX1_stationOf_3 11 rfl rfl)
theorem dX1_stationOf_86 : decode cX1_stationOf 86 = .ok (.iload_n 1, 1) := dk_27 (dk_at dksX1_stationOf_3 14 rfl rfl)
theorem dX1_stationOf_87 : decode cX1_stationOf 87 = .ok (.invokedynamic 133, 5) := by decide +kernel
theorem dX1_stationOf_92 : decode cX1_stationOf 92 = .ok (.invokevirtual 137, 3) := dk_182 0 137 (dk_at dksX1_stationOf_3 20 rfl rfl)
theorem dX1_stationOf_95 : decode cX1_stationOf 95 = .ok (.goto 15, 3) := dk_167 0 15 (dk_at dksX1_stationOf_4 0 rfl rfl)
theorem dX1_stationOf_98 : decode cX1_stationOf 98 = .ok (.aload_n 0, 1) := dk_42 (dk_at dksX1_stationOf_4 3 rfl rfl)
theorem dX1_stationOf_99 : decode cX1_stationOf 99 = .ok (.getfield 10, 3) := dk_180 0 10 (dk_at dksX1_stationOf_4 4 rfl rfl)
theorem dX1_stationOf_102 : decode cX1_stationOf 102 = .ok (.getfield 141, 3) := dk_180 0 141 (dk_at dksX1_stationOf_4 7 rfl rfl)
theorem dX1_stationOf_105 : decode cX1_stationOf 105 = .ok (.iload_n 1, 1) := dk_27 (dk_at dksX1_stationOf_4 10 rfl rfl)
theorem dX1_stationOf_106 : decode cX1_stationOf 106 = .ok (.aaload, 1) := dk_50 (dk_at dksX1_stationOf_4 11 rfl rfl)
theorem dX1_stationOf_107 : decode cX1_stationOf 107 = .ok (.getfield 145, 3) := dk_180 0 145 (dk_at dksX1_stationOf_4 12 rfl rfl)
theorem dX1_stationOf_110 : decode cX1_stationOf 110 = .ok (.ireturn, 1) := dk_172 (dk_at dksX1_stationOf_4 15 rfl rfl)
abbrev cX1_lambda_stationOf_2 : ByteArray := prog_1_method_75_code
def yX1_lambda_stationOf_2 : MethodName := ⟨RX1, "lambda$stationOf$2", "(ILStaffRailway$Pilotman;)Z"⟩
def dkwX1_lambda_stationOf_2_0 : List UInt8 := [43, 180, 0, 242, 26, 160, 0, 7, 4, 167, 0, 4, 3, 172]
abbrev dktX1_lambda_stationOf_2_0 : List UInt8 := dkwX1_lambda_stationOf_2_0 ++ []
theorem dksX1_lambda_stationOf_2_0 : cX1_lambda_stationOf_2.data.toList.drop 0 = dktX1_lambda_stationOf_2_0 := by decide +kernel
theorem dX1_lambda_stationOf_2_0 : decode cX1_lambda_stationOf_2 0 = .ok (.aload_n 1, 1) := dk_43 (dk_at dksX1_lambda_stationOf_2_0 0 rfl rfl)
theorem dX1_lambda_stationOf_2_1 : decode cX1_lambda_stationOf_2 1 = .ok (.getfield 242, 3) := dk_180 0 242 (dk_at dksX1_lambda_stationOf_2_0 1 rfl rfl)
theorem dX1_lambda_stationOf_2_4 : decode cX1_lambda_stationOf_2 4 = .ok (.iload_n 0, 1) := dk_26 (dk_at dksX1_lambda_stationOf_2_0 4 rfl rfl)
theorem dX1_lambda_stationOf_2_5 : decode cX1_lambda_stationOf_2 5 = .ok (.if_icmp .ne 7, 3) := dk_160 0 7 (dk_at dksX1_lambda_stationOf_2_0 5 rfl rfl)
theorem dX1_lambda_stationOf_2_8 : decode cX1_lambda_stationOf_2 8 = .ok (.iconst 1, 1) := dk_4 (dk_at dksX1_lambda_stationOf_2_0 8 rfl rfl)
theorem dX1_lambda_stationOf_2_9 : decode cX1_lambda_stationOf_2 9 = .ok (.goto 4, 3) := dk_167 0 4 (dk_at dksX1_lambda_stationOf_2_0 9 rfl rfl)
theorem dX1_lambda_stationOf_2_12 : decode cX1_lambda_stationOf_2 12 = .ok (.iconst 0, 1) := dk_3 (dk_at dksX1_lambda_stationOf_2_0 12 rfl rfl)
theorem dX1_lambda_stationOf_2_13 : decode cX1_lambda_stationOf_2 13 = .ok (.ireturn, 1) := dk_172 (dk_at dksX1_lambda_stationOf_2_0 13 rfl rfl)
abbrev cX1_stretchOf : ByteArray := prog_1_method_18_code
def yX1_stretchOf : MethodName := ⟨RX1, "stretchOf", "(II)I"⟩
def dkwX1_stretchOf_6 : List UInt8 := [184, 0, 187, 172]
abbrev dktX1_stretchOf_6 : List UInt8 := dkwX1_stretchOf_6 ++ []
def dkwX1_stretchOf_5 : List UInt8 := [3, 167, 0, 25, 42, 180, 0, 10, 27, 182, 0, 180, 167, 0, 14, 42, 180, 0, 10, 27, 182, 0, 183]
abbrev dktX1_stretchOf_5 : List UInt8 := dkwX1_stretchOf_5 ++ dktX1_stretchOf_6
def dkwX1_stretchOf_4 : List UInt8 := [180, 0, 170, 167, 0, 47, 45, 180, 0, 173, 167, 0, 40, 45, 180, 0, 176, 153, 0, 7, 4, 167, 0, 29]
abbrev dktX1_stretchOf_4 : List UInt8 := dkwX1_stretchOf_4 ++ dktX1_stretchOf_5
def dkwX1_stretchOf_3 : List UInt8 := [45, 180, 0, 159, 167, 0, 68, 45, 180, 0, 164, 167, 0, 61, 45, 180, 0, 167, 167, 0, 54, 45]
abbrev dktX1_stretchOf_3 : List UInt8 := dkwX1_stretchOf_3 ++ dktX1_stretchOf_4
def dkwX1_stretchOf_2 : List UInt8 := [170, 0, 0, 0, 0, 0, 0, 105, 0, 0, 0, 0, 0, 0, 0, 6, 0, 0, 0, 44, 0, 0, 0, 51, 0, 0, 0, 58, 0, 0, 0, 65, 0, 0, 0, 72, 0, 0, 0, 79, 0, 0, 0, 94]
abbrev dktX1_stretchOf_2 : List UInt8 := dkwX1_stretchOf_2 ++ dktX1_stretchOf_3
def dkwX1_stretchOf_1 : List UInt8 := [27, 50, 78, 28]
abbrev dktX1_stretchOf_1 : List UInt8 := dkwX1_stretchOf_1 ++ dktX1_stretchOf_2
def dkwX1_stretchOf_0 : List UInt8 := [27, 184, 0, 116, 184, 0, 102, 28, 3, 16, 7, 184, 0, 94, 184, 0, 106, 42, 180, 0, 10, 180, 0, 155]
abbrev dktX1_stretchOf_0 : List UInt8 := dkwX1_stretchOf_0 ++ dktX1_stretchOf_1
theorem dksX1_stretchOf_0 : cX1_stretchOf.data.toList.drop 0 = dktX1_stretchOf_0 := by decide +kernel
theorem dksX1_stretchOf_1 : cX1_stretchOf.data.toList.drop 24 = dktX1_stretchOf_1 := dk_seg dksX1_stretchOf_0 24 rfl rfl
theorem dksX1_stretchOf_2 : cX1_stretchOf.data.toList.drop 28 = dktX1_stretchOf_2 := dk_seg dksX1_stretchOf_1 4 rfl rfl
theorem dksX1_stretchOf_3 : cX1_stretchOf.data.toList.drop 72 = dktX1_stretchOf_3 := dk_seg dksX1_stretchOf_2 44 rfl rfl
theorem dksX1_stretchOf_4 : cX1_stretchOf.data.toList.drop 94 = dktX1_stretchOf_4 := dk_seg dksX1_stretchOf_3 22 rfl rfl
theorem dksX1_stretchOf_5 : cX1_stretchOf.data.toList.drop 118 = dktX1_stretchOf_5 := dk_seg dksX1_stretchOf_4 24 rfl rfl
theorem dksX1_stretchOf_6 : cX1_stretchOf.data.toList.drop 141 = dktX1_stretchOf_6 := dk_seg dksX1_stretchOf_5 23 rfl rfl
theorem dX1_stretchOf_0 : decode cX1_stretchOf 0 = .ok (.iload_n 1, 1) := dk_27 (dk_at dksX1_stretchOf_0 0 rfl rfl)
theorem dX1_stretchOf_1 : decode cX1_stretchOf 1 = .ok (.invokestatic 116, 3) := dk_184 0 116 (dk_at dksX1_stretchOf_0 1 rfl rfl)
theorem dX1_stretchOf_4 : decode cX1_stretchOf 4 = .ok (.invokestatic 102, 3) := dk_184 0 102 (dk_at dksX1_stretchOf_0 4 rfl rfl)
theorem dX1_stretchOf_7 : decode cX1_stretchOf 7 = .ok (.iload_n 2, 1) := dk_28 (dk_at dksX1_stretchOf_0 7 rfl rfl)
theorem dX1_stretchOf_8 : decode cX1_stretchOf 8 = .ok (.iconst 0, 1) := dk_3 (dk_at dksX1_stretchOf_0 8 rfl rfl)
theorem dX1_stretchOf_9 : decode cX1_stretchOf 9 = .ok (.bipush 7, 2) := dk_16 7 (dk_at dksX1_stretchOf_0 9 rfl rfl)
theorem dX1_stretchOf_11 : decode cX1_stretchOf 11 = .ok (.invokestatic 94, 3) := dk_184 0 94 (dk_at dksX1_stretchOf_0 11 rfl rfl)
theorem dX1_stretchOf_14 : decode cX1_stretchOf 14 = .ok (.invokestatic 106, 3) := dk_184 0 106 (dk_at dksX1_stretchOf_0 14 rfl rfl)
theorem dX1_stretchOf_17 : decode cX1_stretchOf 17 = .ok (.aload_n 0, 1) := dk_42 (dk_at dksX1_stretchOf_0 17 rfl rfl)
theorem dX1_stretchOf_18 : decode cX1_stretchOf 18 = .ok (.getfield 10, 3) := dk_180 0 10 (dk_at dksX1_stretchOf_0 18 rfl rfl)
theorem dX1_stretchOf_21 : decode cX1_stretchOf 21 = .ok (.getfield 155, 3) := dk_180 0 155 (dk_at dksX1_stretchOf_0 21 rfl rfl)
theorem dX1_stretchOf_24 : decode cX1_stretchOf 24 = .ok (.iload_n 1, 1) := dk_27 (dk_at dksX1_stretchOf_1 0 rfl rfl)
theorem dX1_stretchOf_25 : decode cX1_stretchOf 25 = .ok (.aaload, 1) := dk_50 (dk_at dksX1_stretchOf_1 1 rfl rfl)
theorem dX1_stretchOf_26 : decode cX1_stretchOf 26 = .ok (.astore_n 3, 1) := dk_78 (dk_at dksX1_stretchOf_1 2 rfl rfl)
theorem dX1_stretchOf_27 : decode cX1_stretchOf 27 = .ok (.iload_n 2, 1) := dk_28 (dk_at dksX1_stretchOf_1 3 rfl rfl)
theorem dX1_stretchOf_28 : decode cX1_stretchOf 28 = .ok (.tableswitch 105 0 6 #[44, 51, 58, 65, 72, 79, 94], 44) := by decide +kernel
theorem dX1_stretchOf_72 : decode cX1_stretchOf 72 = .ok (.aload_n 3, 1) := dk_45 (dk_at dksX1_stretchOf_3 0 rfl rfl)
theorem dX1_stretchOf_73 : decode cX1_stretchOf 73 = .ok (.getfield 159, 3) := dk_180 0 159 (dk_at dksX1_stretchOf_3 1 rfl rfl)
theorem dX1_stretchOf_76 : decode cX1_stretchOf 76 = .ok (.goto 68, 3) := dk_167 0 68 (dk_at dksX1_stretchOf_3 4 rfl rfl)
theorem dX1_stretchOf_79 : decode cX1_stretchOf 79 = .ok (.aload_n 3, 1) := dk_45 (dk_at dksX1_stretchOf_3 7 rfl rfl)
theorem dX1_stretchOf_80 : decode cX1_stretchOf 80 = .ok (.getfield 164, 3) := dk_180 0 164 (dk_at dksX1_stretchOf_3 8 rfl rfl)
theorem dX1_stretchOf_83 : decode cX1_stretchOf 83 = .ok (.goto 61, 3) := dk_167 0 61 (dk_at dksX1_stretchOf_3 11 rfl rfl)
theorem dX1_stretchOf_86 : decode cX1_stretchOf 86 = .ok (.aload_n 3, 1) := dk_45 (dk_at dksX1_stretchOf_3 14 rfl rfl)
theorem dX1_stretchOf_87 : decode cX1_stretchOf 87 = .ok (.getfield 167, 3) := dk_180 0 167 (dk_at dksX1_stretchOf_3 15 rfl rfl)
theorem dX1_stretchOf_90 : decode cX1_stretchOf 90 = .ok (.goto 54, 3) := dk_167 0 54 (dk_at dksX1_stretchOf_3 18 rfl rfl)
theorem dX1_stretchOf_93 : decode cX1_stretchOf 93 = .ok (.aload_n 3, 1) := dk_45 (dk_at dksX1_stretchOf_3 21 rfl rfl)
theorem dX1_stretchOf_94 : decode cX1_stretchOf 94 = .ok (.getfield 170, 3) := dk_180 0 170 (dk_at dksX1_stretchOf_4 0 rfl rfl)
theorem dX1_stretchOf_97 : decode cX1_stretchOf 97 = .ok (.goto 47, 3) := dk_167 0 47 (dk_at dksX1_stretchOf_4 3 rfl rfl)
theorem dX1_stretchOf_100 : decode cX1_stretchOf 100 = .ok (.aload_n 3, 1) := dk_45 (dk_at dksX1_stretchOf_4 6 rfl rfl)
theorem dX1_stretchOf_101 : decode cX1_stretchOf 101 = .ok (.getfield 173, 3) := dk_180 0 173 (dk_at dksX1_stretchOf_4 7 rfl rfl)
theorem dX1_stretchOf_104 : decode cX1_stretchOf 104 = .ok (.goto 40, 3) := dk_167 0 40 (dk_at dksX1_stretchOf_4 10 rfl rfl)
theorem dX1_stretchOf_107 : decode cX1_stretchOf 107 = .ok (.aload_n 3, 1) := dk_45 (dk_at dksX1_stretchOf_4 13 rfl rfl)
theorem dX1_stretchOf_108 : decode cX1_stretchOf 108 = .ok (.getfield 176, 3) := dk_180 0 176 (dk_at dksX1_stretchOf_4 14 rfl rfl)
theorem dX1_stretchOf_111 : decode cX1_stretchOf 111 = .ok (.ifCond .eq 7, 3) := dk_153 0 7 (dk_at dksX1_stretchOf_4 17 rfl rfl)
theorem dX1_stretchOf_114 : decode cX1_stretchOf 114 = .ok (.iconst 1, 1) := dk_4 (dk_at dksX1_stretchOf_4 20 rfl rfl)
theorem dX1_stretchOf_115 : decode cX1_stretchOf 115 = .ok (.goto 29, 3) := dk_167 0 29 (dk_at dksX1_stretchOf_4 21 rfl rfl)
theorem dX1_stretchOf_118 : decode cX1_stretchOf 118 = .ok (.iconst 0, 1) := dk_3 (dk_at dksX1_stretchOf_5 0 rfl rfl)
theorem dX1_stretchOf_119 : decode cX1_stretchOf 119 = .ok (.goto 25, 3) := dk_167 0 25 (dk_at dksX1_stretchOf_5 1 rfl rfl)
theorem dX1_stretchOf_122 : decode cX1_stretchOf 122 = .ok (.aload_n 0, 1) := dk_42 (dk_at dksX1_stretchOf_5 4 rfl rfl)
theorem dX1_stretchOf_123 : decode cX1_stretchOf 123 = .ok (.getfield 10, 3) := dk_180 0 10 (dk_at dksX1_stretchOf_5 5 rfl rfl)
theorem dX1_stretchOf_126 : decode cX1_stretchOf 126 = .ok (.iload_n 1, 1) := dk_27 (dk_at dksX1_stretchOf_5 8 rfl rfl)
theorem dX1_stretchOf_127 : decode cX1_stretchOf 127 = .ok (.invokevirtual 180, 3) := dk_182 0 180 (dk_at dksX1_stretchOf_5 9 rfl rfl)
theorem dX1_stretchOf_130 : decode cX1_stretchOf 130 = .ok (.goto 14, 3) := dk_167 0 14 (dk_at dksX1_stretchOf_5 12 rfl rfl)
theorem dX1_stretchOf_133 : decode cX1_stretchOf 133 = .ok (.aload_n 0, 1) := dk_42 (dk_at dksX1_stretchOf_5 15 rfl rfl)
theorem dX1_stretchOf_134 : decode cX1_stretchOf 134 = .ok (.getfield 10, 3) := dk_180 0 10 (dk_at dksX1_stretchOf_5 16 rfl rfl)
theorem dX1_stretchOf_137 : decode cX1_stretchOf 137 = .ok (.iload_n 1, 1) := dk_27 (dk_at dksX1_stretchOf_5 19 rfl rfl)
theorem dX1_stretchOf_138 : decode cX1_stretchOf 138 = .ok (.invokevirtual 183, 3) := dk_182 0 183 (dk_at dksX1_stretchOf_5 20 rfl rfl)
theorem dX1_stretchOf_141 : decode cX1_stretchOf 141 = .ok (.invokestatic 187, 3) := dk_184 0 187 (dk_at dksX1_stretchOf_6 0 rfl rfl)
theorem dX1_stretchOf_144 : decode cX1_stretchOf 144 = .ok (.ireturn, 1) := dk_172 (dk_at dksX1_stretchOf_6 3 rfl rfl)
abbrev cX1_numberOf : ByteArray := prog_1_method_17_code
def yX1_numberOf : MethodName := ⟨RX1, "numberOf", "(LStaffRailway$Pilotman;)I"⟩
def dkwX1_numberOf_0 : List UInt8 := [42, 199, 0, 7, 2, 167, 0, 7, 42, 180, 0, 150, 172]
abbrev dktX1_numberOf_0 : List UInt8 := dkwX1_numberOf_0 ++ []
theorem dksX1_numberOf_0 : cX1_numberOf.data.toList.drop 0 = dktX1_numberOf_0 := by decide +kernel
theorem dX1_numberOf_0 : decode cX1_numberOf 0 = .ok (.aload_n 0, 1) := dk_42 (dk_at dksX1_numberOf_0 0 rfl rfl)
theorem dX1_numberOf_1 : decode cX1_numberOf 1 = .ok (.ifnonnull 7, 3) := dk_199 0 7 (dk_at dksX1_numberOf_0 1 rfl rfl)
theorem dX1_numberOf_4 : decode cX1_numberOf 4 = .ok (.iconst (-1), 1) := dk_2 (dk_at dksX1_numberOf_0 4 rfl rfl)
theorem dX1_numberOf_5 : decode cX1_numberOf 5 = .ok (.goto 7, 3) := dk_167 0 7 (dk_at dksX1_numberOf_0 5 rfl rfl)
theorem dX1_numberOf_8 : decode cX1_numberOf 8 = .ok (.aload_n 0, 1) := dk_42 (dk_at dksX1_numberOf_0 8 rfl rfl)
theorem dX1_numberOf_9 : decode cX1_numberOf 9 = .ok (.getfield 150, 3) := dk_180 0 150 (dk_at dksX1_numberOf_0 9 rfl rfl)
theorem dX1_numberOf_12 : decode cX1_numberOf 12 = .ok (.ireturn, 1) := dk_172 (dk_at dksX1_numberOf_0 12 rfl rfl)
abbrev cX1_train : ByteArray := prog_1_method_19_code
def yX1_train : MethodName := ⟨RX1, "train", "(II)I"⟩
def dkwX1_train_1 : List UInt8 := [186, 0, 191, 0, 0, 182, 0, 112, 172]
abbrev dktX1_train_1 : List UInt8 := dkwX1_train_1 ++ []
def dkwX1_train_0 : List UInt8 := [27, 184, 0, 98, 184, 0, 102, 28, 4, 16, 30, 184, 0, 94, 184, 0, 106, 42, 27, 28]
abbrev dktX1_train_0 : List UInt8 := dkwX1_train_0 ++ dktX1_train_1
theorem dksX1_train_0 : cX1_train.data.toList.drop 0 = dktX1_train_0 := by decide +kernel
theorem dksX1_train_1 : cX1_train.data.toList.drop 20 = dktX1_train_1 := dk_seg dksX1_train_0 20 rfl rfl
theorem dX1_train_0 : decode cX1_train 0 = .ok (.iload_n 1, 1) := dk_27 (dk_at dksX1_train_0 0 rfl rfl)
theorem dX1_train_1 : decode cX1_train 1 = .ok (.invokestatic 98, 3) := dk_184 0 98 (dk_at dksX1_train_0 1 rfl rfl)
theorem dX1_train_4 : decode cX1_train 4 = .ok (.invokestatic 102, 3) := dk_184 0 102 (dk_at dksX1_train_0 4 rfl rfl)
theorem dX1_train_7 : decode cX1_train 7 = .ok (.iload_n 2, 1) := dk_28 (dk_at dksX1_train_0 7 rfl rfl)
theorem dX1_train_8 : decode cX1_train 8 = .ok (.iconst 1, 1) := dk_4 (dk_at dksX1_train_0 8 rfl rfl)
theorem dX1_train_9 : decode cX1_train 9 = .ok (.bipush 30, 2) := dk_16 30 (dk_at dksX1_train_0 9 rfl rfl)
theorem dX1_train_11 : decode cX1_train 11 = .ok (.invokestatic 94, 3) := dk_184 0 94 (dk_at dksX1_train_0 11 rfl rfl)
theorem dX1_train_14 : decode cX1_train 14 = .ok (.invokestatic 106, 3) := dk_184 0 106 (dk_at dksX1_train_0 14 rfl rfl)
theorem dX1_train_17 : decode cX1_train 17 = .ok (.aload_n 0, 1) := dk_42 (dk_at dksX1_train_0 17 rfl rfl)
theorem dX1_train_18 : decode cX1_train 18 = .ok (.iload_n 1, 1) := dk_27 (dk_at dksX1_train_0 18 rfl rfl)
theorem dX1_train_19 : decode cX1_train 19 = .ok (.iload_n 2, 1) := dk_28 (dk_at dksX1_train_0 19 rfl rfl)
theorem dX1_train_20 : decode cX1_train 20 = .ok (.invokedynamic 191, 5) := by decide +kernel
theorem dX1_train_25 : decode cX1_train 25 = .ok (.invokevirtual 112, 3) := dk_182 0 112 (dk_at dksX1_train_1 5 rfl rfl)
theorem dX1_train_28 : decode cX1_train 28 = .ok (.ireturn, 1) := dk_172 (dk_at dksX1_train_1 8 rfl rfl)
abbrev cX1_lambda_train_3 : ByteArray := prog_1_method_74_code
def yX1_lambda_train_3 : MethodName := ⟨RX1, "lambda$train$3", "(IILStaffRailway$Line;)I"⟩
def dkwX1_lambda_train_3_0 : List UInt8 := [44, 26, 27, 182, 1, 212, 172]
abbrev dktX1_lambda_train_3_0 : List UInt8 := dkwX1_lambda_train_3_0 ++ []
theorem dksX1_lambda_train_3_0 : cX1_lambda_train_3.data.toList.drop 0 = dktX1_lambda_train_3_0 := by decide +kernel
theorem dX1_lambda_train_3_0 : decode cX1_lambda_train_3 0 = .ok (.aload_n 2, 1) := dk_44 (dk_at dksX1_lambda_train_3_0 0 rfl rfl)
theorem dX1_lambda_train_3_1 : decode cX1_lambda_train_3 1 = .ok (.iload_n 0, 1) := dk_26 (dk_at dksX1_lambda_train_3_0 1 rfl rfl)
theorem dX1_lambda_train_3_2 : decode cX1_lambda_train_3 2 = .ok (.iload_n 1, 1) := dk_27 (dk_at dksX1_lambda_train_3_0 2 rfl rfl)
theorem dX1_lambda_train_3_3 : decode cX1_lambda_train_3 3 = .ok (.invokevirtual 468, 3) := dk_182 1 212 (dk_at dksX1_lambda_train_3_0 3 rfl rfl)
theorem dX1_lambda_train_3_6 : decode cX1_lambda_train_3 6 = .ok (.ireturn, 1) := dk_172 (dk_at dksX1_lambda_train_3_0 6 rfl rfl)
abbrev cX1_remove : ByteArray := prog_1_method_20_code
def yX1_remove : MethodName := ⟨RX1, "remove", "(I)I"⟩
def dkwX1_remove_0 : List UInt8 := [42, 27, 186, 0, 192, 0, 0, 182, 0, 112, 172]
abbrev dktX1_remove_0 : List UInt8 := dkwX1_remove_0 ++ []
theorem dksX1_remove_0 : cX1_remove.data.toList.drop 0 = dktX1_remove_0 := by decide +kernel
theorem dX1_remove_0 : decode cX1_remove 0 = .ok (.aload_n 0, 1) := dk_42 (dk_at dksX1_remove_0 0 rfl rfl)
theorem dX1_remove_1 : decode cX1_remove 1 = .ok (.iload_n 1, 1) := dk_27 (dk_at dksX1_remove_0 1 rfl rfl)
theorem dX1_remove_2 : decode cX1_remove 2 = .ok (.invokedynamic 192, 5) := by decide +kernel
theorem dX1_remove_7 : decode cX1_remove 7 = .ok (.invokevirtual 112, 3) := dk_182 0 112 (dk_at dksX1_remove_0 7 rfl rfl)
theorem dX1_remove_10 : decode cX1_remove 10 = .ok (.ireturn, 1) := dk_172 (dk_at dksX1_remove_0 10 rfl rfl)
abbrev cX1_lambda_remove_4 : ByteArray := prog_1_method_73_code
def yX1_lambda_remove_4 : MethodName := ⟨RX1, "lambda$remove$4", "(ILStaffRailway$Line;)I"⟩
def dkwX1_lambda_remove_4_0 : List UInt8 := [43, 26, 182, 1, 209, 172]
abbrev dktX1_lambda_remove_4_0 : List UInt8 := dkwX1_lambda_remove_4_0 ++ []
theorem dksX1_lambda_remove_4_0 : cX1_lambda_remove_4.data.toList.drop 0 = dktX1_lambda_remove_4_0 := by decide +kernel
theorem dX1_lambda_remove_4_0 : decode cX1_lambda_remove_4 0 = .ok (.aload_n 1, 1) := dk_43 (dk_at dksX1_lambda_remove_4_0 0 rfl rfl)
theorem dX1_lambda_remove_4_1 : decode cX1_lambda_remove_4 1 = .ok (.iload_n 0, 1) := dk_26 (dk_at dksX1_lambda_remove_4_0 1 rfl rfl)
theorem dX1_lambda_remove_4_2 : decode cX1_lambda_remove_4 2 = .ok (.invokevirtual 465, 3) := dk_182 1 209 (dk_at dksX1_lambda_remove_4_0 2 rfl rfl)
theorem dX1_lambda_remove_4_5 : decode cX1_lambda_remove_4 5 = .ok (.ireturn, 1) := dk_172 (dk_at dksX1_lambda_remove_4_0 5 rfl rfl)
abbrev cX1_divide : ByteArray := prog_1_method_21_code
def yX1_divide : MethodName := ⟨RX1, "divide", "(II)I"⟩
def dkwX1_divide_0 : List UInt8 := [42, 27, 28, 186, 0, 195, 0, 0, 182, 0, 112, 172]
abbrev dktX1_divide_0 : List UInt8 := dkwX1_divide_0 ++ []
theorem dksX1_divide_0 : cX1_divide.data.toList.drop 0 = dktX1_divide_0 := by decide +kernel
theorem dX1_divide_0 : decode cX1_divide 0 = .ok (.aload_n 0, 1) := dk_42 (dk_at dksX1_divide_0 0 rfl rfl)
theorem dX1_divide_1 : decode cX1_divide 1 = .ok (.iload_n 1, 1) := dk_27 (dk_at dksX1_divide_0 1 rfl rfl)
theorem dX1_divide_2 : decode cX1_divide 2 = .ok (.iload_n 2, 1) := dk_28 (dk_at dksX1_divide_0 2 rfl rfl)
theorem dX1_divide_3 : decode cX1_divide 3 = .ok (.invokedynamic 195, 5) := by decide +kernel
theorem dX1_divide_8 : decode cX1_divide 8 = .ok (.invokevirtual 112, 3) := dk_182 0 112 (dk_at dksX1_divide_0 8 rfl rfl)
theorem dX1_divide_11 : decode cX1_divide 11 = .ok (.ireturn, 1) := dk_172 (dk_at dksX1_divide_0 11 rfl rfl)
abbrev cX1_lambda_divide_5 : ByteArray := prog_1_method_72_code
def yX1_lambda_divide_5 : MethodName := ⟨RX1, "lambda$divide$5", "(IILStaffRailway$Line;)I"⟩
def dkwX1_lambda_divide_5_0 : List UInt8 := [44, 26, 27, 182, 1, 206, 172]
abbrev dktX1_lambda_divide_5_0 : List UInt8 := dkwX1_lambda_divide_5_0 ++ []
theorem dksX1_lambda_divide_5_0 : cX1_lambda_divide_5.data.toList.drop 0 = dktX1_lambda_divide_5_0 := by decide +kernel
theorem dX1_lambda_divide_5_0 : decode cX1_lambda_divide_5 0 = .ok (.aload_n 2, 1) := dk_44 (dk_at dksX1_lambda_divide_5_0 0 rfl rfl)
theorem dX1_lambda_divide_5_1 : decode cX1_lambda_divide_5 1 = .ok (.iload_n 0, 1) := dk_26 (dk_at dksX1_lambda_divide_5_0 1 rfl rfl)
theorem dX1_lambda_divide_5_2 : decode cX1_lambda_divide_5 2 = .ok (.iload_n 1, 1) := dk_27 (dk_at dksX1_lambda_divide_5_0 2 rfl rfl)
theorem dX1_lambda_divide_5_3 : decode cX1_lambda_divide_5 3 = .ok (.invokevirtual 462, 3) := dk_182 1 206 (dk_at dksX1_lambda_divide_5_0 3 rfl rfl)
theorem dX1_lambda_divide_5_6 : decode cX1_lambda_divide_5 6 = .ok (.ireturn, 1) := dk_172 (dk_at dksX1_lambda_divide_5_0 6 rfl rfl)
abbrev cX1_couple : ByteArray := prog_1_method_22_code
def yX1_couple : MethodName := ⟨RX1, "couple", "(II)I"⟩
def dkwX1_couple_1 : List UInt8 := [172]
abbrev dktX1_couple_1 : List UInt8 := dkwX1_couple_1 ++ []
def dkwX1_couple_0 : List UInt8 := [27, 28, 159, 0, 7, 4, 167, 0, 4, 3, 184, 0, 106, 42, 27, 28, 186, 0, 196, 0, 0, 182, 0, 112]
abbrev dktX1_couple_0 : List UInt8 := dkwX1_couple_0 ++ dktX1_couple_1
theorem dksX1_couple_0 : cX1_couple.data.toList.drop 0 = dktX1_couple_0 := by decide +kernel
theorem dksX1_couple_1 : cX1_couple.data.toList.drop 24 = dktX1_couple_1 := dk_seg dksX1_couple_0 24 rfl rfl
theorem dX1_couple_0 : decode cX1_couple 0 = .ok (.iload_n 1, 1) := dk_27 (dk_at dksX1_couple_0 0 rfl rfl)
theorem dX1_couple_1 : decode cX1_couple 1 = .ok (.iload_n 2, 1) := dk_28 (dk_at dksX1_couple_0 1 rfl rfl)
theorem dX1_couple_2 : decode cX1_couple 2 = .ok (.if_icmp .eq 7, 3) := dk_159 0 7 (dk_at dksX1_couple_0 2 rfl rfl)
theorem dX1_couple_5 : decode cX1_couple 5 = .ok (.iconst 1, 1) := dk_4 (dk_at dksX1_couple_0 5 rfl rfl)
theorem dX1_couple_6 : decode cX1_couple 6 = .ok (.goto 4, 3) := dk_167 0 4 (dk_at dksX1_couple_0 6 rfl rfl)
theorem dX1_couple_9 : decode cX1_couple 9 = .ok (.iconst 0, 1) := dk_3 (dk_at dksX1_couple_0 9 rfl rfl)
theorem dX1_couple_10 : decode cX1_couple 10 = .ok (.invokestatic 106, 3) := dk_184 0 106 (dk_at dksX1_couple_0 10 rfl rfl)
theorem dX1_couple_13 : decode cX1_couple 13 = .ok (.aload_n 0, 1) := dk_42 (dk_at dksX1_couple_0 13 rfl rfl)
theorem dX1_couple_14 : decode cX1_couple 14 = .ok (.iload_n 1, 1) := dk_27 (dk_at dksX1_couple_0 14 rfl rfl)
theorem dX1_couple_15 : decode cX1_couple 15 = .ok (.iload_n 2, 1) := dk_28 (dk_at dksX1_couple_0 15 rfl rfl)
theorem dX1_couple_16 : decode cX1_couple 16 = .ok (.invokedynamic 196, 5) := by decide +kernel
theorem dX1_couple_21 : decode cX1_couple 21 = .ok (.invokevirtual 112, 3) := dk_182 0 112 (dk_at dksX1_couple_0 21 rfl rfl)
theorem dX1_couple_24 : decode cX1_couple 24 = .ok (.ireturn, 1) := dk_172 (dk_at dksX1_couple_1 0 rfl rfl)
abbrev cX1_lambda_couple_6 : ByteArray := prog_1_method_71_code
def yX1_lambda_couple_6 : MethodName := ⟨RX1, "lambda$couple$6", "(IILStaffRailway$Line;)I"⟩
def dkwX1_lambda_couple_6_0 : List UInt8 := [44, 26, 27, 182, 1, 203, 172]
abbrev dktX1_lambda_couple_6_0 : List UInt8 := dkwX1_lambda_couple_6_0 ++ []
theorem dksX1_lambda_couple_6_0 : cX1_lambda_couple_6.data.toList.drop 0 = dktX1_lambda_couple_6_0 := by decide +kernel
theorem dX1_lambda_couple_6_0 : decode cX1_lambda_couple_6 0 = .ok (.aload_n 2, 1) := dk_44 (dk_at dksX1_lambda_couple_6_0 0 rfl rfl)
theorem dX1_lambda_couple_6_1 : decode cX1_lambda_couple_6 1 = .ok (.iload_n 0, 1) := dk_26 (dk_at dksX1_lambda_couple_6_0 1 rfl rfl)
theorem dX1_lambda_couple_6_2 : decode cX1_lambda_couple_6 2 = .ok (.iload_n 1, 1) := dk_27 (dk_at dksX1_lambda_couple_6_0 2 rfl rfl)
theorem dX1_lambda_couple_6_3 : decode cX1_lambda_couple_6 3 = .ok (.invokevirtual 459, 3) := dk_182 1 203 (dk_at dksX1_lambda_couple_6_0 3 rfl rfl)
theorem dX1_lambda_couple_6_6 : decode cX1_lambda_couple_6 6 = .ok (.ireturn, 1) := dk_172 (dk_at dksX1_lambda_couple_6_0 6 rfl rfl)
abbrev cX1_trainOf : ByteArray := prog_1_method_23_code
def yX1_trainOf : MethodName := ⟨RX1, "trainOf", "(II)I"⟩
def dkwX1_trainOf_5 : List UInt8 := [180, 0, 229, 153, 0, 7, 4, 167, 0, 4, 3, 172]
abbrev dktX1_trainOf_5 : List UInt8 := dkwX1_trainOf_5 ++ []
def dkwX1_trainOf_4 : List UInt8 := [180, 0, 219, 167, 0, 32, 45, 180, 0, 222, 167, 0, 25, 45, 180, 0, 225, 184, 0, 187, 167, 0, 15, 45]
abbrev dktX1_trainOf_4 : List UInt8 := dkwX1_trainOf_4 ++ dktX1_trainOf_5
def dkwX1_trainOf_3 : List UInt8 := [45, 180, 0, 210, 167, 0, 53, 45, 180, 0, 213, 167, 0, 46, 45, 180, 0, 216, 167, 0, 39, 45]
abbrev dktX1_trainOf_3 : List UInt8 := dkwX1_trainOf_3 ++ dktX1_trainOf_4
def dkwX1_trainOf_2 : List UInt8 := [170, 0, 0, 0, 0, 83, 0, 0, 0, 0, 0, 0, 0, 5, 0, 0, 0, 38, 0, 0, 0, 45, 0, 0, 0, 52, 0, 0, 0, 59, 0, 0, 0, 66, 0, 0, 0, 73]
abbrev dktX1_trainOf_2 : List UInt8 := dkwX1_trainOf_2 ++ dktX1_trainOf_3
def dkwX1_trainOf_1 : List UInt8 := [184, 0, 94, 184, 0, 106, 42, 180, 0, 10, 180, 0, 197, 27, 182, 0, 204, 192, 0, 208, 78, 28]
abbrev dktX1_trainOf_1 : List UInt8 := dkwX1_trainOf_1 ++ dktX1_trainOf_2
def dkwX1_trainOf_0 : List UInt8 := [27, 3, 42, 180, 0, 10, 180, 0, 197, 182, 0, 201, 4, 100, 184, 0, 94, 184, 0, 102, 28, 3, 16, 6]
abbrev dktX1_trainOf_0 : List UInt8 := dkwX1_trainOf_0 ++ dktX1_trainOf_1
theorem dksX1_trainOf_0 : cX1_trainOf.data.toList.drop 0 = dktX1_trainOf_0 := by decide +kernel
theorem dksX1_trainOf_1 : cX1_trainOf.data.toList.drop 24 = dktX1_trainOf_1 := dk_seg dksX1_trainOf_0 24 rfl rfl
theorem dksX1_trainOf_2 : cX1_trainOf.data.toList.drop 46 = dktX1_trainOf_2 := dk_seg dksX1_trainOf_1 22 rfl rfl
theorem dksX1_trainOf_3 : cX1_trainOf.data.toList.drop 84 = dktX1_trainOf_3 := dk_seg dksX1_trainOf_2 38 rfl rfl
theorem dksX1_trainOf_4 : cX1_trainOf.data.toList.drop 106 = dktX1_trainOf_4 := dk_seg dksX1_trainOf_3 22 rfl rfl
theorem dksX1_trainOf_5 : cX1_trainOf.data.toList.drop 130 = dktX1_trainOf_5 := dk_seg dksX1_trainOf_4 24 rfl rfl
theorem dX1_trainOf_0 : decode cX1_trainOf 0 = .ok (.iload_n 1, 1) := dk_27 (dk_at dksX1_trainOf_0 0 rfl rfl)
theorem dX1_trainOf_1 : decode cX1_trainOf 1 = .ok (.iconst 0, 1) := dk_3 (dk_at dksX1_trainOf_0 1 rfl rfl)
theorem dX1_trainOf_2 : decode cX1_trainOf 2 = .ok (.aload_n 0, 1) := dk_42 (dk_at dksX1_trainOf_0 2 rfl rfl)
theorem dX1_trainOf_3 : decode cX1_trainOf 3 = .ok (.getfield 10, 3) := dk_180 0 10 (dk_at dksX1_trainOf_0 3 rfl rfl)
theorem dX1_trainOf_6 : decode cX1_trainOf 6 = .ok (.getfield 197, 3) := dk_180 0 197 (dk_at dksX1_trainOf_0 6 rfl rfl)
theorem dX1_trainOf_9 : decode cX1_trainOf 9 = .ok (.invokevirtual 201, 3) := dk_182 0 201 (dk_at dksX1_trainOf_0 9 rfl rfl)
theorem dX1_trainOf_12 : decode cX1_trainOf 12 = .ok (.iconst 1, 1) := dk_4 (dk_at dksX1_trainOf_0 12 rfl rfl)
theorem dX1_trainOf_13 : decode cX1_trainOf 13 = .ok (.isub, 1) := dk_100 (dk_at dksX1_trainOf_0 13 rfl rfl)
theorem dX1_trainOf_14 : decode cX1_trainOf 14 = .ok (.invokestatic 94, 3) := dk_184 0 94 (dk_at dksX1_trainOf_0 14 rfl rfl)
theorem dX1_trainOf_17 : decode cX1_trainOf 17 = .ok (.invokestatic 102, 3) := dk_184 0 102 (dk_at dksX1_trainOf_0 17 rfl rfl)
theorem dX1_trainOf_20 : decode cX1_trainOf 20 = .ok (.iload_n 2, 1) := dk_28 (dk_at dksX1_trainOf_0 20 rfl rfl)
theorem dX1_trainOf_21 : decode cX1_trainOf 21 = .ok (.iconst 0, 1) := dk_3 (dk_at dksX1_trainOf_0 21 rfl rfl)
theorem dX1_trainOf_22 : decode cX1_trainOf 22 = .ok (.bipush 6, 2) := dk_16 6 (dk_at dksX1_trainOf_0 22 rfl rfl)
theorem dX1_trainOf_24 : decode cX1_trainOf 24 = .ok (.invokestatic 94, 3) := dk_184 0 94 (dk_at dksX1_trainOf_1 0 rfl rfl)
theorem dX1_trainOf_27 : decode cX1_trainOf 27 = .ok (.invokestatic 106, 3) := dk_184 0 106 (dk_at dksX1_trainOf_1 3 rfl rfl)
theorem dX1_trainOf_30 : decode cX1_trainOf 30 = .ok (.aload_n 0, 1) := dk_42 (dk_at dksX1_trainOf_1 6 rfl rfl)
theorem dX1_trainOf_31 : decode cX1_trainOf 31 = .ok (.getfield 10, 3) := dk_180 0 10 (dk_at dksX1_trainOf_1 7 rfl rfl)
theorem dX1_trainOf_34 : decode cX1_trainOf 34 = .ok (.getfield 197, 3) := dk_180 0 197 (dk_at dksX1_trainOf_1 10 rfl rfl)
theorem dX1_trainOf_37 : decode cX1_trainOf 37 = .ok (.iload_n 1, 1) := dk_27 (dk_at dksX1_trainOf_1 13 rfl rfl)
theorem dX1_trainOf_38 : decode cX1_trainOf 38 = .ok (.invokevirtual 204, 3) := dk_182 0 204 (dk_at dksX1_trainOf_1 14 rfl rfl)
theorem dX1_trainOf_41 : decode cX1_trainOf 41 = .ok (.checkcast 208, 3) := dk_192 0 208 (dk_at dksX1_trainOf_1 17 rfl rfl)
theorem dX1_trainOf_44 : decode cX1_trainOf 44 = .ok (.astore_n 3, 1) := dk_78 (dk_at dksX1_trainOf_1 20 rfl rfl)
theorem dX1_trainOf_45 : decode cX1_trainOf 45 = .ok (.iload_n 2, 1) := dk_28 (dk_at dksX1_trainOf_1 21 rfl rfl)
theorem dX1_trainOf_46 : decode cX1_trainOf 46 = .ok (.tableswitch 83 0 5 #[38, 45, 52, 59, 66, 73], 38) := by decide +kernel
theorem dX1_trainOf_84 : decode cX1_trainOf 84 = .ok (.aload_n 3, 1) := dk_45 (dk_at dksX1_trainOf_3 0 rfl rfl)
theorem dX1_trainOf_85 : decode cX1_trainOf 85 = .ok (.getfield 210, 3) := dk_180 0 210 (dk_at dksX1_trainOf_3 1 rfl rfl)
theorem dX1_trainOf_88 : decode cX1_trainOf 88 = .ok (.goto 53, 3) := dk_167 0 53 (dk_at dksX1_trainOf_3 4 rfl rfl)
theorem dX1_trainOf_91 : decode cX1_trainOf 91 = .ok (.aload_n 3, 1) := dk_45 (dk_at dksX1_trainOf_3 7 rfl rfl)
theorem dX1_trainOf_92 : decode cX1_trainOf 92 = .ok (.getfield 213, 3) := dk_180 0 213 (dk_at dksX1_trainOf_3 8 rfl rfl)
theorem dX1_trainOf_95 : decode cX1_trainOf 95 = .ok (.goto 46, 3) := dk_167 0 46 (dk_at dksX1_trainOf_3 11 rfl rfl)
theorem dX1_trainOf_98 : decode cX1_trainOf 98 = .ok (.aload_n 3, 1) := dk_45 (dk_at dksX1_trainOf_3 14 rfl rfl)
theorem dX1_trainOf_99 : decode cX1_trainOf 99 = .ok (.getfield 216, 3) := dk_180 0 216 (dk_at dksX1_trainOf_3 15 rfl rfl)
theorem dX1_trainOf_102 : decode cX1_trainOf 102 = .ok (.goto 39, 3) := dk_167 0 39 (dk_at dksX1_trainOf_3 18 rfl rfl)
theorem dX1_trainOf_105 : decode cX1_trainOf 105 = .ok (.aload_n 3, 1) := dk_45 (dk_at dksX1_trainOf_3 21 rfl rfl)
theorem dX1_trainOf_106 : decode cX1_trainOf 106 = .ok (.getfield 219, 3) := dk_180 0 219 (dk_at dksX1_trainOf_4 0 rfl rfl)
theorem dX1_trainOf_109 : decode cX1_trainOf 109 = .ok (.goto 32, 3) := dk_167 0 32 (dk_at dksX1_trainOf_4 3 rfl rfl)
theorem dX1_trainOf_112 : decode cX1_trainOf 112 = .ok (.aload_n 3, 1) := dk_45 (dk_at dksX1_trainOf_4 6 rfl rfl)
theorem dX1_trainOf_113 : decode cX1_trainOf 113 = .ok (.getfield 222, 3) := dk_180 0 222 (dk_at dksX1_trainOf_4 7 rfl rfl)
theorem dX1_trainOf_116 : decode cX1_trainOf 116 = .ok (.goto 25, 3) := dk_167 0 25 (dk_at dksX1_trainOf_4 10 rfl rfl)
theorem dX1_trainOf_119 : decode cX1_trainOf 119 = .ok (.aload_n 3, 1) := dk_45 (dk_at dksX1_trainOf_4 13 rfl rfl)
theorem dX1_trainOf_120 : decode cX1_trainOf 120 = .ok (.getfield 225, 3) := dk_180 0 225 (dk_at dksX1_trainOf_4 14 rfl rfl)
theorem dX1_trainOf_123 : decode cX1_trainOf 123 = .ok (.invokestatic 187, 3) := dk_184 0 187 (dk_at dksX1_trainOf_4 17 rfl rfl)
theorem dX1_trainOf_126 : decode cX1_trainOf 126 = .ok (.goto 15, 3) := dk_167 0 15 (dk_at dksX1_trainOf_4 20 rfl rfl)
theorem dX1_trainOf_129 : decode cX1_trainOf 129 = .ok (.aload_n 3, 1) := dk_45 (dk_at dksX1_trainOf_4 23 rfl rfl)
theorem dX1_trainOf_130 : decode cX1_trainOf 130 = .ok (.getfield 229, 3) := dk_180 0 229 (dk_at dksX1_trainOf_5 0 rfl rfl)
theorem dX1_trainOf_133 : decode cX1_trainOf 133 = .ok (.ifCond .eq 7, 3) := dk_153 0 7 (dk_at dksX1_trainOf_5 3 rfl rfl)
theorem dX1_trainOf_136 : decode cX1_trainOf 136 = .ok (.iconst 1, 1) := dk_4 (dk_at dksX1_trainOf_5 6 rfl rfl)
theorem dX1_trainOf_137 : decode cX1_trainOf 137 = .ok (.goto 4, 3) := dk_167 0 4 (dk_at dksX1_trainOf_5 7 rfl rfl)
theorem dX1_trainOf_140 : decode cX1_trainOf 140 = .ok (.iconst 0, 1) := dk_3 (dk_at dksX1_trainOf_5 10 rfl rfl)
theorem dX1_trainOf_141 : decode cX1_trainOf 141 = .ok (.ireturn, 1) := dk_172 (dk_at dksX1_trainOf_5 11 rfl rfl)
abbrev cX1_send : ByteArray := prog_1_method_24_code
def yX1_send : MethodName := ⟨RX1, "send", "(II)I"⟩
def dkwX1_send_0 : List UInt8 := [42, 27, 28, 186, 0, 232, 0, 0, 182, 0, 112, 172]
abbrev dktX1_send_0 : List UInt8 := dkwX1_send_0 ++ []
theorem dksX1_send_0 : cX1_send.data.toList.drop 0 = dktX1_send_0 := by decide +kernel
theorem dX1_send_0 : decode cX1_send 0 = .ok (.aload_n 0, 1) := dk_42 (dk_at dksX1_send_0 0 rfl rfl)
theorem dX1_send_1 : decode cX1_send 1 = .ok (.iload_n 1, 1) := dk_27 (dk_at dksX1_send_0 1 rfl rfl)
theorem dX1_send_2 : decode cX1_send 2 = .ok (.iload_n 2, 1) := dk_28 (dk_at dksX1_send_0 2 rfl rfl)
theorem dX1_send_3 : decode cX1_send 3 = .ok (.invokedynamic 232, 5) := by decide +kernel
theorem dX1_send_8 : decode cX1_send 8 = .ok (.invokevirtual 112, 3) := dk_182 0 112 (dk_at dksX1_send_0 8 rfl rfl)
theorem dX1_send_11 : decode cX1_send 11 = .ok (.ireturn, 1) := dk_172 (dk_at dksX1_send_0 11 rfl rfl)
abbrev cX1_lambda_send_7 : ByteArray := prog_1_method_70_code
def yX1_lambda_send_7 : MethodName := ⟨RX1, "lambda$send$7", "(IILStaffRailway$Line;)I"⟩
def dkwX1_lambda_send_7_0 : List UInt8 := [44, 26, 27, 182, 1, 50, 172]
abbrev dktX1_lambda_send_7_0 : List UInt8 := dkwX1_lambda_send_7_0 ++ []
theorem dksX1_lambda_send_7_0 : cX1_lambda_send_7.data.toList.drop 0 = dktX1_lambda_send_7_0 := by decide +kernel
theorem dX1_lambda_send_7_0 : decode cX1_lambda_send_7 0 = .ok (.aload_n 2, 1) := dk_44 (dk_at dksX1_lambda_send_7_0 0 rfl rfl)
theorem dX1_lambda_send_7_1 : decode cX1_lambda_send_7 1 = .ok (.iload_n 0, 1) := dk_26 (dk_at dksX1_lambda_send_7_0 1 rfl rfl)
theorem dX1_lambda_send_7_2 : decode cX1_lambda_send_7 2 = .ok (.iload_n 1, 1) := dk_27 (dk_at dksX1_lambda_send_7_0 2 rfl rfl)
theorem dX1_lambda_send_7_3 : decode cX1_lambda_send_7 3 = .ok (.invokevirtual 306, 3) := dk_182 1 50 (dk_at dksX1_lambda_send_7_0 3 rfl rfl)
theorem dX1_lambda_send_7_6 : decode cX1_lambda_send_7 6 = .ok (.ireturn, 1) := dk_172 (dk_at dksX1_lambda_send_7_0 6 rfl rfl)
abbrev cX1_pass : ByteArray := prog_1_method_25_code
def yX1_pass : MethodName := ⟨RX1, "pass", "(I)I"⟩
def dkwX1_pass_0 : List UInt8 := [27, 4, 16, 60, 184, 0, 94, 184, 0, 106, 42, 27, 186, 0, 233, 0, 0, 182, 0, 112, 172]
abbrev dktX1_pass_0 : List UInt8 := dkwX1_pass_0 ++ []
theorem dksX1_pass_0 : cX1_pass.data.toList.drop 0 = dktX1_pass_0 := by decide +kernel
theorem dX1_pass_0 : decode cX1_pass 0 = .ok (.iload_n 1, 1) := dk_27 (dk_at dksX1_pass_0 0 rfl rfl)
theorem dX1_pass_1 : decode cX1_pass 1 = .ok (.iconst 1, 1) := dk_4 (dk_at dksX1_pass_0 1 rfl rfl)
theorem dX1_pass_2 : decode cX1_pass 2 = .ok (.bipush 60, 2) := dk_16 60 (dk_at dksX1_pass_0 2 rfl rfl)
theorem dX1_pass_4 : decode cX1_pass 4 = .ok (.invokestatic 94, 3) := dk_184 0 94 (dk_at dksX1_pass_0 4 rfl rfl)
theorem dX1_pass_7 : decode cX1_pass 7 = .ok (.invokestatic 106, 3) := dk_184 0 106 (dk_at dksX1_pass_0 7 rfl rfl)
theorem dX1_pass_10 : decode cX1_pass 10 = .ok (.aload_n 0, 1) := dk_42 (dk_at dksX1_pass_0 10 rfl rfl)
theorem dX1_pass_11 : decode cX1_pass 11 = .ok (.iload_n 1, 1) := dk_27 (dk_at dksX1_pass_0 11 rfl rfl)
theorem dX1_pass_12 : decode cX1_pass 12 = .ok (.invokedynamic 233, 5) := by decide +kernel
theorem dX1_pass_17 : decode cX1_pass 17 = .ok (.invokevirtual 112, 3) := dk_182 0 112 (dk_at dksX1_pass_0 17 rfl rfl)
theorem dX1_pass_20 : decode cX1_pass 20 = .ok (.ireturn, 1) := dk_172 (dk_at dksX1_pass_0 20 rfl rfl)
abbrev cX1_lambda_pass_8 : ByteArray := prog_1_method_69_code
def yX1_lambda_pass_8 : MethodName := ⟨RX1, "lambda$pass$8", "(ILStaffRailway$Line;)I"⟩
def dkwX1_lambda_pass_8_0 : List UInt8 := [43, 26, 182, 1, 200, 172]
abbrev dktX1_lambda_pass_8_0 : List UInt8 := dkwX1_lambda_pass_8_0 ++ []
theorem dksX1_lambda_pass_8_0 : cX1_lambda_pass_8.data.toList.drop 0 = dktX1_lambda_pass_8_0 := by decide +kernel
theorem dX1_lambda_pass_8_0 : decode cX1_lambda_pass_8 0 = .ok (.aload_n 1, 1) := dk_43 (dk_at dksX1_lambda_pass_8_0 0 rfl rfl)
theorem dX1_lambda_pass_8_1 : decode cX1_lambda_pass_8 1 = .ok (.iload_n 0, 1) := dk_26 (dk_at dksX1_lambda_pass_8_0 1 rfl rfl)
theorem dX1_lambda_pass_8_2 : decode cX1_lambda_pass_8 2 = .ok (.invokevirtual 456, 3) := dk_182 1 200 (dk_at dksX1_lambda_pass_8_0 2 rfl rfl)
theorem dX1_lambda_pass_8_5 : decode cX1_lambda_pass_8 5 = .ok (.ireturn, 1) := dk_172 (dk_at dksX1_lambda_pass_8_0 5 rfl rfl)
abbrev cX1_lose : ByteArray := prog_1_method_26_code
def yX1_lose : MethodName := ⟨RX1, "lose", "(I)I"⟩
def dkwX1_lose_0 : List UInt8 := [42, 27, 186, 0, 234, 0, 0, 182, 0, 112, 172]
abbrev dktX1_lose_0 : List UInt8 := dkwX1_lose_0 ++ []
theorem dksX1_lose_0 : cX1_lose.data.toList.drop 0 = dktX1_lose_0 := by decide +kernel
theorem dX1_lose_0 : decode cX1_lose 0 = .ok (.aload_n 0, 1) := dk_42 (dk_at dksX1_lose_0 0 rfl rfl)
theorem dX1_lose_1 : decode cX1_lose 1 = .ok (.iload_n 1, 1) := dk_27 (dk_at dksX1_lose_0 1 rfl rfl)
theorem dX1_lose_2 : decode cX1_lose 2 = .ok (.invokedynamic 234, 5) := by decide +kernel
theorem dX1_lose_7 : decode cX1_lose 7 = .ok (.invokevirtual 112, 3) := dk_182 0 112 (dk_at dksX1_lose_0 7 rfl rfl)
theorem dX1_lose_10 : decode cX1_lose 10 = .ok (.ireturn, 1) := dk_172 (dk_at dksX1_lose_0 10 rfl rfl)
abbrev cX1_lambda_lose_9 : ByteArray := prog_1_method_68_code
def yX1_lambda_lose_9 : MethodName := ⟨RX1, "lambda$lose$9", "(ILStaffRailway$Line;)I"⟩
def dkwX1_lambda_lose_9_0 : List UInt8 := [43, 26, 182, 1, 197, 172]
abbrev dktX1_lambda_lose_9_0 : List UInt8 := dkwX1_lambda_lose_9_0 ++ []
theorem dksX1_lambda_lose_9_0 : cX1_lambda_lose_9.data.toList.drop 0 = dktX1_lambda_lose_9_0 := by decide +kernel
theorem dX1_lambda_lose_9_0 : decode cX1_lambda_lose_9 0 = .ok (.aload_n 1, 1) := dk_43 (dk_at dksX1_lambda_lose_9_0 0 rfl rfl)
theorem dX1_lambda_lose_9_1 : decode cX1_lambda_lose_9 1 = .ok (.iload_n 0, 1) := dk_26 (dk_at dksX1_lambda_lose_9_0 1 rfl rfl)
theorem dX1_lambda_lose_9_2 : decode cX1_lambda_lose_9 2 = .ok (.invokevirtual 453, 3) := dk_182 1 197 (dk_at dksX1_lambda_lose_9_0 2 rfl rfl)
theorem dX1_lambda_lose_9_5 : decode cX1_lambda_lose_9 5 = .ok (.ireturn, 1) := dk_172 (dk_at dksX1_lambda_lose_9_0 5 rfl rfl)
abbrev cX1_find : ByteArray := prog_1_method_27_code
def yX1_find : MethodName := ⟨RX1, "find", "(II)I"⟩
def dkwX1_find_0 : List UInt8 := [42, 27, 28, 186, 0, 235, 0, 0, 182, 0, 112, 172]
abbrev dktX1_find_0 : List UInt8 := dkwX1_find_0 ++ []
theorem dksX1_find_0 : cX1_find.data.toList.drop 0 = dktX1_find_0 := by decide +kernel
theorem dX1_find_0 : decode cX1_find 0 = .ok (.aload_n 0, 1) := dk_42 (dk_at dksX1_find_0 0 rfl rfl)
theorem dX1_find_1 : decode cX1_find 1 = .ok (.iload_n 1, 1) := dk_27 (dk_at dksX1_find_0 1 rfl rfl)
theorem dX1_find_2 : decode cX1_find 2 = .ok (.iload_n 2, 1) := dk_28 (dk_at dksX1_find_0 2 rfl rfl)
theorem dX1_find_3 : decode cX1_find 3 = .ok (.invokedynamic 235, 5) := by decide +kernel
theorem dX1_find_8 : decode cX1_find 8 = .ok (.invokevirtual 112, 3) := dk_182 0 112 (dk_at dksX1_find_0 8 rfl rfl)
theorem dX1_find_11 : decode cX1_find 11 = .ok (.ireturn, 1) := dk_172 (dk_at dksX1_find_0 11 rfl rfl)
abbrev cX1_lambda_find_10 : ByteArray := prog_1_method_67_code
def yX1_lambda_find_10 : MethodName := ⟨RX1, "lambda$find$10", "(IILStaffRailway$Line;)I"⟩
def dkwX1_lambda_find_10_0 : List UInt8 := [44, 26, 27, 182, 1, 194, 172]
abbrev dktX1_lambda_find_10_0 : List UInt8 := dkwX1_lambda_find_10_0 ++ []
theorem dksX1_lambda_find_10_0 : cX1_lambda_find_10.data.toList.drop 0 = dktX1_lambda_find_10_0 := by decide +kernel
theorem dX1_lambda_find_10_0 : decode cX1_lambda_find_10 0 = .ok (.aload_n 2, 1) := dk_44 (dk_at dksX1_lambda_find_10_0 0 rfl rfl)
theorem dX1_lambda_find_10_1 : decode cX1_lambda_find_10 1 = .ok (.iload_n 0, 1) := dk_26 (dk_at dksX1_lambda_find_10_0 1 rfl rfl)
theorem dX1_lambda_find_10_2 : decode cX1_lambda_find_10 2 = .ok (.iload_n 1, 1) := dk_27 (dk_at dksX1_lambda_find_10_0 2 rfl rfl)
theorem dX1_lambda_find_10_3 : decode cX1_lambda_find_10 3 = .ok (.invokevirtual 450, 3) := dk_182 1 194 (dk_at dksX1_lambda_find_10_0 3 rfl rfl)
theorem dX1_lambda_find_10_6 : decode cX1_lambda_find_10 6 = .ok (.ireturn, 1) := dk_172 (dk_at dksX1_lambda_find_10_0 6 rfl rfl)
abbrev cX1_pilotman : ByteArray := prog_1_method_28_code
def yX1_pilotman : MethodName := ⟨RX1, "pilotman", "(I)I"⟩
def dkwX1_pilotman_0 : List UInt8 := [27, 184, 0, 98, 184, 0, 102, 42, 27, 186, 0, 236, 0, 0, 182, 0, 112, 172]
abbrev dktX1_pilotman_0 : List UInt8 := dkwX1_pilotman_0 ++ []
theorem dksX1_pilotman_0 : cX1_pilotman.data.toList.drop 0 = dktX1_pilotman_0 := by decide +kernel
theorem dX1_pilotman_0 : decode cX1_pilotman 0 = .ok (.iload_n 1, 1) := dk_27 (dk_at dksX1_pilotman_0 0 rfl rfl)
theorem dX1_pilotman_1 : decode cX1_pilotman 1 = .ok (.invokestatic 98, 3) := dk_184 0 98 (dk_at dksX1_pilotman_0 1 rfl rfl)
theorem dX1_pilotman_4 : decode cX1_pilotman 4 = .ok (.invokestatic 102, 3) := dk_184 0 102 (dk_at dksX1_pilotman_0 4 rfl rfl)
theorem dX1_pilotman_7 : decode cX1_pilotman 7 = .ok (.aload_n 0, 1) := dk_42 (dk_at dksX1_pilotman_0 7 rfl rfl)
theorem dX1_pilotman_8 : decode cX1_pilotman 8 = .ok (.iload_n 1, 1) := dk_27 (dk_at dksX1_pilotman_0 8 rfl rfl)
theorem dX1_pilotman_9 : decode cX1_pilotman 9 = .ok (.invokedynamic 236, 5) := by decide +kernel
theorem dX1_pilotman_14 : decode cX1_pilotman 14 = .ok (.invokevirtual 112, 3) := dk_182 0 112 (dk_at dksX1_pilotman_0 14 rfl rfl)
theorem dX1_pilotman_17 : decode cX1_pilotman 17 = .ok (.ireturn, 1) := dk_172 (dk_at dksX1_pilotman_0 17 rfl rfl)
abbrev cX1_lambda_pilotman_11 : ByteArray := prog_1_method_66_code
def yX1_lambda_pilotman_11 : MethodName := ⟨RX1, "lambda$pilotman$11", "(ILStaffRailway$Line;)I"⟩
def dkwX1_lambda_pilotman_11_1 : List UInt8 := [180, 0, 239, 187, 0, 151, 89, 28, 26, 183, 1, 189, 182, 1, 190, 87, 28, 172]
abbrev dktX1_lambda_pilotman_11_1 : List UInt8 := dkwX1_lambda_pilotman_11_1 ++ []
def dkwX1_lambda_pilotman_11_0 : List UInt8 := [43, 180, 0, 239, 182, 0, 201, 61, 28, 6, 160, 0, 7, 4, 167, 0, 4, 3, 5, 6, 184, 1, 185, 43]
abbrev dktX1_lambda_pilotman_11_0 : List UInt8 := dkwX1_lambda_pilotman_11_0 ++ dktX1_lambda_pilotman_11_1
theorem dksX1_lambda_pilotman_11_0 : cX1_lambda_pilotman_11.data.toList.drop 0 = dktX1_lambda_pilotman_11_0 := by decide +kernel
theorem dksX1_lambda_pilotman_11_1 : cX1_lambda_pilotman_11.data.toList.drop 24 = dktX1_lambda_pilotman_11_1 := dk_seg dksX1_lambda_pilotman_11_0 24 rfl rfl
theorem dX1_lambda_pilotman_11_0 : decode cX1_lambda_pilotman_11 0 = .ok (.aload_n 1, 1) := dk_43 (dk_at dksX1_lambda_pilotman_11_0 0 rfl rfl)
theorem dX1_lambda_pilotman_11_1 : decode cX1_lambda_pilotman_11 1 = .ok (.getfield 239, 3) := dk_180 0 239 (dk_at dksX1_lambda_pilotman_11_0 1 rfl rfl)
theorem dX1_lambda_pilotman_11_4 : decode cX1_lambda_pilotman_11 4 = .ok (.invokevirtual 201, 3) := dk_182 0 201 (dk_at dksX1_lambda_pilotman_11_0 4 rfl rfl)
theorem dX1_lambda_pilotman_11_7 : decode cX1_lambda_pilotman_11 7 = .ok (.istore_n 2, 1) := dk_61 (dk_at dksX1_lambda_pilotman_11_0 7 rfl rfl)
theorem dX1_lambda_pilotman_11_8 : decode cX1_lambda_pilotman_11 8 = .ok (.iload_n 2, 1) := dk_28 (dk_at dksX1_lambda_pilotman_11_0 8 rfl rfl)
theorem dX1_lambda_pilotman_11_9 : decode cX1_lambda_pilotman_11 9 = .ok (.iconst 3, 1) := dk_6 (dk_at dksX1_lambda_pilotman_11_0 9 rfl rfl)
theorem dX1_lambda_pilotman_11_10 : decode cX1_lambda_pilotman_11 10 = .ok (.if_icmp .ne 7, 3) := dk_160 0 7 (dk_at dksX1_lambda_pilotman_11_0 10 rfl rfl)
theorem dX1_lambda_pilotman_11_13 : decode cX1_lambda_pilotman_11 13 = .ok (.iconst 1, 1) := dk_4 (dk_at dksX1_lambda_pilotman_11_0 13 rfl rfl)
theorem dX1_lambda_pilotman_11_14 : decode cX1_lambda_pilotman_11 14 = .ok (.goto 4, 3) := dk_167 0 4 (dk_at dksX1_lambda_pilotman_11_0 14 rfl rfl)
theorem dX1_lambda_pilotman_11_17 : decode cX1_lambda_pilotman_11 17 = .ok (.iconst 0, 1) := dk_3 (dk_at dksX1_lambda_pilotman_11_0 17 rfl rfl)
theorem dX1_lambda_pilotman_11_18 : decode cX1_lambda_pilotman_11 18 = .ok (.iconst 2, 1) := dk_5 (dk_at dksX1_lambda_pilotman_11_0 18 rfl rfl)
theorem dX1_lambda_pilotman_11_19 : decode cX1_lambda_pilotman_11 19 = .ok (.iconst 3, 1) := dk_6 (dk_at dksX1_lambda_pilotman_11_0 19 rfl rfl)
theorem dX1_lambda_pilotman_11_20 : decode cX1_lambda_pilotman_11 20 = .ok (.invokestatic 441, 3) := dk_184 1 185 (dk_at dksX1_lambda_pilotman_11_0 20 rfl rfl)
theorem dX1_lambda_pilotman_11_23 : decode cX1_lambda_pilotman_11 23 = .ok (.aload_n 1, 1) := dk_43 (dk_at dksX1_lambda_pilotman_11_0 23 rfl rfl)
theorem dX1_lambda_pilotman_11_24 : decode cX1_lambda_pilotman_11 24 = .ok (.getfield 239, 3) := dk_180 0 239 (dk_at dksX1_lambda_pilotman_11_1 0 rfl rfl)
theorem dX1_lambda_pilotman_11_27 : decode cX1_lambda_pilotman_11 27 = .ok (.new 151, 3) := dk_187 0 151 (dk_at dksX1_lambda_pilotman_11_1 3 rfl rfl)
theorem dX1_lambda_pilotman_11_30 : decode cX1_lambda_pilotman_11 30 = .ok (.dup, 1) := dk_89 (dk_at dksX1_lambda_pilotman_11_1 6 rfl rfl)
theorem dX1_lambda_pilotman_11_31 : decode cX1_lambda_pilotman_11 31 = .ok (.iload_n 2, 1) := dk_28 (dk_at dksX1_lambda_pilotman_11_1 7 rfl rfl)
theorem dX1_lambda_pilotman_11_32 : decode cX1_lambda_pilotman_11 32 = .ok (.iload_n 0, 1) := dk_26 (dk_at dksX1_lambda_pilotman_11_1 8 rfl rfl)
theorem dX1_lambda_pilotman_11_33 : decode cX1_lambda_pilotman_11 33 = .ok (.invokespecial 445, 3) := dk_183 1 189 (dk_at dksX1_lambda_pilotman_11_1 9 rfl rfl)
theorem dX1_lambda_pilotman_11_36 : decode cX1_lambda_pilotman_11 36 = .ok (.invokevirtual 446, 3) := dk_182 1 190 (dk_at dksX1_lambda_pilotman_11_1 12 rfl rfl)
theorem dX1_lambda_pilotman_11_39 : decode cX1_lambda_pilotman_11 39 = .ok (.pop, 1) := dk_87 (dk_at dksX1_lambda_pilotman_11_1 15 rfl rfl)
theorem dX1_lambda_pilotman_11_40 : decode cX1_lambda_pilotman_11 40 = .ok (.iload_n 2, 1) := dk_28 (dk_at dksX1_lambda_pilotman_11_1 16 rfl rfl)
theorem dX1_lambda_pilotman_11_41 : decode cX1_lambda_pilotman_11 41 = .ok (.ireturn, 1) := dk_172 (dk_at dksX1_lambda_pilotman_11_1 17 rfl rfl)
abbrev cX1_walk : ByteArray := prog_1_method_29_code
def yX1_walk : MethodName := ⟨RX1, "walk", "(II)I"⟩
def dkwX1_walk_0 : List UInt8 := [42, 27, 28, 186, 0, 237, 0, 0, 182, 0, 112, 172]
abbrev dktX1_walk_0 : List UInt8 := dkwX1_walk_0 ++ []
theorem dksX1_walk_0 : cX1_walk.data.toList.drop 0 = dktX1_walk_0 := by decide +kernel
theorem dX1_walk_0 : decode cX1_walk 0 = .ok (.aload_n 0, 1) := dk_42 (dk_at dksX1_walk_0 0 rfl rfl)
theorem dX1_walk_1 : decode cX1_walk 1 = .ok (.iload_n 1, 1) := dk_27 (dk_at dksX1_walk_0 1 rfl rfl)
theorem dX1_walk_2 : decode cX1_walk 2 = .ok (.iload_n 2, 1) := dk_28 (dk_at dksX1_walk_0 2 rfl rfl)
theorem dX1_walk_3 : decode cX1_walk 3 = .ok (.invokedynamic 237, 5) := by decide +kernel
theorem dX1_walk_8 : decode cX1_walk 8 = .ok (.invokevirtual 112, 3) := dk_182 0 112 (dk_at dksX1_walk_0 8 rfl rfl)
theorem dX1_walk_11 : decode cX1_walk 11 = .ok (.ireturn, 1) := dk_172 (dk_at dksX1_walk_0 11 rfl rfl)
abbrev cX1_lambda_walk_12 : ByteArray := prog_1_method_65_code
def yX1_lambda_walk_12 : MethodName := ⟨RX1, "lambda$walk$12", "(IILStaffRailway$Line;)I"⟩
def dkwX1_lambda_walk_12_0 : List UInt8 := [44, 26, 27, 182, 1, 182, 172]
abbrev dktX1_lambda_walk_12_0 : List UInt8 := dkwX1_lambda_walk_12_0 ++ []
theorem dksX1_lambda_walk_12_0 : cX1_lambda_walk_12.data.toList.drop 0 = dktX1_lambda_walk_12_0 := by decide +kernel
theorem dX1_lambda_walk_12_0 : decode cX1_lambda_walk_12 0 = .ok (.aload_n 2, 1) := dk_44 (dk_at dksX1_lambda_walk_12_0 0 rfl rfl)
theorem dX1_lambda_walk_12_1 : decode cX1_lambda_walk_12 1 = .ok (.iload_n 0, 1) := dk_26 (dk_at dksX1_lambda_walk_12_0 1 rfl rfl)
theorem dX1_lambda_walk_12_2 : decode cX1_lambda_walk_12 2 = .ok (.iload_n 1, 1) := dk_27 (dk_at dksX1_lambda_walk_12_0 2 rfl rfl)
theorem dX1_lambda_walk_12_3 : decode cX1_lambda_walk_12 3 = .ok (.invokevirtual 438, 3) := dk_182 1 182 (dk_at dksX1_lambda_walk_12_0 3 rfl rfl)
theorem dX1_lambda_walk_12_6 : decode cX1_lambda_walk_12 6 = .ok (.ireturn, 1) := dk_172 (dk_at dksX1_lambda_walk_12_0 6 rfl rfl)
abbrev cX1_appoint : ByteArray := prog_1_method_30_code
def yX1_appoint : MethodName := ⟨RX1, "appoint", "(II)I"⟩
def dkwX1_appoint_0 : List UInt8 := [42, 27, 28, 186, 0, 238, 0, 0, 182, 0, 112, 172]
abbrev dktX1_appoint_0 : List UInt8 := dkwX1_appoint_0 ++ []
theorem dksX1_appoint_0 : cX1_appoint.data.toList.drop 0 = dktX1_appoint_0 := by decide +kernel
theorem dX1_appoint_0 : decode cX1_appoint 0 = .ok (.aload_n 0, 1) := dk_42 (dk_at dksX1_appoint_0 0 rfl rfl)
theorem dX1_appoint_1 : decode cX1_appoint 1 = .ok (.iload_n 1, 1) := dk_27 (dk_at dksX1_appoint_0 1 rfl rfl)
theorem dX1_appoint_2 : decode cX1_appoint 2 = .ok (.iload_n 2, 1) := dk_28 (dk_at dksX1_appoint_0 2 rfl rfl)
theorem dX1_appoint_3 : decode cX1_appoint 3 = .ok (.invokedynamic 238, 5) := by decide +kernel
theorem dX1_appoint_8 : decode cX1_appoint 8 = .ok (.invokevirtual 112, 3) := dk_182 0 112 (dk_at dksX1_appoint_0 8 rfl rfl)
theorem dX1_appoint_11 : decode cX1_appoint 11 = .ok (.ireturn, 1) := dk_172 (dk_at dksX1_appoint_0 11 rfl rfl)
abbrev cX1_lambda_appoint_13 : ByteArray := prog_1_method_64_code
def yX1_lambda_appoint_13 : MethodName := ⟨RX1, "lambda$appoint$13", "(IILStaffRailway$Line;)I"⟩
def dkwX1_lambda_appoint_13_0 : List UInt8 := [44, 26, 27, 182, 1, 179, 172]
abbrev dktX1_lambda_appoint_13_0 : List UInt8 := dkwX1_lambda_appoint_13_0 ++ []
theorem dksX1_lambda_appoint_13_0 : cX1_lambda_appoint_13.data.toList.drop 0 = dktX1_lambda_appoint_13_0 := by decide +kernel
theorem dX1_lambda_appoint_13_0 : decode cX1_lambda_appoint_13 0 = .ok (.aload_n 2, 1) := dk_44 (dk_at dksX1_lambda_appoint_13_0 0 rfl rfl)
theorem dX1_lambda_appoint_13_1 : decode cX1_lambda_appoint_13 1 = .ok (.iload_n 0, 1) := dk_26 (dk_at dksX1_lambda_appoint_13_0 1 rfl rfl)
theorem dX1_lambda_appoint_13_2 : decode cX1_lambda_appoint_13 2 = .ok (.iload_n 1, 1) := dk_27 (dk_at dksX1_lambda_appoint_13_0 2 rfl rfl)
theorem dX1_lambda_appoint_13_3 : decode cX1_lambda_appoint_13 3 = .ok (.invokevirtual 435, 3) := dk_182 1 179 (dk_at dksX1_lambda_appoint_13_0 3 rfl rfl)
theorem dX1_lambda_appoint_13_6 : decode cX1_lambda_appoint_13 6 = .ok (.ireturn, 1) := dk_172 (dk_at dksX1_lambda_appoint_13_0 6 rfl rfl)
abbrev cX1_pilotmanOf : ByteArray := prog_1_method_32_code
def yX1_pilotmanOf : MethodName := ⟨RX1, "pilotmanOf", "(II)I"⟩
def dkwX1_pilotmanOf_3 : List UInt8 := [182, 0, 244, 172]
abbrev dktX1_pilotmanOf_3 : List UInt8 := dkwX1_pilotmanOf_3 ++ []
def dkwX1_pilotmanOf_2 : List UInt8 := [154, 0, 10, 45, 180, 0, 242, 167, 0, 20, 28, 4, 160, 0, 10, 45, 180, 0, 243, 167, 0, 8, 42, 45]
abbrev dktX1_pilotmanOf_2 : List UInt8 := dkwX1_pilotmanOf_2 ++ dktX1_pilotmanOf_3
def dkwX1_pilotmanOf_1 : List UInt8 := [184, 0, 94, 184, 0, 106, 42, 180, 0, 10, 180, 0, 239, 27, 182, 0, 204, 192, 0, 151, 78, 28]
abbrev dktX1_pilotmanOf_1 : List UInt8 := dkwX1_pilotmanOf_1 ++ dktX1_pilotmanOf_2
def dkwX1_pilotmanOf_0 : List UInt8 := [27, 3, 42, 180, 0, 10, 180, 0, 239, 182, 0, 201, 4, 100, 184, 0, 94, 184, 0, 102, 28, 3, 5]
abbrev dktX1_pilotmanOf_0 : List UInt8 := dkwX1_pilotmanOf_0 ++ dktX1_pilotmanOf_1
theorem dksX1_pilotmanOf_0 : cX1_pilotmanOf.data.toList.drop 0 = dktX1_pilotmanOf_0 := by decide +kernel
theorem dksX1_pilotmanOf_1 : cX1_pilotmanOf.data.toList.drop 23 = dktX1_pilotmanOf_1 := dk_seg dksX1_pilotmanOf_0 23 rfl rfl
theorem dksX1_pilotmanOf_2 : cX1_pilotmanOf.data.toList.drop 45 = dktX1_pilotmanOf_2 := dk_seg dksX1_pilotmanOf_1 22 rfl rfl
theorem dksX1_pilotmanOf_3 : cX1_pilotmanOf.data.toList.drop 69 = dktX1_pilotmanOf_3 := dk_seg dksX1_pilotmanOf_2 24 rfl rfl
theorem dX1_pilotmanOf_0 : decode cX1_pilotmanOf 0 = .ok (.iload_n 1, 1) := dk_27 (dk_at dksX1_pilotmanOf_0 0 rfl rfl)
theorem dX1_pilotmanOf_1 : decode cX1_pilotmanOf 1 = .ok (.iconst 0, 1) := dk_3 (dk_at dksX1_pilotmanOf_0 1 rfl rfl)
theorem dX1_pilotmanOf_2 : decode cX1_pilotmanOf 2 = .ok (.aload_n 0, 1) := dk_42 (dk_at dksX1_pilotmanOf_0 2 rfl rfl)
theorem dX1_pilotmanOf_3 : decode cX1_pilotmanOf 3 = .ok (.getfield 10, 3) := dk_180 0 10 (dk_at dksX1_pilotmanOf_0 3 rfl rfl)
theorem dX1_pilotmanOf_6 : decode cX1_pilotmanOf 6 = .ok (.getfield 239, 3) := dk_180 0 239 (dk_at dksX1_pilotmanOf_0 6 rfl rfl)
theorem dX1_pilotmanOf_9 : decode cX1_pilotmanOf 9 = .ok (.invokevirtual 201, 3) := dk_182 0 201 (dk_at dksX1_pilotmanOf_0 9 rfl rfl)
theorem dX1_pilotmanOf_12 : decode cX1_pilotmanOf 12 = .ok (.iconst 1, 1) := dk_4 (dk_at dksX1_pilotmanOf_0 12 rfl rfl)
theorem dX1_pilotmanOf_13 : decode cX1_pilotmanOf 13 = .ok (.isub, 1) := dk_100 (dk_at dksX1_pilotmanOf_0 13 rfl rfl)
theorem dX1_pilotmanOf_14 : decode cX1_pilotmanOf 14 = .ok (.invokestatic 94, 3) := dk_184 0 94 (dk_at dksX1_pilotmanOf_0 14 rfl rfl)
theorem dX1_pilotmanOf_17 : decode cX1_pilotmanOf 17 = .ok (.invokestatic 102, 3) := dk_184 0 102 (dk_at dksX1_pilotmanOf_0 17 rfl rfl)
theorem dX1_pilotmanOf_20 : decode cX1_pilotmanOf 20 = .ok (.iload_n 2, 1) := dk_28 (dk_at dksX1_pilotmanOf_0 20 rfl rfl)
theorem dX1_pilotmanOf_21 : decode cX1_pilotmanOf 21 = .ok (.iconst 0, 1) := dk_3 (dk_at dksX1_pilotmanOf_0 21 rfl rfl)
theorem dX1_pilotmanOf_22 : decode cX1_pilotmanOf 22 = .ok (.iconst 2, 1) := dk_5 (dk_at dksX1_pilotmanOf_0 22 rfl rfl)
theorem dX1_pilotmanOf_23 : decode cX1_pilotmanOf 23 = .ok (.invokestatic 94, 3) := dk_184 0 94 (dk_at dksX1_pilotmanOf_1 0 rfl rfl)
theorem dX1_pilotmanOf_26 : decode cX1_pilotmanOf 26 = .ok (.invokestatic 106, 3) := dk_184 0 106 (dk_at dksX1_pilotmanOf_1 3 rfl rfl)
theorem dX1_pilotmanOf_29 : decode cX1_pilotmanOf 29 = .ok (.aload_n 0, 1) := dk_42 (dk_at dksX1_pilotmanOf_1 6 rfl rfl)
theorem dX1_pilotmanOf_30 : decode cX1_pilotmanOf 30 = .ok (.getfield 10, 3) := dk_180 0 10 (dk_at dksX1_pilotmanOf_1 7 rfl rfl)
theorem dX1_pilotmanOf_33 : decode cX1_pilotmanOf 33 = .ok (.getfield 239, 3) := dk_180 0 239 (dk_at dksX1_pilotmanOf_1 10 rfl rfl)
theorem dX1_pilotmanOf_36 : decode cX1_pilotmanOf 36 = .ok (.iload_n 1, 1) := dk_27 (dk_at dksX1_pilotmanOf_1 13 rfl rfl)
theorem dX1_pilotmanOf_37 : decode cX1_pilotmanOf 37 = .ok (.invokevirtual 204, 3) := dk_182 0 204 (dk_at dksX1_pilotmanOf_1 14 rfl rfl)
theorem dX1_pilotmanOf_40 : decode cX1_pilotmanOf 40 = .ok (.checkcast 151, 3) := dk_192 0 151 (dk_at dksX1_pilotmanOf_1 17 rfl rfl)
theorem dX1_pilotmanOf_43 : decode cX1_pilotmanOf 43 = .ok (.astore_n 3, 1) := dk_78 (dk_at dksX1_pilotmanOf_1 20 rfl rfl)
theorem dX1_pilotmanOf_44 : decode cX1_pilotmanOf 44 = .ok (.iload_n 2, 1) := dk_28 (dk_at dksX1_pilotmanOf_1 21 rfl rfl)
theorem dX1_pilotmanOf_45 : decode cX1_pilotmanOf 45 = .ok (.ifCond .ne 10, 3) := dk_154 0 10 (dk_at dksX1_pilotmanOf_2 0 rfl rfl)
theorem dX1_pilotmanOf_48 : decode cX1_pilotmanOf 48 = .ok (.aload_n 3, 1) := dk_45 (dk_at dksX1_pilotmanOf_2 3 rfl rfl)
theorem dX1_pilotmanOf_49 : decode cX1_pilotmanOf 49 = .ok (.getfield 242, 3) := dk_180 0 242 (dk_at dksX1_pilotmanOf_2 4 rfl rfl)
theorem dX1_pilotmanOf_52 : decode cX1_pilotmanOf 52 = .ok (.goto 20, 3) := dk_167 0 20 (dk_at dksX1_pilotmanOf_2 7 rfl rfl)
theorem dX1_pilotmanOf_55 : decode cX1_pilotmanOf 55 = .ok (.iload_n 2, 1) := dk_28 (dk_at dksX1_pilotmanOf_2 10 rfl rfl)
theorem dX1_pilotmanOf_56 : decode cX1_pilotmanOf 56 = .ok (.iconst 1, 1) := dk_4 (dk_at dksX1_pilotmanOf_2 11 rfl rfl)
theorem dX1_pilotmanOf_57 : decode cX1_pilotmanOf 57 = .ok (.if_icmp .ne 10, 3) := dk_160 0 10 (dk_at dksX1_pilotmanOf_2 12 rfl rfl)
theorem dX1_pilotmanOf_60 : decode cX1_pilotmanOf 60 = .ok (.aload_n 3, 1) := dk_45 (dk_at dksX1_pilotmanOf_2 15 rfl rfl)
theorem dX1_pilotmanOf_61 : decode cX1_pilotmanOf 61 = .ok (.getfield 243, 3) := dk_180 0 243 (dk_at dksX1_pilotmanOf_2 16 rfl rfl)
theorem dX1_pilotmanOf_64 : decode cX1_pilotmanOf 64 = .ok (.goto 8, 3) := dk_167 0 8 (dk_at dksX1_pilotmanOf_2 19 rfl rfl)
theorem dX1_pilotmanOf_67 : decode cX1_pilotmanOf 67 = .ok (.aload_n 0, 1) := dk_42 (dk_at dksX1_pilotmanOf_2 22 rfl rfl)
theorem dX1_pilotmanOf_68 : decode cX1_pilotmanOf 68 = .ok (.aload_n 3, 1) := dk_45 (dk_at dksX1_pilotmanOf_2 23 rfl rfl)
theorem dX1_pilotmanOf_69 : decode cX1_pilotmanOf 69 = .ok (.invokevirtual 244, 3) := dk_182 0 244 (dk_at dksX1_pilotmanOf_3 0 rfl rfl)
theorem dX1_pilotmanOf_72 : decode cX1_pilotmanOf 72 = .ok (.ireturn, 1) := dk_172 (dk_at dksX1_pilotmanOf_3 3 rfl rfl)
abbrev cX1_trainWith : ByteArray := prog_1_method_31_code
def yX1_trainWith : MethodName := ⟨RX1, "trainWith", "(LStaffRailway$Pilotman;)I"⟩
def dkwX1_trainWith_1 : List UInt8 := [182, 0, 204, 192, 0, 208, 180, 0, 225, 43, 166, 0, 5, 28, 172, 132, 2, 1, 167, 255, 216, 2, 172]
abbrev dktX1_trainWith_1 : List UInt8 := dkwX1_trainWith_1 ++ []
def dkwX1_trainWith_0 : List UInt8 := [3, 61, 28, 42, 180, 0, 10, 180, 0, 197, 182, 0, 201, 162, 0, 32, 42, 180, 0, 10, 180, 0, 197, 28]
abbrev dktX1_trainWith_0 : List UInt8 := dkwX1_trainWith_0 ++ dktX1_trainWith_1
theorem dksX1_trainWith_0 : cX1_trainWith.data.toList.drop 0 = dktX1_trainWith_0 := by decide +kernel
theorem dksX1_trainWith_1 : cX1_trainWith.data.toList.drop 24 = dktX1_trainWith_1 := dk_seg dksX1_trainWith_0 24 rfl rfl
theorem dX1_trainWith_0 : decode cX1_trainWith 0 = .ok (.iconst 0, 1) := dk_3 (dk_at dksX1_trainWith_0 0 rfl rfl)
theorem dX1_trainWith_1 : decode cX1_trainWith 1 = .ok (.istore_n 2, 1) := dk_61 (dk_at dksX1_trainWith_0 1 rfl rfl)
theorem dX1_trainWith_2 : decode cX1_trainWith 2 = .ok (.iload_n 2, 1) := dk_28 (dk_at dksX1_trainWith_0 2 rfl rfl)
theorem dX1_trainWith_3 : decode cX1_trainWith 3 = .ok (.aload_n 0, 1) := dk_42 (dk_at dksX1_trainWith_0 3 rfl rfl)
theorem dX1_trainWith_4 : decode cX1_trainWith 4 = .ok (.getfield 10, 3) := dk_180 0 10 (dk_at dksX1_trainWith_0 4 rfl rfl)
theorem dX1_trainWith_7 : decode cX1_trainWith 7 = .ok (.getfield 197, 3) := dk_180 0 197 (dk_at dksX1_trainWith_0 7 rfl rfl)
theorem dX1_trainWith_10 : decode cX1_trainWith 10 = .ok (.invokevirtual 201, 3) := dk_182 0 201 (dk_at dksX1_trainWith_0 10 rfl rfl)
theorem dX1_trainWith_13 : decode cX1_trainWith 13 = .ok (.if_icmp .ge 32, 3) := dk_162 0 32 (dk_at dksX1_trainWith_0 13 rfl rfl)
theorem dX1_trainWith_16 : decode cX1_trainWith 16 = .ok (.aload_n 0, 1) := dk_42 (dk_at dksX1_trainWith_0 16 rfl rfl)
theorem dX1_trainWith_17 : decode cX1_trainWith 17 = .ok (.getfield 10, 3) := dk_180 0 10 (dk_at dksX1_trainWith_0 17 rfl rfl)
theorem dX1_trainWith_20 : decode cX1_trainWith 20 = .ok (.getfield 197, 3) := dk_180 0 197 (dk_at dksX1_trainWith_0 20 rfl rfl)
theorem dX1_trainWith_23 : decode cX1_trainWith 23 = .ok (.iload_n 2, 1) := dk_28 (dk_at dksX1_trainWith_0 23 rfl rfl)
theorem dX1_trainWith_24 : decode cX1_trainWith 24 = .ok (.invokevirtual 204, 3) := dk_182 0 204 (dk_at dksX1_trainWith_1 0 rfl rfl)
theorem dX1_trainWith_27 : decode cX1_trainWith 27 = .ok (.checkcast 208, 3) := dk_192 0 208 (dk_at dksX1_trainWith_1 3 rfl rfl)
theorem dX1_trainWith_30 : decode cX1_trainWith 30 = .ok (.getfield 225, 3) := dk_180 0 225 (dk_at dksX1_trainWith_1 6 rfl rfl)
theorem dX1_trainWith_33 : decode cX1_trainWith 33 = .ok (.aload_n 1, 1) := dk_43 (dk_at dksX1_trainWith_1 9 rfl rfl)
theorem dX1_trainWith_34 : decode cX1_trainWith 34 = .ok (.if_acmp .ne 5, 3) := dk_166 0 5 (dk_at dksX1_trainWith_1 10 rfl rfl)
theorem dX1_trainWith_37 : decode cX1_trainWith 37 = .ok (.iload_n 2, 1) := dk_28 (dk_at dksX1_trainWith_1 13 rfl rfl)
theorem dX1_trainWith_38 : decode cX1_trainWith 38 = .ok (.ireturn, 1) := dk_172 (dk_at dksX1_trainWith_1 14 rfl rfl)
theorem dX1_trainWith_39 : decode cX1_trainWith 39 = .ok (.iinc 2 1, 3) := dk_132 2 1 (dk_at dksX1_trainWith_1 15 rfl rfl)
theorem dX1_trainWith_42 : decode cX1_trainWith 42 = .ok (.goto (-40), 3) := dk_167 255 216 (dk_at dksX1_trainWith_1 18 rfl rfl)
theorem dX1_trainWith_45 : decode cX1_trainWith 45 = .ok (.iconst (-1), 1) := dk_2 (dk_at dksX1_trainWith_1 21 rfl rfl)
theorem dX1_trainWith_46 : decode cX1_trainWith 46 = .ok (.ireturn, 1) := dk_172 (dk_at dksX1_trainWith_1 22 rfl rfl)
abbrev cX1_why : ByteArray := prog_1_method_34_code
def yX1_why : MethodName := ⟨RX1, "why", "(IIIZ)I"⟩
def dkwX1_why_1 : List UInt8 := [58, 5, 25, 5, 29, 21, 4, 184, 1, 4, 172]
abbrev dktX1_why_1 : List UInt8 := dkwX1_why_1 ++ []
def dkwX1_why_0 : List UInt8 := [29, 155, 0, 7, 4, 167, 0, 4, 3, 184, 0, 106, 42, 180, 0, 10, 27, 28, 182, 1, 1, 3, 172]
abbrev dktX1_why_0 : List UInt8 := dkwX1_why_0 ++ dktX1_why_1
theorem dksX1_why_0 : cX1_why.data.toList.drop 0 = dktX1_why_0 := by decide +kernel
theorem dksX1_why_1 : cX1_why.data.toList.drop 23 = dktX1_why_1 := dk_seg dksX1_why_0 23 rfl rfl
theorem dX1_why_0 : decode cX1_why 0 = .ok (.iload_n 3, 1) := dk_29 (dk_at dksX1_why_0 0 rfl rfl)
theorem dX1_why_1 : decode cX1_why 1 = .ok (.ifCond .lt 7, 3) := dk_155 0 7 (dk_at dksX1_why_0 1 rfl rfl)
theorem dX1_why_4 : decode cX1_why 4 = .ok (.iconst 1, 1) := dk_4 (dk_at dksX1_why_0 4 rfl rfl)
theorem dX1_why_5 : decode cX1_why 5 = .ok (.goto 4, 3) := dk_167 0 4 (dk_at dksX1_why_0 5 rfl rfl)
theorem dX1_why_8 : decode cX1_why 8 = .ok (.iconst 0, 1) := dk_3 (dk_at dksX1_why_0 8 rfl rfl)
theorem dX1_why_9 : decode cX1_why 9 = .ok (.invokestatic 106, 3) := dk_184 0 106 (dk_at dksX1_why_0 9 rfl rfl)
theorem dX1_why_12 : decode cX1_why 12 = .ok (.aload_n 0, 1) := dk_42 (dk_at dksX1_why_0 12 rfl rfl)
theorem dX1_why_13 : decode cX1_why 13 = .ok (.getfield 10, 3) := dk_180 0 10 (dk_at dksX1_why_0 13 rfl rfl)
theorem dX1_why_16 : decode cX1_why 16 = .ok (.iload_n 1, 1) := dk_27 (dk_at dksX1_why_0 16 rfl rfl)
theorem dX1_why_17 : decode cX1_why 17 = .ok (.iload_n 2, 1) := dk_28 (dk_at dksX1_why_0 17 rfl rfl)
theorem dX1_why_18 : decode cX1_why 18 = .ok (.invokevirtual 257, 3) := dk_182 1 1 (dk_at dksX1_why_0 18 rfl rfl)
theorem dX1_why_21 : decode cX1_why 21 = .ok (.iconst 0, 1) := dk_3 (dk_at dksX1_why_0 21 rfl rfl)
theorem dX1_why_22 : decode cX1_why 22 = .ok (.ireturn, 1) := dk_172 (dk_at dksX1_why_0 22 rfl rfl)
theorem dX1_why_23 : decode cX1_why 23 = .ok (.astore 5, 2) := dk_58 5 (dk_at dksX1_why_1 0 rfl rfl)
theorem dX1_why_25 : decode cX1_why 25 = .ok (.aload 5, 2) := dk_25 5 (dk_at dksX1_why_1 2 rfl rfl)
theorem dX1_why_27 : decode cX1_why 27 = .ok (.iload_n 3, 1) := dk_29 (dk_at dksX1_why_1 4 rfl rfl)
theorem dX1_why_28 : decode cX1_why 28 = .ok (.iload 4, 2) := dk_21 4 (dk_at dksX1_why_1 5 rfl rfl)
theorem dX1_why_30 : decode cX1_why 30 = .ok (.invokestatic 260, 3) := dk_184 1 4 (dk_at dksX1_why_1 7 rfl rfl)
theorem dX1_why_33 : decode cX1_why 33 = .ok (.ireturn, 1) := dk_172 (dk_at dksX1_why_1 10 rfl rfl)
abbrev cX1_behind : ByteArray := prog_1_method_33_code
def yX1_behind : MethodName := ⟨RX1, "behind", "(LStaffRailway$Refused;IZ)I"⟩
def dkwX1_behind_1 : List UInt8 := [184, 0, 251, 45, 28, 182, 0, 254, 172]
abbrev dktX1_behind_1 : List UInt8 := dkwX1_behind_1 ++ []
def dkwX1_behind_0 : List UInt8 := [42, 199, 0, 7, 1, 167, 0, 8, 42, 27, 182, 0, 247, 78, 45, 198, 0, 7, 4, 167, 0, 4, 3]
abbrev dktX1_behind_0 : List UInt8 := dkwX1_behind_0 ++ dktX1_behind_1
theorem dksX1_behind_0 : cX1_behind.data.toList.drop 0 = dktX1_behind_0 := by decide +kernel
theorem dksX1_behind_1 : cX1_behind.data.toList.drop 23 = dktX1_behind_1 := dk_seg dksX1_behind_0 23 rfl rfl
theorem dX1_behind_0 : decode cX1_behind 0 = .ok (.aload_n 0, 1) := dk_42 (dk_at dksX1_behind_0 0 rfl rfl)
theorem dX1_behind_1 : decode cX1_behind 1 = .ok (.ifnonnull 7, 3) := dk_199 0 7 (dk_at dksX1_behind_0 1 rfl rfl)
theorem dX1_behind_4 : decode cX1_behind 4 = .ok (.aconst_null, 1) := dk_1 (dk_at dksX1_behind_0 4 rfl rfl)
theorem dX1_behind_5 : decode cX1_behind 5 = .ok (.goto 8, 3) := dk_167 0 8 (dk_at dksX1_behind_0 5 rfl rfl)
theorem dX1_behind_8 : decode cX1_behind 8 = .ok (.aload_n 0, 1) := dk_42 (dk_at dksX1_behind_0 8 rfl rfl)
theorem dX1_behind_9 : decode cX1_behind 9 = .ok (.iload_n 1, 1) := dk_27 (dk_at dksX1_behind_0 9 rfl rfl)
theorem dX1_behind_10 : decode cX1_behind 10 = .ok (.invokevirtual 247, 3) := dk_182 0 247 (dk_at dksX1_behind_0 10 rfl rfl)
theorem dX1_behind_13 : decode cX1_behind 13 = .ok (.astore_n 3, 1) := dk_78 (dk_at dksX1_behind_0 13 rfl rfl)
theorem dX1_behind_14 : decode cX1_behind 14 = .ok (.aload_n 3, 1) := dk_45 (dk_at dksX1_behind_0 14 rfl rfl)
theorem dX1_behind_15 : decode cX1_behind 15 = .ok (.ifnull 7, 3) := dk_198 0 7 (dk_at dksX1_behind_0 15 rfl rfl)
theorem dX1_behind_18 : decode cX1_behind 18 = .ok (.iconst 1, 1) := dk_4 (dk_at dksX1_behind_0 18 rfl rfl)
theorem dX1_behind_19 : decode cX1_behind 19 = .ok (.goto 4, 3) := dk_167 0 4 (dk_at dksX1_behind_0 19 rfl rfl)
theorem dX1_behind_22 : decode cX1_behind 22 = .ok (.iconst 0, 1) := dk_3 (dk_at dksX1_behind_0 22 rfl rfl)
theorem dX1_behind_23 : decode cX1_behind 23 = .ok (.invokestatic 251, 3) := dk_184 0 251 (dk_at dksX1_behind_1 0 rfl rfl)
theorem dX1_behind_26 : decode cX1_behind 26 = .ok (.aload_n 3, 1) := dk_45 (dk_at dksX1_behind_1 3 rfl rfl)
theorem dX1_behind_27 : decode cX1_behind 27 = .ok (.iload_n 2, 1) := dk_28 (dk_at dksX1_behind_1 4 rfl rfl)
theorem dX1_behind_28 : decode cX1_behind 28 = .ok (.invokevirtual 254, 3) := dk_182 0 254 (dk_at dksX1_behind_1 5 rfl rfl)
theorem dX1_behind_31 : decode cX1_behind 31 = .ok (.ireturn, 1) := dk_172 (dk_at dksX1_behind_1 8 rfl rfl)
abbrev cX1_checkElement : ByteArray := prog_1_method_6_code
def yX1_checkElement : MethodName := ⟨RX1, "checkElement", "(Z)V"⟩
def dkwX1_checkElement_0 : List UInt8 := [26, 154, 0, 11, 187, 0, 43, 89, 183, 0, 45, 191, 177]
abbrev dktX1_checkElement_0 : List UInt8 := dkwX1_checkElement_0 ++ []
theorem dksX1_checkElement_0 : cX1_checkElement.data.toList.drop 0 = dktX1_checkElement_0 := by decide +kernel
theorem dX1_checkElement_0 : decode cX1_checkElement 0 = .ok (.iload_n 0, 1) := dk_26 (dk_at dksX1_checkElement_0 0 rfl rfl)
theorem dX1_checkElement_1 : decode cX1_checkElement 1 = .ok (.ifCond .ne 11, 3) := dk_154 0 11 (dk_at dksX1_checkElement_0 1 rfl rfl)
theorem dX1_checkElement_4 : decode cX1_checkElement 4 = .ok (.new 43, 3) := dk_187 0 43 (dk_at dksX1_checkElement_0 4 rfl rfl)
theorem dX1_checkElement_7 : decode cX1_checkElement 7 = .ok (.dup, 1) := dk_89 (dk_at dksX1_checkElement_0 7 rfl rfl)
theorem dX1_checkElement_8 : decode cX1_checkElement 8 = .ok (.invokespecial 45, 3) := dk_183 0 45 (dk_at dksX1_checkElement_0 8 rfl rfl)
theorem dX1_checkElement_11 : decode cX1_checkElement 11 = .ok (.athrow, 1) := dk_191 (dk_at dksX1_checkElement_0 11 rfl rfl)
theorem dX1_checkElement_12 : decode cX1_checkElement 12 = .ok (.return_, 1) := dk_177 (dk_at dksX1_checkElement_0 12 rfl rfl)
abbrev cX1_reach : ByteArray := prog_1_method_38_code
def yX1_reach : MethodName := ⟨RX1, "reach", "(IZ)I"⟩
def dkwX1_reach_2 : List UInt8 := [182, 1, 47, 54, 6, 21, 6, 54, 4, 167, 255, 227, 21, 4, 172, 78, 42, 45, 182, 0, 58, 191]
abbrev dktX1_reach_2 : List UInt8 := dkwX1_reach_2 ++ []
def dkwX1_reach_1 : List UInt8 := [58, 5, 25, 5, 185, 1, 36, 1, 0, 153, 0, 25, 25, 5, 185, 1, 42, 1, 0, 192, 1, 45]
abbrev dktX1_reach_1 : List UInt8 := dkwX1_reach_1 ++ dktX1_reach_2
def dkwX1_reach_0 : List UInt8 := [42, 27, 182, 1, 23, 78, 45, 180, 0, 213, 54, 4, 42, 45, 28, 182, 1, 26, 185, 1, 30, 1, 0]
abbrev dktX1_reach_0 : List UInt8 := dkwX1_reach_0 ++ dktX1_reach_1
theorem dksX1_reach_0 : cX1_reach.data.toList.drop 0 = dktX1_reach_0 := by decide +kernel
theorem dksX1_reach_1 : cX1_reach.data.toList.drop 23 = dktX1_reach_1 := dk_seg dksX1_reach_0 23 rfl rfl
theorem dksX1_reach_2 : cX1_reach.data.toList.drop 45 = dktX1_reach_2 := dk_seg dksX1_reach_1 22 rfl rfl
theorem dX1_reach_0 : decode cX1_reach 0 = .ok (.aload_n 0, 1) := dk_42 (dk_at dksX1_reach_0 0 rfl rfl)
theorem dX1_reach_1 : decode cX1_reach 1 = .ok (.iload_n 1, 1) := dk_27 (dk_at dksX1_reach_0 1 rfl rfl)
theorem dX1_reach_2 : decode cX1_reach 2 = .ok (.invokevirtual 279, 3) := dk_182 1 23 (dk_at dksX1_reach_0 2 rfl rfl)
theorem dX1_reach_5 : decode cX1_reach 5 = .ok (.astore_n 3, 1) := dk_78 (dk_at dksX1_reach_0 5 rfl rfl)
theorem dX1_reach_6 : decode cX1_reach 6 = .ok (.aload_n 3, 1) := dk_45 (dk_at dksX1_reach_0 6 rfl rfl)
theorem dX1_reach_7 : decode cX1_reach 7 = .ok (.getfield 213, 3) := dk_180 0 213 (dk_at dksX1_reach_0 7 rfl rfl)
theorem dX1_reach_10 : decode cX1_reach 10 = .ok (.istore 4, 2) := dk_54 4 (dk_at dksX1_reach_0 10 rfl rfl)
theorem dX1_reach_12 : decode cX1_reach 12 = .ok (.aload_n 0, 1) := dk_42 (dk_at dksX1_reach_0 12 rfl rfl)
theorem dX1_reach_13 : decode cX1_reach 13 = .ok (.aload_n 3, 1) := dk_45 (dk_at dksX1_reach_0 13 rfl rfl)
theorem dX1_reach_14 : decode cX1_reach 14 = .ok (.iload_n 2, 1) := dk_28 (dk_at dksX1_reach_0 14 rfl rfl)
theorem dX1_reach_15 : decode cX1_reach 15 = .ok (.invokevirtual 282, 3) := dk_182 1 26 (dk_at dksX1_reach_0 15 rfl rfl)
theorem dX1_reach_18 : decode cX1_reach 18 = .ok (.invokeinterface 286 1, 5) := by decide +kernel
theorem dX1_reach_23 : decode cX1_reach 23 = .ok (.astore 5, 2) := dk_58 5 (dk_at dksX1_reach_1 0 rfl rfl)
theorem dX1_reach_25 : decode cX1_reach 25 = .ok (.aload 5, 2) := dk_25 5 (dk_at dksX1_reach_1 2 rfl rfl)
theorem dX1_reach_27 : decode cX1_reach 27 = .ok (.invokeinterface 292 1, 5) := by decide +kernel
theorem dX1_reach_32 : decode cX1_reach 32 = .ok (.ifCond .eq 25, 3) := dk_153 0 25 (dk_at dksX1_reach_1 9 rfl rfl)
theorem dX1_reach_35 : decode cX1_reach 35 = .ok (.aload 5, 2) := dk_25 5 (dk_at dksX1_reach_1 12 rfl rfl)
theorem dX1_reach_37 : decode cX1_reach 37 = .ok (.invokeinterface 298 1, 5) := by decide +kernel
theorem dX1_reach_42 : decode cX1_reach 42 = .ok (.checkcast 301, 3) := dk_192 1 45 (dk_at dksX1_reach_1 19 rfl rfl)
theorem dX1_reach_45 : decode cX1_reach 45 = .ok (.invokevirtual 303, 3) := dk_182 1 47 (dk_at dksX1_reach_2 0 rfl rfl)
theorem dX1_reach_48 : decode cX1_reach 48 = .ok (.istore 6, 2) := dk_54 6 (dk_at dksX1_reach_2 3 rfl rfl)
theorem dX1_reach_50 : decode cX1_reach 50 = .ok (.iload 6, 2) := dk_21 6 (dk_at dksX1_reach_2 5 rfl rfl)
theorem dX1_reach_52 : decode cX1_reach 52 = .ok (.istore 4, 2) := dk_54 4 (dk_at dksX1_reach_2 7 rfl rfl)
theorem dX1_reach_54 : decode cX1_reach 54 = .ok (.goto (-29), 3) := dk_167 255 227 (dk_at dksX1_reach_2 9 rfl rfl)
theorem dX1_reach_57 : decode cX1_reach 57 = .ok (.iload 4, 2) := dk_21 4 (dk_at dksX1_reach_2 12 rfl rfl)
theorem dX1_reach_59 : decode cX1_reach 59 = .ok (.ireturn, 1) := dk_172 (dk_at dksX1_reach_2 14 rfl rfl)
theorem dX1_reach_60 : decode cX1_reach 60 = .ok (.astore_n 3, 1) := dk_78 (dk_at dksX1_reach_2 15 rfl rfl)
theorem dX1_reach_61 : decode cX1_reach 61 = .ok (.aload_n 0, 1) := dk_42 (dk_at dksX1_reach_2 16 rfl rfl)
theorem dX1_reach_62 : decode cX1_reach 62 = .ok (.aload_n 3, 1) := dk_45 (dk_at dksX1_reach_2 17 rfl rfl)
theorem dX1_reach_63 : decode cX1_reach 63 = .ok (.invokevirtual 58, 3) := dk_182 0 58 (dk_at dksX1_reach_2 18 rfl rfl)
theorem dX1_reach_66 : decode cX1_reach 66 = .ok (.athrow, 1) := dk_191 (dk_at dksX1_reach_2 21 rfl rfl)
abbrev cX1_standing : ByteArray := prog_1_method_37_code
def yX1_standing : MethodName := ⟨RX1, "standing", "(I)LStaffRailway$Train;"⟩
def dkwX1_standing_1 : List UInt8 := [182, 0, 204, 192, 0, 208, 176]
abbrev dktX1_standing_1 : List UInt8 := dkwX1_standing_1 ++ []
def dkwX1_standing_0 : List UInt8 := [42, 180, 0, 10, 27, 182, 1, 16, 42, 180, 0, 10, 27, 182, 1, 20, 42, 180, 0, 10, 180, 0, 197, 27]
abbrev dktX1_standing_0 : List UInt8 := dkwX1_standing_0 ++ dktX1_standing_1
theorem dksX1_standing_0 : cX1_standing.data.toList.drop 0 = dktX1_standing_0 := by decide +kernel
theorem dksX1_standing_1 : cX1_standing.data.toList.drop 24 = dktX1_standing_1 := dk_seg dksX1_standing_0 24 rfl rfl
theorem dX1_standing_0 : decode cX1_standing 0 = .ok (.aload_n 0, 1) := dk_42 (dk_at dksX1_standing_0 0 rfl rfl)
theorem dX1_standing_1 : decode cX1_standing 1 = .ok (.getfield 10, 3) := dk_180 0 10 (dk_at dksX1_standing_0 1 rfl rfl)
theorem dX1_standing_4 : decode cX1_standing 4 = .ok (.iload_n 1, 1) := dk_27 (dk_at dksX1_standing_0 4 rfl rfl)
theorem dX1_standing_5 : decode cX1_standing 5 = .ok (.invokevirtual 272, 3) := dk_182 1 16 (dk_at dksX1_standing_0 5 rfl rfl)
theorem dX1_standing_8 : decode cX1_standing 8 = .ok (.aload_n 0, 1) := dk_42 (dk_at dksX1_standing_0 8 rfl rfl)
theorem dX1_standing_9 : decode cX1_standing 9 = .ok (.getfield 10, 3) := dk_180 0 10 (dk_at dksX1_standing_0 9 rfl rfl)
theorem dX1_standing_12 : decode cX1_standing 12 = .ok (.iload_n 1, 1) := dk_27 (dk_at dksX1_standing_0 12 rfl rfl)
theorem dX1_standing_13 : decode cX1_standing 13 = .ok (.invokevirtual 276, 3) := dk_182 1 20 (dk_at dksX1_standing_0 13 rfl rfl)
theorem dX1_standing_16 : decode cX1_standing 16 = .ok (.aload_n 0, 1) := dk_42 (dk_at dksX1_standing_0 16 rfl rfl)
theorem dX1_standing_17 : decode cX1_standing 17 = .ok (.getfield 10, 3) := dk_180 0 10 (dk_at dksX1_standing_0 17 rfl rfl)
theorem dX1_standing_20 : decode cX1_standing 20 = .ok (.getfield 197, 3) := dk_180 0 197 (dk_at dksX1_standing_0 20 rfl rfl)
theorem dX1_standing_23 : decode cX1_standing 23 = .ok (.iload_n 1, 1) := dk_27 (dk_at dksX1_standing_0 23 rfl rfl)
theorem dX1_standing_24 : decode cX1_standing 24 = .ok (.invokevirtual 204, 3) := dk_182 0 204 (dk_at dksX1_standing_1 0 rfl rfl)
theorem dX1_standing_27 : decode cX1_standing 27 = .ok (.checkcast 208, 3) := dk_192 0 208 (dk_at dksX1_standing_1 3 rfl rfl)
theorem dX1_standing_30 : decode cX1_standing 30 = .ok (.areturn, 1) := dk_176 (dk_at dksX1_standing_1 6 rfl rfl)
abbrev cX1_way : ByteArray := prog_1_method_36_code
def yX1_way : MethodName := ⟨RX1, "way", "(LStaffRailway$Train;Z)Ljava/lang/Iterable;"⟩
def dkwX1_way_0 : List UInt8 := [28, 153, 0, 7, 4, 167, 0, 4, 2, 62, 187, 1, 11, 89, 42, 29, 43, 183, 1, 13, 176]
abbrev dktX1_way_0 : List UInt8 := dkwX1_way_0 ++ []
theorem dksX1_way_0 : cX1_way.data.toList.drop 0 = dktX1_way_0 := by decide +kernel
theorem dX1_way_0 : decode cX1_way 0 = .ok (.iload_n 2, 1) := dk_28 (dk_at dksX1_way_0 0 rfl rfl)
theorem dX1_way_1 : decode cX1_way 1 = .ok (.ifCond .eq 7, 3) := dk_153 0 7 (dk_at dksX1_way_0 1 rfl rfl)
theorem dX1_way_4 : decode cX1_way 4 = .ok (.iconst 1, 1) := dk_4 (dk_at dksX1_way_0 4 rfl rfl)
theorem dX1_way_5 : decode cX1_way 5 = .ok (.goto 4, 3) := dk_167 0 4 (dk_at dksX1_way_0 5 rfl rfl)
theorem dX1_way_8 : decode cX1_way 8 = .ok (.iconst (-1), 1) := dk_2 (dk_at dksX1_way_0 8 rfl rfl)
theorem dX1_way_9 : decode cX1_way 9 = .ok (.istore_n 3, 1) := dk_62 (dk_at dksX1_way_0 9 rfl rfl)
theorem dX1_way_10 : decode cX1_way 10 = .ok (.new 267, 3) := dk_187 1 11 (dk_at dksX1_way_0 10 rfl rfl)
theorem dX1_way_13 : decode cX1_way 13 = .ok (.dup, 1) := dk_89 (dk_at dksX1_way_0 13 rfl rfl)
theorem dX1_way_14 : decode cX1_way 14 = .ok (.aload_n 0, 1) := dk_42 (dk_at dksX1_way_0 14 rfl rfl)
theorem dX1_way_15 : decode cX1_way 15 = .ok (.iload_n 3, 1) := dk_29 (dk_at dksX1_way_0 15 rfl rfl)
theorem dX1_way_16 : decode cX1_way 16 = .ok (.aload_n 1, 1) := dk_43 (dk_at dksX1_way_0 16 rfl rfl)
theorem dX1_way_17 : decode cX1_way 17 = .ok (.invokespecial 269, 3) := dk_183 1 13 (dk_at dksX1_way_0 17 rfl rfl)
theorem dX1_way_20 : decode cX1_way 20 = .ok (.areturn, 1) := dk_176 (dk_at dksX1_way_0 20 rfl rfl)
abbrev cX1_reachAgain : ByteArray := prog_1_method_40_code
def yX1_reachAgain : MethodName := ⟨RX1, "reachAgain", "(IZ)I"⟩
def dkwX1_reachAgain_3 : List UInt8 := [78, 42, 45, 182, 0, 58, 191]
abbrev dktX1_reachAgain_3 : List UInt8 := dkwX1_reachAgain_3 ++ []
def dkwX1_reachAgain_2 : List UInt8 := [21, 5, 21, 6, 96, 184, 1, 57, 153, 0, 13, 21, 5, 21, 6, 96, 54, 5, 167, 255, 224, 21, 5, 172]
abbrev dktX1_reachAgain_2 : List UInt8 := dkwX1_reachAgain_2 ++ dktX1_reachAgain_3
def dkwX1_reachAgain_1 : List UInt8 := [153, 0, 7, 4, 167, 0, 4, 2, 54, 6, 21, 5, 21, 6, 96, 184, 0, 98, 153, 0, 27, 25, 4, 27]
abbrev dktX1_reachAgain_1 : List UInt8 := dkwX1_reachAgain_1 ++ dktX1_reachAgain_2
def dkwX1_reachAgain_0 : List UInt8 := [42, 27, 182, 1, 23, 78, 42, 180, 0, 10, 182, 0, 74, 58, 4, 45, 180, 0, 213, 54, 5, 28]
abbrev dktX1_reachAgain_0 : List UInt8 := dkwX1_reachAgain_0 ++ dktX1_reachAgain_1
theorem dksX1_reachAgain_0 : cX1_reachAgain.data.toList.drop 0 = dktX1_reachAgain_0 := by decide +kernel
theorem dksX1_reachAgain_1 : cX1_reachAgain.data.toList.drop 22 = dktX1_reachAgain_1 := dk_seg dksX1_reachAgain_0 22 rfl rfl
theorem dksX1_reachAgain_2 : cX1_reachAgain.data.toList.drop 46 = dktX1_reachAgain_2 := dk_seg dksX1_reachAgain_1 24 rfl rfl
theorem dksX1_reachAgain_3 : cX1_reachAgain.data.toList.drop 70 = dktX1_reachAgain_3 := dk_seg dksX1_reachAgain_2 24 rfl rfl
theorem dX1_reachAgain_0 : decode cX1_reachAgain 0 = .ok (.aload_n 0, 1) := dk_42 (dk_at dksX1_reachAgain_0 0 rfl rfl)
theorem dX1_reachAgain_1 : decode cX1_reachAgain 1 = .ok (.iload_n 1, 1) := dk_27 (dk_at dksX1_reachAgain_0 1 rfl rfl)
theorem dX1_reachAgain_2 : decode cX1_reachAgain 2 = .ok (.invokevirtual 279, 3) := dk_182 1 23 (dk_at dksX1_reachAgain_0 2 rfl rfl)
theorem dX1_reachAgain_5 : decode cX1_reachAgain 5 = .ok (.astore_n 3, 1) := dk_78 (dk_at dksX1_reachAgain_0 5 rfl rfl)
theorem dX1_reachAgain_6 : decode cX1_reachAgain 6 = .ok (.aload_n 0, 1) := dk_42 (dk_at dksX1_reachAgain_0 6 rfl rfl)
theorem dX1_reachAgain_7 : decode cX1_reachAgain 7 = .ok (.getfield 10, 3) := dk_180 0 10 (dk_at dksX1_reachAgain_0 7 rfl rfl)
theorem dX1_reachAgain_10 : decode cX1_reachAgain 10 = .ok (.invokevirtual 74, 3) := dk_182 0 74 (dk_at dksX1_reachAgain_0 10 rfl rfl)
theorem dX1_reachAgain_13 : decode cX1_reachAgain 13 = .ok (.astore 4, 2) := dk_58 4 (dk_at dksX1_reachAgain_0 13 rfl rfl)
theorem dX1_reachAgain_15 : decode cX1_reachAgain 15 = .ok (.aload_n 3, 1) := dk_45 (dk_at dksX1_reachAgain_0 15 rfl rfl)
theorem dX1_reachAgain_16 : decode cX1_reachAgain 16 = .ok (.getfield 213, 3) := dk_180 0 213 (dk_at dksX1_reachAgain_0 16 rfl rfl)
theorem dX1_reachAgain_19 : decode cX1_reachAgain 19 = .ok (.istore 5, 2) := dk_54 5 (dk_at dksX1_reachAgain_0 19 rfl rfl)
theorem dX1_reachAgain_21 : decode cX1_reachAgain 21 = .ok (.iload_n 2, 1) := dk_28 (dk_at dksX1_reachAgain_0 21 rfl rfl)
theorem dX1_reachAgain_22 : decode cX1_reachAgain 22 = .ok (.ifCond .eq 7, 3) := dk_153 0 7 (dk_at dksX1_reachAgain_1 0 rfl rfl)
theorem dX1_reachAgain_25 : decode cX1_reachAgain 25 = .ok (.iconst 1, 1) := dk_4 (dk_at dksX1_reachAgain_1 3 rfl rfl)
theorem dX1_reachAgain_26 : decode cX1_reachAgain 26 = .ok (.goto 4, 3) := dk_167 0 4 (dk_at dksX1_reachAgain_1 4 rfl rfl)
theorem dX1_reachAgain_29 : decode cX1_reachAgain 29 = .ok (.iconst (-1), 1) := dk_2 (dk_at dksX1_reachAgain_1 7 rfl rfl)
theorem dX1_reachAgain_30 : decode cX1_reachAgain 30 = .ok (.istore 6, 2) := dk_54 6 (dk_at dksX1_reachAgain_1 8 rfl rfl)
theorem dX1_reachAgain_32 : decode cX1_reachAgain 32 = .ok (.iload 5, 2) := dk_21 5 (dk_at dksX1_reachAgain_1 10 rfl rfl)
theorem dX1_reachAgain_34 : decode cX1_reachAgain 34 = .ok (.iload 6, 2) := dk_21 6 (dk_at dksX1_reachAgain_1 12 rfl rfl)
theorem dX1_reachAgain_36 : decode cX1_reachAgain 36 = .ok (.iadd, 1) := dk_96 (dk_at dksX1_reachAgain_1 14 rfl rfl)
theorem dX1_reachAgain_37 : decode cX1_reachAgain 37 = .ok (.invokestatic 98, 3) := dk_184 0 98 (dk_at dksX1_reachAgain_1 15 rfl rfl)
theorem dX1_reachAgain_40 : decode cX1_reachAgain 40 = .ok (.ifCond .eq 27, 3) := dk_153 0 27 (dk_at dksX1_reachAgain_1 18 rfl rfl)
theorem dX1_reachAgain_43 : decode cX1_reachAgain 43 = .ok (.aload 4, 2) := dk_25 4 (dk_at dksX1_reachAgain_1 21 rfl rfl)
theorem dX1_reachAgain_45 : decode cX1_reachAgain 45 = .ok (.iload_n 1, 1) := dk_27 (dk_at dksX1_reachAgain_1 23 rfl rfl)
theorem dX1_reachAgain_46 : decode cX1_reachAgain 46 = .ok (.iload 5, 2) := dk_21 5 (dk_at dksX1_reachAgain_2 0 rfl rfl)
theorem dX1_reachAgain_48 : decode cX1_reachAgain 48 = .ok (.iload 6, 2) := dk_21 6 (dk_at dksX1_reachAgain_2 2 rfl rfl)
theorem dX1_reachAgain_50 : decode cX1_reachAgain 50 = .ok (.iadd, 1) := dk_96 (dk_at dksX1_reachAgain_2 4 rfl rfl)
theorem dX1_reachAgain_51 : decode cX1_reachAgain 51 = .ok (.invokestatic 313, 3) := dk_184 1 57 (dk_at dksX1_reachAgain_2 5 rfl rfl)
theorem dX1_reachAgain_54 : decode cX1_reachAgain 54 = .ok (.ifCond .eq 13, 3) := dk_153 0 13 (dk_at dksX1_reachAgain_2 8 rfl rfl)
theorem dX1_reachAgain_57 : decode cX1_reachAgain 57 = .ok (.iload 5, 2) := dk_21 5 (dk_at dksX1_reachAgain_2 11 rfl rfl)
theorem dX1_reachAgain_59 : decode cX1_reachAgain 59 = .ok (.iload 6, 2) := dk_21 6 (dk_at dksX1_reachAgain_2 13 rfl rfl)
theorem dX1_reachAgain_61 : decode cX1_reachAgain 61 = .ok (.iadd, 1) := dk_96 (dk_at dksX1_reachAgain_2 15 rfl rfl)
theorem dX1_reachAgain_62 : decode cX1_reachAgain 62 = .ok (.istore 5, 2) := dk_54 5 (dk_at dksX1_reachAgain_2 16 rfl rfl)
theorem dX1_reachAgain_64 : decode cX1_reachAgain 64 = .ok (.goto (-32), 3) := dk_167 255 224 (dk_at dksX1_reachAgain_2 18 rfl rfl)
theorem dX1_reachAgain_67 : decode cX1_reachAgain 67 = .ok (.iload 5, 2) := dk_21 5 (dk_at dksX1_reachAgain_2 21 rfl rfl)
theorem dX1_reachAgain_69 : decode cX1_reachAgain 69 = .ok (.ireturn, 1) := dk_172 (dk_at dksX1_reachAgain_2 23 rfl rfl)
theorem dX1_reachAgain_70 : decode cX1_reachAgain 70 = .ok (.astore_n 3, 1) := dk_78 (dk_at dksX1_reachAgain_3 0 rfl rfl)
theorem dX1_reachAgain_71 : decode cX1_reachAgain 71 = .ok (.aload_n 0, 1) := dk_42 (dk_at dksX1_reachAgain_3 1 rfl rfl)
theorem dX1_reachAgain_72 : decode cX1_reachAgain 72 = .ok (.aload_n 3, 1) := dk_45 (dk_at dksX1_reachAgain_3 2 rfl rfl)
theorem dX1_reachAgain_73 : decode cX1_reachAgain 73 = .ok (.invokevirtual 58, 3) := dk_182 0 58 (dk_at dksX1_reachAgain_3 3 rfl rfl)
theorem dX1_reachAgain_76 : decode cX1_reachAgain 76 = .ok (.athrow, 1) := dk_191 (dk_at dksX1_reachAgain_3 6 rfl rfl)
abbrev cX1_goesOn : ByteArray := prog_1_method_39_code
def yX1_goesOn : MethodName := ⟨RX1, "goesOn", "(LStaffRailway$Line;II)Z"⟩
def dkwX1_goesOn_1 : List UInt8 := [167, 255, 244, 4, 172, 78, 3, 172]
abbrev dktX1_goesOn_1 : List UInt8 := dkwX1_goesOn_1 ++ []
def dkwX1_goesOn_0 : List UInt8 := [42, 27, 28, 182, 1, 50, 62, 3, 54, 4, 21, 4, 154, 0, 13, 42, 27, 182, 1, 54, 54, 4]
abbrev dktX1_goesOn_0 : List UInt8 := dkwX1_goesOn_0 ++ dktX1_goesOn_1
theorem dksX1_goesOn_0 : cX1_goesOn.data.toList.drop 0 = dktX1_goesOn_0 := by decide +kernel
theorem dksX1_goesOn_1 : cX1_goesOn.data.toList.drop 22 = dktX1_goesOn_1 := dk_seg dksX1_goesOn_0 22 rfl rfl
theorem dX1_goesOn_0 : decode cX1_goesOn 0 = .ok (.aload_n 0, 1) := dk_42 (dk_at dksX1_goesOn_0 0 rfl rfl)
theorem dX1_goesOn_1 : decode cX1_goesOn 1 = .ok (.iload_n 1, 1) := dk_27 (dk_at dksX1_goesOn_0 1 rfl rfl)
theorem dX1_goesOn_2 : decode cX1_goesOn 2 = .ok (.iload_n 2, 1) := dk_28 (dk_at dksX1_goesOn_0 2 rfl rfl)
theorem dX1_goesOn_3 : decode cX1_goesOn 3 = .ok (.invokevirtual 306, 3) := dk_182 1 50 (dk_at dksX1_goesOn_0 3 rfl rfl)
theorem dX1_goesOn_6 : decode cX1_goesOn 6 = .ok (.istore_n 3, 1) := dk_62 (dk_at dksX1_goesOn_0 6 rfl rfl)
theorem dX1_goesOn_7 : decode cX1_goesOn 7 = .ok (.iconst 0, 1) := dk_3 (dk_at dksX1_goesOn_0 7 rfl rfl)
theorem dX1_goesOn_8 : decode cX1_goesOn 8 = .ok (.istore 4, 2) := dk_54 4 (dk_at dksX1_goesOn_0 8 rfl rfl)
theorem dX1_goesOn_10 : decode cX1_goesOn 10 = .ok (.iload 4, 2) := dk_21 4 (dk_at dksX1_goesOn_0 10 rfl rfl)
theorem dX1_goesOn_12 : decode cX1_goesOn 12 = .ok (.ifCond .ne 13, 3) := dk_154 0 13 (dk_at dksX1_goesOn_0 12 rfl rfl)
theorem dX1_goesOn_15 : decode cX1_goesOn 15 = .ok (.aload_n 0, 1) := dk_42 (dk_at dksX1_goesOn_0 15 rfl rfl)
theorem dX1_goesOn_16 : decode cX1_goesOn 16 = .ok (.iload_n 1, 1) := dk_27 (dk_at dksX1_goesOn_0 16 rfl rfl)
theorem dX1_goesOn_17 : decode cX1_goesOn 17 = .ok (.invokevirtual 310, 3) := dk_182 1 54 (dk_at dksX1_goesOn_0 17 rfl rfl)
theorem dX1_goesOn_20 : decode cX1_goesOn 20 = .ok (.istore 4, 2) := dk_54 4 (dk_at dksX1_goesOn_0 20 rfl rfl)
theorem dX1_goesOn_22 : decode cX1_goesOn 22 = .ok (.goto (-12), 3) := dk_167 255 244 (dk_at dksX1_goesOn_1 0 rfl rfl)
theorem dX1_goesOn_25 : decode cX1_goesOn 25 = .ok (.iconst 1, 1) := dk_4 (dk_at dksX1_goesOn_1 3 rfl rfl)
theorem dX1_goesOn_26 : decode cX1_goesOn 26 = .ok (.ireturn, 1) := dk_172 (dk_at dksX1_goesOn_1 4 rfl rfl)
theorem dX1_goesOn_27 : decode cX1_goesOn 27 = .ok (.astore_n 3, 1) := dk_78 (dk_at dksX1_goesOn_1 5 rfl rfl)
theorem dX1_goesOn_28 : decode cX1_goesOn 28 = .ok (.iconst 0, 1) := dk_3 (dk_at dksX1_goesOn_1 6 rfl rfl)
theorem dX1_goesOn_29 : decode cX1_goesOn 29 = .ok (.ireturn, 1) := dk_172 (dk_at dksX1_goesOn_1 7 rfl rfl)
abbrev cX1_minutes : ByteArray := prog_1_method_41_code
def yX1_minutes : MethodName := ⟨RX1, "minutes", "(IZ)I"⟩
def dkwX1_minutes_4 : List UInt8 := [182, 0, 58, 191]
abbrev dktX1_minutes_4 : List UInt8 := dkwX1_minutes_4 ++ []
def dkwX1_minutes_3 : List UInt8 := [50, 45, 180, 0, 210, 182, 1, 65, 96, 54, 5, 21, 7, 54, 4, 167, 255, 200, 21, 5, 172, 78, 42, 45]
abbrev dktX1_minutes_3 : List UInt8 := dkwX1_minutes_3 ++ dktX1_minutes_4
def dkwX1_minutes_2 : List UInt8 := [192, 1, 45, 182, 1, 47, 54, 7, 21, 5, 42, 180, 0, 10, 180, 0, 155, 21, 4, 21, 7, 184, 1, 60]
abbrev dktX1_minutes_2 : List UInt8 := dkwX1_minutes_2 ++ dktX1_minutes_3
def dkwX1_minutes_1 : List UInt8 := [185, 1, 30, 1, 0, 58, 6, 25, 6, 185, 1, 36, 1, 0, 153, 0, 52, 25, 6, 185, 1, 42, 1, 0]
abbrev dktX1_minutes_1 : List UInt8 := dkwX1_minutes_1 ++ dktX1_minutes_2
def dkwX1_minutes_0 : List UInt8 := [42, 27, 182, 1, 23, 78, 45, 180, 0, 213, 54, 4, 3, 54, 5, 42, 45, 28, 182, 1, 26]
abbrev dktX1_minutes_0 : List UInt8 := dkwX1_minutes_0 ++ dktX1_minutes_1
theorem dksX1_minutes_0 : cX1_minutes.data.toList.drop 0 = dktX1_minutes_0 := by decide +kernel
theorem dksX1_minutes_1 : cX1_minutes.data.toList.drop 21 = dktX1_minutes_1 := dk_seg dksX1_minutes_0 21 rfl rfl
theorem dksX1_minutes_2 : cX1_minutes.data.toList.drop 45 = dktX1_minutes_2 := dk_seg dksX1_minutes_1 24 rfl rfl
theorem dksX1_minutes_3 : cX1_minutes.data.toList.drop 69 = dktX1_minutes_3 := dk_seg dksX1_minutes_2 24 rfl rfl
theorem dksX1_minutes_4 : cX1_minutes.data.toList.drop 93 = dktX1_minutes_4 := dk_seg dksX1_minutes_3 24 rfl rfl
theorem dX1_minutes_0 : decode cX1_minutes 0 = .ok (.aload_n 0, 1) := dk_42 (dk_at dksX1_minutes_0 0 rfl rfl)
theorem dX1_minutes_1 : decode cX1_minutes 1 = .ok (.iload_n 1, 1) := dk_27 (dk_at dksX1_minutes_0 1 rfl rfl)
theorem dX1_minutes_2 : decode cX1_minutes 2 = .ok (.invokevirtual 279, 3) := dk_182 1 23 (dk_at dksX1_minutes_0 2 rfl rfl)
theorem dX1_minutes_5 : decode cX1_minutes 5 = .ok (.astore_n 3, 1) := dk_78 (dk_at dksX1_minutes_0 5 rfl rfl)
theorem dX1_minutes_6 : decode cX1_minutes 6 = .ok (.aload_n 3, 1) := dk_45 (dk_at dksX1_minutes_0 6 rfl rfl)
theorem dX1_minutes_7 : decode cX1_minutes 7 = .ok (.getfield 213, 3) := dk_180 0 213 (dk_at dksX1_minutes_0 7 rfl rfl)
theorem dX1_minutes_10 : decode cX1_minutes 10 = .ok (.istore 4, 2) := dk_54 4 (dk_at dksX1_minutes_0 10 rfl rfl)
theorem dX1_minutes_12 : decode cX1_minutes 12 = .ok (.iconst 0, 1) := dk_3 (dk_at dksX1_minutes_0 12 rfl rfl)
theorem dX1_minutes_13 : decode cX1_minutes 13 = .ok (.istore 5, 2) := dk_54 5 (dk_at dksX1_minutes_0 13 rfl rfl)
theorem dX1_minutes_15 : decode cX1_minutes 15 = .ok (.aload_n 0, 1) := dk_42 (dk_at dksX1_minutes_0 15 rfl rfl)
theorem dX1_minutes_16 : decode cX1_minutes 16 = .ok (.aload_n 3, 1) := dk_45 (dk_at dksX1_minutes_0 16 rfl rfl)
theorem dX1_minutes_17 : decode cX1_minutes 17 = .ok (.iload_n 2, 1) := dk_28 (dk_at dksX1_minutes_0 17 rfl rfl)
theorem dX1_minutes_18 : decode cX1_minutes 18 = .ok (.invokevirtual 282, 3) := dk_182 1 26 (dk_at dksX1_minutes_0 18 rfl rfl)
theorem dX1_minutes_21 : decode cX1_minutes 21 = .ok (.invokeinterface 286 1, 5) := by decide +kernel
theorem dX1_minutes_26 : decode cX1_minutes 26 = .ok (.astore 6, 2) := dk_58 6 (dk_at dksX1_minutes_1 5 rfl rfl)
theorem dX1_minutes_28 : decode cX1_minutes 28 = .ok (.aload 6, 2) := dk_25 6 (dk_at dksX1_minutes_1 7 rfl rfl)
theorem dX1_minutes_30 : decode cX1_minutes 30 = .ok (.invokeinterface 292 1, 5) := by decide +kernel
theorem dX1_minutes_35 : decode cX1_minutes 35 = .ok (.ifCond .eq 52, 3) := dk_153 0 52 (dk_at dksX1_minutes_1 14 rfl rfl)
theorem dX1_minutes_38 : decode cX1_minutes 38 = .ok (.aload 6, 2) := dk_25 6 (dk_at dksX1_minutes_1 17 rfl rfl)
theorem dX1_minutes_40 : decode cX1_minutes 40 = .ok (.invokeinterface 298 1, 5) := by decide +kernel
theorem dX1_minutes_45 : decode cX1_minutes 45 = .ok (.checkcast 301, 3) := dk_192 1 45 (dk_at dksX1_minutes_2 0 rfl rfl)
theorem dX1_minutes_48 : decode cX1_minutes 48 = .ok (.invokevirtual 303, 3) := dk_182 1 47 (dk_at dksX1_minutes_2 3 rfl rfl)
theorem dX1_minutes_51 : decode cX1_minutes 51 = .ok (.istore 7, 2) := dk_54 7 (dk_at dksX1_minutes_2 6 rfl rfl)
theorem dX1_minutes_53 : decode cX1_minutes 53 = .ok (.iload 5, 2) := dk_21 5 (dk_at dksX1_minutes_2 8 rfl rfl)
theorem dX1_minutes_55 : decode cX1_minutes 55 = .ok (.aload_n 0, 1) := dk_42 (dk_at dksX1_minutes_2 10 rfl rfl)
theorem dX1_minutes_56 : decode cX1_minutes 56 = .ok (.getfield 10, 3) := dk_180 0 10 (dk_at dksX1_minutes_2 11 rfl rfl)
theorem dX1_minutes_59 : decode cX1_minutes 59 = .ok (.getfield 155, 3) := dk_180 0 155 (dk_at dksX1_minutes_2 14 rfl rfl)
theorem dX1_minutes_62 : decode cX1_minutes 62 = .ok (.iload 4, 2) := dk_21 4 (dk_at dksX1_minutes_2 17 rfl rfl)
theorem dX1_minutes_64 : decode cX1_minutes 64 = .ok (.iload 7, 2) := dk_21 7 (dk_at dksX1_minutes_2 19 rfl rfl)
theorem dX1_minutes_66 : decode cX1_minutes 66 = .ok (.invokestatic 316, 3) := dk_184 1 60 (dk_at dksX1_minutes_2 21 rfl rfl)
theorem dX1_minutes_69 : decode cX1_minutes 69 = .ok (.aaload, 1) := dk_50 (dk_at dksX1_minutes_3 0 rfl rfl)
theorem dX1_minutes_70 : decode cX1_minutes 70 = .ok (.aload_n 3, 1) := dk_45 (dk_at dksX1_minutes_3 1 rfl rfl)
theorem dX1_minutes_71 : decode cX1_minutes 71 = .ok (.getfield 210, 3) := dk_180 0 210 (dk_at dksX1_minutes_3 2 rfl rfl)
theorem dX1_minutes_74 : decode cX1_minutes 74 = .ok (.invokevirtual 321, 3) := dk_182 1 65 (dk_at dksX1_minutes_3 5 rfl rfl)
theorem dX1_minutes_77 : decode cX1_minutes 77 = .ok (.iadd, 1) := dk_96 (dk_at dksX1_minutes_3 8 rfl rfl)
theorem dX1_minutes_78 : decode cX1_minutes 78 = .ok (.istore 5, 2) := dk_54 5 (dk_at dksX1_minutes_3 9 rfl rfl)
theorem dX1_minutes_80 : decode cX1_minutes 80 = .ok (.iload 7, 2) := dk_21 7 (dk_at dksX1_minutes_3 11 rfl rfl)
theorem dX1_minutes_82 : decode cX1_minutes 82 = .ok (.istore 4, 2) := dk_54 4 (dk_at dksX1_minutes_3 13 rfl rfl)
theorem dX1_minutes_84 : decode cX1_minutes 84 = .ok (.goto (-56), 3) := dk_167 255 200 (dk_at dksX1_minutes_3 15 rfl rfl)
theorem dX1_minutes_87 : decode cX1_minutes 87 = .ok (.iload 5, 2) := dk_21 5 (dk_at dksX1_minutes_3 18 rfl rfl)
theorem dX1_minutes_89 : decode cX1_minutes 89 = .ok (.ireturn, 1) := dk_172 (dk_at dksX1_minutes_3 20 rfl rfl)
theorem dX1_minutes_90 : decode cX1_minutes 90 = .ok (.astore_n 3, 1) := dk_78 (dk_at dksX1_minutes_3 21 rfl rfl)
theorem dX1_minutes_91 : decode cX1_minutes 91 = .ok (.aload_n 0, 1) := dk_42 (dk_at dksX1_minutes_3 22 rfl rfl)
theorem dX1_minutes_92 : decode cX1_minutes 92 = .ok (.aload_n 3, 1) := dk_45 (dk_at dksX1_minutes_3 23 rfl rfl)
theorem dX1_minutes_93 : decode cX1_minutes 93 = .ok (.invokevirtual 58, 3) := dk_182 0 58 (dk_at dksX1_minutes_4 0 rfl rfl)
theorem dX1_minutes_96 : decode cX1_minutes 96 = .ok (.athrow, 1) := dk_191 (dk_at dksX1_minutes_4 3 rfl rfl)
abbrev cX1_log : ByteArray := prog_1_method_44_code
def yX1_log : MethodName := ⟨RX1, "log", "(III)I"⟩
def dkwX1_log_2 : List UInt8 := [50, 29, 182, 1, 84, 172]
abbrev dktX1_log_2 : List UInt8 := dkwX1_log_2 ++ []
def dkwX1_log_1 : List UInt8 := [50, 58, 4, 28, 3, 25, 4, 180, 0, 145, 4, 100, 184, 0, 94, 184, 0, 251, 25, 4, 180, 1, 80, 28]
abbrev dktX1_log_1 : List UInt8 := dkwX1_log_1 ++ dktX1_log_2
def dkwX1_log_0 : List UInt8 := [27, 184, 0, 98, 184, 0, 102, 29, 3, 5, 184, 0, 94, 184, 0, 106, 42, 180, 0, 10, 180, 0, 141, 27]
abbrev dktX1_log_0 : List UInt8 := dkwX1_log_0 ++ dktX1_log_1
theorem dksX1_log_0 : cX1_log.data.toList.drop 0 = dktX1_log_0 := by decide +kernel
theorem dksX1_log_1 : cX1_log.data.toList.drop 24 = dktX1_log_1 := dk_seg dksX1_log_0 24 rfl rfl
theorem dksX1_log_2 : cX1_log.data.toList.drop 48 = dktX1_log_2 := dk_seg dksX1_log_1 24 rfl rfl
theorem dX1_log_0 : decode cX1_log 0 = .ok (.iload_n 1, 1) := dk_27 (dk_at dksX1_log_0 0 rfl rfl)
theorem dX1_log_1 : decode cX1_log 1 = .ok (.invokestatic 98, 3) := dk_184 0 98 (dk_at dksX1_log_0 1 rfl rfl)
theorem dX1_log_4 : decode cX1_log 4 = .ok (.invokestatic 102, 3) := dk_184 0 102 (dk_at dksX1_log_0 4 rfl rfl)
theorem dX1_log_7 : decode cX1_log 7 = .ok (.iload_n 3, 1) := dk_29 (dk_at dksX1_log_0 7 rfl rfl)
theorem dX1_log_8 : decode cX1_log 8 = .ok (.iconst 0, 1) := dk_3 (dk_at dksX1_log_0 8 rfl rfl)
theorem dX1_log_9 : decode cX1_log 9 = .ok (.iconst 2, 1) := dk_5 (dk_at dksX1_log_0 9 rfl rfl)
theorem dX1_log_10 : decode cX1_log 10 = .ok (.invokestatic 94, 3) := dk_184 0 94 (dk_at dksX1_log_0 10 rfl rfl)
theorem dX1_log_13 : decode cX1_log 13 = .ok (.invokestatic 106, 3) := dk_184 0 106 (dk_at dksX1_log_0 13 rfl rfl)
theorem dX1_log_16 : decode cX1_log 16 = .ok (.aload_n 0, 1) := dk_42 (dk_at dksX1_log_0 16 rfl rfl)
theorem dX1_log_17 : decode cX1_log 17 = .ok (.getfield 10, 3) := dk_180 0 10 (dk_at dksX1_log_0 17 rfl rfl)
theorem dX1_log_20 : decode cX1_log 20 = .ok (.getfield 141, 3) := dk_180 0 141 (dk_at dksX1_log_0 20 rfl rfl)
theorem dX1_log_23 : decode cX1_log 23 = .ok (.iload_n 1, 1) := dk_27 (dk_at dksX1_log_0 23 rfl rfl)
theorem dX1_log_24 : decode cX1_log 24 = .ok (.aaload, 1) := dk_50 (dk_at dksX1_log_1 0 rfl rfl)
theorem dX1_log_25 : decode cX1_log 25 = .ok (.astore 4, 2) := dk_58 4 (dk_at dksX1_log_1 1 rfl rfl)
theorem dX1_log_27 : decode cX1_log 27 = .ok (.iload_n 2, 1) := dk_28 (dk_at dksX1_log_1 3 rfl rfl)
theorem dX1_log_28 : decode cX1_log 28 = .ok (.iconst 0, 1) := dk_3 (dk_at dksX1_log_1 4 rfl rfl)
theorem dX1_log_29 : decode cX1_log 29 = .ok (.aload 4, 2) := dk_25 4 (dk_at dksX1_log_1 5 rfl rfl)
theorem dX1_log_31 : decode cX1_log 31 = .ok (.getfield 145, 3) := dk_180 0 145 (dk_at dksX1_log_1 7 rfl rfl)
theorem dX1_log_34 : decode cX1_log 34 = .ok (.iconst 1, 1) := dk_4 (dk_at dksX1_log_1 10 rfl rfl)
theorem dX1_log_35 : decode cX1_log 35 = .ok (.isub, 1) := dk_100 (dk_at dksX1_log_1 11 rfl rfl)
theorem dX1_log_36 : decode cX1_log 36 = .ok (.invokestatic 94, 3) := dk_184 0 94 (dk_at dksX1_log_1 12 rfl rfl)
theorem dX1_log_39 : decode cX1_log 39 = .ok (.invokestatic 251, 3) := dk_184 0 251 (dk_at dksX1_log_1 15 rfl rfl)
theorem dX1_log_42 : decode cX1_log 42 = .ok (.aload 4, 2) := dk_25 4 (dk_at dksX1_log_1 18 rfl rfl)
theorem dX1_log_44 : decode cX1_log 44 = .ok (.getfield 336, 3) := dk_180 1 80 (dk_at dksX1_log_1 20 rfl rfl)
theorem dX1_log_47 : decode cX1_log 47 = .ok (.iload_n 2, 1) := dk_28 (dk_at dksX1_log_1 23 rfl rfl)
theorem dX1_log_48 : decode cX1_log 48 = .ok (.aaload, 1) := dk_50 (dk_at dksX1_log_2 0 rfl rfl)
theorem dX1_log_49 : decode cX1_log 49 = .ok (.iload_n 3, 1) := dk_29 (dk_at dksX1_log_2 1 rfl rfl)
theorem dX1_log_50 : decode cX1_log 50 = .ok (.invokevirtual 340, 3) := dk_182 1 84 (dk_at dksX1_log_2 2 rfl rfl)
theorem dX1_log_53 : decode cX1_log 53 = .ok (.ireturn, 1) := dk_172 (dk_at dksX1_log_2 5 rfl rfl)
abbrev cX1_entries : ByteArray := prog_1_method_45_code
def yX1_entries : MethodName := ⟨RX1, "entries", "(I)I"⟩
def dkwX1_entries_0 : List UInt8 := [27, 3, 8, 184, 0, 94, 184, 0, 106, 42, 180, 0, 10, 27, 182, 1, 88, 172]
abbrev dktX1_entries_0 : List UInt8 := dkwX1_entries_0 ++ []
theorem dksX1_entries_0 : cX1_entries.data.toList.drop 0 = dktX1_entries_0 := by decide +kernel
theorem dX1_entries_0 : decode cX1_entries 0 = .ok (.iload_n 1, 1) := dk_27 (dk_at dksX1_entries_0 0 rfl rfl)
theorem dX1_entries_1 : decode cX1_entries 1 = .ok (.iconst 0, 1) := dk_3 (dk_at dksX1_entries_0 1 rfl rfl)
theorem dX1_entries_2 : decode cX1_entries 2 = .ok (.iconst 5, 1) := dk_8 (dk_at dksX1_entries_0 2 rfl rfl)
theorem dX1_entries_3 : decode cX1_entries 3 = .ok (.invokestatic 94, 3) := dk_184 0 94 (dk_at dksX1_entries_0 3 rfl rfl)
theorem dX1_entries_6 : decode cX1_entries 6 = .ok (.invokestatic 106, 3) := dk_184 0 106 (dk_at dksX1_entries_0 6 rfl rfl)
theorem dX1_entries_9 : decode cX1_entries 9 = .ok (.aload_n 0, 1) := dk_42 (dk_at dksX1_entries_0 9 rfl rfl)
theorem dX1_entries_10 : decode cX1_entries 10 = .ok (.getfield 10, 3) := dk_180 0 10 (dk_at dksX1_entries_0 10 rfl rfl)
theorem dX1_entries_13 : decode cX1_entries 13 = .ok (.iload_n 1, 1) := dk_27 (dk_at dksX1_entries_0 13 rfl rfl)
theorem dX1_entries_14 : decode cX1_entries 14 = .ok (.invokevirtual 344, 3) := dk_182 1 88 (dk_at dksX1_entries_0 14 rfl rfl)
theorem dX1_entries_17 : decode cX1_entries 17 = .ok (.ireturn, 1) := dk_172 (dk_at dksX1_entries_0 17 rfl rfl)
abbrev cX1_append : ByteArray := prog_1_method_46_code
def yX1_append : MethodName := ⟨RX1, "append", "(C)I"⟩
def dkwX1_append_1 : List UInt8 := [27, 182, 1, 96, 87, 42, 180, 0, 26, 182, 1, 91, 172]
abbrev dktX1_append_1 : List UInt8 := dkwX1_append_1 ++ []
def dkwX1_append_0 : List UInt8 := [42, 180, 0, 26, 182, 1, 91, 16, 60, 162, 0, 7, 4, 167, 0, 4, 3, 184, 1, 93, 42, 180, 0, 26]
abbrev dktX1_append_0 : List UInt8 := dkwX1_append_0 ++ dktX1_append_1
theorem dksX1_append_0 : cX1_append.data.toList.drop 0 = dktX1_append_0 := by decide +kernel
theorem dksX1_append_1 : cX1_append.data.toList.drop 24 = dktX1_append_1 := dk_seg dksX1_append_0 24 rfl rfl
theorem dX1_append_0 : decode cX1_append 0 = .ok (.aload_n 0, 1) := dk_42 (dk_at dksX1_append_0 0 rfl rfl)
theorem dX1_append_1 : decode cX1_append 1 = .ok (.getfield 26, 3) := dk_180 0 26 (dk_at dksX1_append_0 1 rfl rfl)
theorem dX1_append_4 : decode cX1_append 4 = .ok (.invokevirtual 347, 3) := dk_182 1 91 (dk_at dksX1_append_0 4 rfl rfl)
theorem dX1_append_7 : decode cX1_append 7 = .ok (.bipush 60, 2) := dk_16 60 (dk_at dksX1_append_0 7 rfl rfl)
theorem dX1_append_9 : decode cX1_append 9 = .ok (.if_icmp .ge 7, 3) := dk_162 0 7 (dk_at dksX1_append_0 9 rfl rfl)
theorem dX1_append_12 : decode cX1_append 12 = .ok (.iconst 1, 1) := dk_4 (dk_at dksX1_append_0 12 rfl rfl)
theorem dX1_append_13 : decode cX1_append 13 = .ok (.goto 4, 3) := dk_167 0 4 (dk_at dksX1_append_0 13 rfl rfl)
theorem dX1_append_16 : decode cX1_append 16 = .ok (.iconst 0, 1) := dk_3 (dk_at dksX1_append_0 16 rfl rfl)
theorem dX1_append_17 : decode cX1_append 17 = .ok (.invokestatic 349, 3) := dk_184 1 93 (dk_at dksX1_append_0 17 rfl rfl)
theorem dX1_append_20 : decode cX1_append 20 = .ok (.aload_n 0, 1) := dk_42 (dk_at dksX1_append_0 20 rfl rfl)
theorem dX1_append_21 : decode cX1_append 21 = .ok (.getfield 26, 3) := dk_180 0 26 (dk_at dksX1_append_0 21 rfl rfl)
theorem dX1_append_24 : decode cX1_append 24 = .ok (.iload_n 1, 1) := dk_27 (dk_at dksX1_append_1 0 rfl rfl)
theorem dX1_append_25 : decode cX1_append 25 = .ok (.invokevirtual 352, 3) := dk_182 1 96 (dk_at dksX1_append_1 1 rfl rfl)
theorem dX1_append_28 : decode cX1_append 28 = .ok (.pop, 1) := dk_87 (dk_at dksX1_append_1 4 rfl rfl)
theorem dX1_append_29 : decode cX1_append 29 = .ok (.aload_n 0, 1) := dk_42 (dk_at dksX1_append_1 5 rfl rfl)
theorem dX1_append_30 : decode cX1_append 30 = .ok (.getfield 26, 3) := dk_180 0 26 (dk_at dksX1_append_1 6 rfl rfl)
theorem dX1_append_33 : decode cX1_append 33 = .ok (.invokevirtual 347, 3) := dk_182 1 91 (dk_at dksX1_append_1 9 rfl rfl)
theorem dX1_append_36 : decode cX1_append 36 = .ok (.ireturn, 1) := dk_172 (dk_at dksX1_append_1 12 rfl rfl)
abbrev cX1_checkState : ByteArray := prog_1_method_5_code
def yX1_checkState : MethodName := ⟨RX1, "checkState", "(Z)V"⟩
def dkwX1_checkState_0 : List UInt8 := [26, 154, 0, 11, 187, 0, 40, 89, 183, 0, 42, 191, 177]
abbrev dktX1_checkState_0 : List UInt8 := dkwX1_checkState_0 ++ []
theorem dksX1_checkState_0 : cX1_checkState.data.toList.drop 0 = dktX1_checkState_0 := by decide +kernel
theorem dX1_checkState_0 : decode cX1_checkState 0 = .ok (.iload_n 0, 1) := dk_26 (dk_at dksX1_checkState_0 0 rfl rfl)
theorem dX1_checkState_1 : decode cX1_checkState 1 = .ok (.ifCond .ne 11, 3) := dk_154 0 11 (dk_at dksX1_checkState_0 1 rfl rfl)
theorem dX1_checkState_4 : decode cX1_checkState 4 = .ok (.new 40, 3) := dk_187 0 40 (dk_at dksX1_checkState_0 4 rfl rfl)
theorem dX1_checkState_7 : decode cX1_checkState 7 = .ok (.dup, 1) := dk_89 (dk_at dksX1_checkState_0 7 rfl rfl)
theorem dX1_checkState_8 : decode cX1_checkState 8 = .ok (.invokespecial 42, 3) := dk_183 0 42 (dk_at dksX1_checkState_0 8 rfl rfl)
theorem dX1_checkState_11 : decode cX1_checkState 11 = .ok (.athrow, 1) := dk_191 (dk_at dksX1_checkState_0 11 rfl rfl)
theorem dX1_checkState_12 : decode cX1_checkState 12 = .ok (.return_, 1) := dk_177 (dk_at dksX1_checkState_0 12 rfl rfl)
abbrev cX1_run : ByteArray := prog_1_method_49_code
def yX1_run : MethodName := ⟨RX1, "run", "()I"⟩
def dkwX1_run_2 : List UInt8 := [182, 0, 90, 191, 42, 180, 0, 10, 78, 42, 44, 181, 0, 10, 42, 45, 43, 182, 0, 201, 182, 0, 84, 172]
abbrev dktX1_run_2 : List UInt8 := dkwX1_run_2 ++ []
def dkwX1_run_1 : List UInt8 := [43, 29, 182, 0, 204, 192, 0, 79, 29, 184, 1, 123, 132, 3, 1, 167, 255, 232, 167, 0, 10, 78, 42, 45]
abbrev dktX1_run_1 : List UInt8 := dkwX1_run_1 ++ dktX1_run_2
def dkwX1_run_0 : List UInt8 := [42, 182, 1, 120, 76, 42, 180, 0, 10, 182, 0, 74, 77, 3, 62, 29, 43, 182, 0, 201, 162, 0, 22, 44]
abbrev dktX1_run_0 : List UInt8 := dkwX1_run_0 ++ dktX1_run_1
theorem dksX1_run_0 : cX1_run.data.toList.drop 0 = dktX1_run_0 := by decide +kernel
theorem dksX1_run_1 : cX1_run.data.toList.drop 24 = dktX1_run_1 := dk_seg dksX1_run_0 24 rfl rfl
theorem dksX1_run_2 : cX1_run.data.toList.drop 48 = dktX1_run_2 := dk_seg dksX1_run_1 24 rfl rfl
theorem dX1_run_0 : decode cX1_run 0 = .ok (.aload_n 0, 1) := dk_42 (dk_at dksX1_run_0 0 rfl rfl)
theorem dX1_run_1 : decode cX1_run 1 = .ok (.invokevirtual 376, 3) := dk_182 1 120 (dk_at dksX1_run_0 1 rfl rfl)
theorem dX1_run_4 : decode cX1_run 4 = .ok (.astore_n 1, 1) := dk_76 (dk_at dksX1_run_0 4 rfl rfl)
theorem dX1_run_5 : decode cX1_run 5 = .ok (.aload_n 0, 1) := dk_42 (dk_at dksX1_run_0 5 rfl rfl)
theorem dX1_run_6 : decode cX1_run 6 = .ok (.getfield 10, 3) := dk_180 0 10 (dk_at dksX1_run_0 6 rfl rfl)
theorem dX1_run_9 : decode cX1_run 9 = .ok (.invokevirtual 74, 3) := dk_182 0 74 (dk_at dksX1_run_0 9 rfl rfl)
theorem dX1_run_12 : decode cX1_run 12 = .ok (.astore_n 2, 1) := dk_77 (dk_at dksX1_run_0 12 rfl rfl)
theorem dX1_run_13 : decode cX1_run 13 = .ok (.iconst 0, 1) := dk_3 (dk_at dksX1_run_0 13 rfl rfl)
theorem dX1_run_14 : decode cX1_run 14 = .ok (.istore_n 3, 1) := dk_62 (dk_at dksX1_run_0 14 rfl rfl)
theorem dX1_run_15 : decode cX1_run 15 = .ok (.iload_n 3, 1) := dk_29 (dk_at dksX1_run_0 15 rfl rfl)
theorem dX1_run_16 : decode cX1_run 16 = .ok (.aload_n 1, 1) := dk_43 (dk_at dksX1_run_0 16 rfl rfl)
theorem dX1_run_17 : decode cX1_run 17 = .ok (.invokevirtual 201, 3) := dk_182 0 201 (dk_at dksX1_run_0 17 rfl rfl)
theorem dX1_run_20 : decode cX1_run 20 = .ok (.if_icmp .ge 22, 3) := dk_162 0 22 (dk_at dksX1_run_0 20 rfl rfl)
theorem dX1_run_23 : decode cX1_run 23 = .ok (.aload_n 2, 1) := dk_44 (dk_at dksX1_run_0 23 rfl rfl)
theorem dX1_run_24 : decode cX1_run 24 = .ok (.aload_n 1, 1) := dk_43 (dk_at dksX1_run_1 0 rfl rfl)
theorem dX1_run_25 : decode cX1_run 25 = .ok (.iload_n 3, 1) := dk_29 (dk_at dksX1_run_1 1 rfl rfl)
theorem dX1_run_26 : decode cX1_run 26 = .ok (.invokevirtual 204, 3) := dk_182 0 204 (dk_at dksX1_run_1 2 rfl rfl)
theorem dX1_run_29 : decode cX1_run 29 = .ok (.checkcast 79, 3) := dk_192 0 79 (dk_at dksX1_run_1 5 rfl rfl)
theorem dX1_run_32 : decode cX1_run 32 = .ok (.iload_n 3, 1) := dk_29 (dk_at dksX1_run_1 8 rfl rfl)
theorem dX1_run_33 : decode cX1_run 33 = .ok (.invokestatic 379, 3) := dk_184 1 123 (dk_at dksX1_run_1 9 rfl rfl)
theorem dX1_run_36 : decode cX1_run 36 = .ok (.iinc 3 1, 3) := dk_132 3 1 (dk_at dksX1_run_1 12 rfl rfl)
theorem dX1_run_39 : decode cX1_run 39 = .ok (.goto (-24), 3) := dk_167 255 232 (dk_at dksX1_run_1 15 rfl rfl)
theorem dX1_run_42 : decode cX1_run 42 = .ok (.goto 10, 3) := dk_167 0 10 (dk_at dksX1_run_1 18 rfl rfl)
theorem dX1_run_45 : decode cX1_run 45 = .ok (.astore_n 3, 1) := dk_78 (dk_at dksX1_run_1 21 rfl rfl)
theorem dX1_run_46 : decode cX1_run 46 = .ok (.aload_n 0, 1) := dk_42 (dk_at dksX1_run_1 22 rfl rfl)
theorem dX1_run_47 : decode cX1_run 47 = .ok (.aload_n 3, 1) := dk_45 (dk_at dksX1_run_1 23 rfl rfl)
theorem dX1_run_48 : decode cX1_run 48 = .ok (.invokevirtual 90, 3) := dk_182 0 90 (dk_at dksX1_run_2 0 rfl rfl)
theorem dX1_run_51 : decode cX1_run 51 = .ok (.athrow, 1) := dk_191 (dk_at dksX1_run_2 3 rfl rfl)
theorem dX1_run_52 : decode cX1_run 52 = .ok (.aload_n 0, 1) := dk_42 (dk_at dksX1_run_2 4 rfl rfl)
theorem dX1_run_53 : decode cX1_run 53 = .ok (.getfield 10, 3) := dk_180 0 10 (dk_at dksX1_run_2 5 rfl rfl)
theorem dX1_run_56 : decode cX1_run 56 = .ok (.astore_n 3, 1) := dk_78 (dk_at dksX1_run_2 8 rfl rfl)
theorem dX1_run_57 : decode cX1_run 57 = .ok (.aload_n 0, 1) := dk_42 (dk_at dksX1_run_2 9 rfl rfl)
theorem dX1_run_58 : decode cX1_run 58 = .ok (.aload_n 2, 1) := dk_44 (dk_at dksX1_run_2 10 rfl rfl)
theorem dX1_run_59 : decode cX1_run 59 = .ok (.putfield 10, 3) := dk_181 0 10 (dk_at dksX1_run_2 11 rfl rfl)
theorem dX1_run_62 : decode cX1_run 62 = .ok (.aload_n 0, 1) := dk_42 (dk_at dksX1_run_2 14 rfl rfl)
theorem dX1_run_63 : decode cX1_run 63 = .ok (.aload_n 3, 1) := dk_45 (dk_at dksX1_run_2 15 rfl rfl)
theorem dX1_run_64 : decode cX1_run 64 = .ok (.aload_n 1, 1) := dk_43 (dk_at dksX1_run_2 16 rfl rfl)
theorem dX1_run_65 : decode cX1_run 65 = .ok (.invokevirtual 201, 3) := dk_182 0 201 (dk_at dksX1_run_2 17 rfl rfl)
theorem dX1_run_68 : decode cX1_run 68 = .ok (.invokevirtual 84, 3) := dk_182 0 84 (dk_at dksX1_run_2 20 rfl rfl)
theorem dX1_run_71 : decode cX1_run 71 = .ok (.ireturn, 1) := dk_172 (dk_at dksX1_run_2 23 rfl rfl)
abbrev cX1_read : ByteArray := prog_1_method_47_code
def yX1_read : MethodName := ⟨RX1, "read", "()Ljava/util/ArrayList;"⟩
def dkwX1_read_2 : List UInt8 := [3, 182, 1, 109, 44, 191]
abbrev dktX1_read_2 : List UInt8 := dkwX1_read_2 ++ []
def dkwX1_read_1 : List UInt8 := [43, 176, 76, 42, 43, 180, 1, 114, 181, 0, 30, 187, 0, 37, 89, 183, 0, 39, 191, 77, 42, 180, 0, 26]
abbrev dktX1_read_1 : List UInt8 := dkwX1_read_1 ++ dktX1_read_2
def dkwX1_read_0 : List UInt8 := [187, 1, 100, 89, 42, 42, 180, 0, 26, 183, 1, 102, 182, 1, 105, 76, 42, 180, 0, 26, 3, 182, 1, 109]
abbrev dktX1_read_0 : List UInt8 := dkwX1_read_0 ++ dktX1_read_1
theorem dksX1_read_0 : cX1_read.data.toList.drop 0 = dktX1_read_0 := by decide +kernel
theorem dksX1_read_1 : cX1_read.data.toList.drop 24 = dktX1_read_1 := dk_seg dksX1_read_0 24 rfl rfl
theorem dksX1_read_2 : cX1_read.data.toList.drop 48 = dktX1_read_2 := dk_seg dksX1_read_1 24 rfl rfl
theorem dX1_read_0 : decode cX1_read 0 = .ok (.new 356, 3) := dk_187 1 100 (dk_at dksX1_read_0 0 rfl rfl)
theorem dX1_read_3 : decode cX1_read 3 = .ok (.dup, 1) := dk_89 (dk_at dksX1_read_0 3 rfl rfl)
theorem dX1_read_4 : decode cX1_read 4 = .ok (.aload_n 0, 1) := dk_42 (dk_at dksX1_read_0 4 rfl rfl)
theorem dX1_read_5 : decode cX1_read 5 = .ok (.aload_n 0, 1) := dk_42 (dk_at dksX1_read_0 5 rfl rfl)
theorem dX1_read_6 : decode cX1_read 6 = .ok (.getfield 26, 3) := dk_180 0 26 (dk_at dksX1_read_0 6 rfl rfl)
theorem dX1_read_9 : decode cX1_read 9 = .ok (.invokespecial 358, 3) := dk_183 1 102 (dk_at dksX1_read_0 9 rfl rfl)
theorem dX1_read_12 : decode cX1_read 12 = .ok (.invokevirtual 361, 3) := dk_182 1 105 (dk_at dksX1_read_0 12 rfl rfl)
theorem dX1_read_15 : decode cX1_read 15 = .ok (.astore_n 1, 1) := dk_76 (dk_at dksX1_read_0 15 rfl rfl)
theorem dX1_read_16 : decode cX1_read 16 = .ok (.aload_n 0, 1) := dk_42 (dk_at dksX1_read_0 16 rfl rfl)
theorem dX1_read_17 : decode cX1_read 17 = .ok (.getfield 26, 3) := dk_180 0 26 (dk_at dksX1_read_0 17 rfl rfl)
theorem dX1_read_20 : decode cX1_read 20 = .ok (.iconst 0, 1) := dk_3 (dk_at dksX1_read_0 20 rfl rfl)
theorem dX1_read_21 : decode cX1_read 21 = .ok (.invokevirtual 365, 3) := dk_182 1 109 (dk_at dksX1_read_0 21 rfl rfl)
theorem dX1_read_24 : decode cX1_read 24 = .ok (.aload_n 1, 1) := dk_43 (dk_at dksX1_read_1 0 rfl rfl)
theorem dX1_read_25 : decode cX1_read 25 = .ok (.areturn, 1) := dk_176 (dk_at dksX1_read_1 1 rfl rfl)
theorem dX1_read_26 : decode cX1_read 26 = .ok (.astore_n 1, 1) := dk_76 (dk_at dksX1_read_1 2 rfl rfl)
theorem dX1_read_27 : decode cX1_read 27 = .ok (.aload_n 0, 1) := dk_42 (dk_at dksX1_read_1 3 rfl rfl)
theorem dX1_read_28 : decode cX1_read 28 = .ok (.aload_n 1, 1) := dk_43 (dk_at dksX1_read_1 4 rfl rfl)
theorem dX1_read_29 : decode cX1_read 29 = .ok (.getfield 370, 3) := dk_180 1 114 (dk_at dksX1_read_1 5 rfl rfl)
theorem dX1_read_32 : decode cX1_read 32 = .ok (.putfield 30, 3) := dk_181 0 30 (dk_at dksX1_read_1 8 rfl rfl)
theorem dX1_read_35 : decode cX1_read 35 = .ok (.new 37, 3) := dk_187 0 37 (dk_at dksX1_read_1 11 rfl rfl)
theorem dX1_read_38 : decode cX1_read 38 = .ok (.dup, 1) := dk_89 (dk_at dksX1_read_1 14 rfl rfl)
theorem dX1_read_39 : decode cX1_read 39 = .ok (.invokespecial 39, 3) := dk_183 0 39 (dk_at dksX1_read_1 15 rfl rfl)
theorem dX1_read_42 : decode cX1_read 42 = .ok (.athrow, 1) := dk_191 (dk_at dksX1_read_1 18 rfl rfl)
theorem dX1_read_43 : decode cX1_read 43 = .ok (.astore_n 2, 1) := dk_77 (dk_at dksX1_read_1 19 rfl rfl)
theorem dX1_read_44 : decode cX1_read 44 = .ok (.aload_n 0, 1) := dk_42 (dk_at dksX1_read_1 20 rfl rfl)
theorem dX1_read_45 : decode cX1_read 45 = .ok (.getfield 26, 3) := dk_180 0 26 (dk_at dksX1_read_1 21 rfl rfl)
theorem dX1_read_48 : decode cX1_read 48 = .ok (.iconst 0, 1) := dk_3 (dk_at dksX1_read_2 0 rfl rfl)
theorem dX1_read_49 : decode cX1_read 49 = .ok (.invokevirtual 365, 3) := dk_182 1 109 (dk_at dksX1_read_2 1 rfl rfl)
theorem dX1_read_52 : decode cX1_read 52 = .ok (.aload_n 2, 1) := dk_44 (dk_at dksX1_read_2 4 rfl rfl)
theorem dX1_read_53 : decode cX1_read 53 = .ok (.athrow, 1) := dk_191 (dk_at dksX1_read_2 5 rfl rfl)
abbrev cX1_does : ByteArray := prog_1_method_48_code
def yX1_does : MethodName := ⟨RX1, "does", "(LStaffRailway$Line;LStaffRailway$Deed;I)V"⟩
def dkwX1_does_1 : List UInt8 := [177]
abbrev dktX1_does_1 : List UInt8 := dkwX1_does_1 ++ []
def dkwX1_does_0 : List UInt8 := [43, 42, 185, 0, 78, 2, 0, 62, 167, 0, 16, 78, 187, 0, 46, 89, 16, 18, 28, 45, 183, 1, 117, 191]
abbrev dktX1_does_0 : List UInt8 := dkwX1_does_0 ++ dktX1_does_1
theorem dksX1_does_0 : cX1_does.data.toList.drop 0 = dktX1_does_0 := by decide +kernel
theorem dksX1_does_1 : cX1_does.data.toList.drop 24 = dktX1_does_1 := dk_seg dksX1_does_0 24 rfl rfl
theorem dX1_does_0 : decode cX1_does 0 = .ok (.aload_n 1, 1) := dk_43 (dk_at dksX1_does_0 0 rfl rfl)
theorem dX1_does_1 : decode cX1_does 1 = .ok (.aload_n 0, 1) := dk_42 (dk_at dksX1_does_0 1 rfl rfl)
theorem dX1_does_2 : decode cX1_does 2 = .ok (.invokeinterface 78 2, 5) := by decide +kernel
theorem dX1_does_7 : decode cX1_does 7 = .ok (.istore_n 3, 1) := dk_62 (dk_at dksX1_does_0 7 rfl rfl)
theorem dX1_does_8 : decode cX1_does 8 = .ok (.goto 16, 3) := dk_167 0 16 (dk_at dksX1_does_0 8 rfl rfl)
theorem dX1_does_11 : decode cX1_does 11 = .ok (.astore_n 3, 1) := dk_78 (dk_at dksX1_does_0 11 rfl rfl)
theorem dX1_does_12 : decode cX1_does 12 = .ok (.new 46, 3) := dk_187 0 46 (dk_at dksX1_does_0 12 rfl rfl)
theorem dX1_does_15 : decode cX1_does 15 = .ok (.dup, 1) := dk_89 (dk_at dksX1_does_0 15 rfl rfl)
theorem dX1_does_16 : decode cX1_does 16 = .ok (.bipush 18, 2) := dk_16 18 (dk_at dksX1_does_0 16 rfl rfl)
theorem dX1_does_18 : decode cX1_does 18 = .ok (.iload_n 2, 1) := dk_28 (dk_at dksX1_does_0 18 rfl rfl)
theorem dX1_does_19 : decode cX1_does 19 = .ok (.aload_n 3, 1) := dk_45 (dk_at dksX1_does_0 19 rfl rfl)
theorem dX1_does_20 : decode cX1_does 20 = .ok (.invokespecial 373, 3) := dk_183 1 117 (dk_at dksX1_does_0 20 rfl rfl)
theorem dX1_does_23 : decode cX1_does 23 = .ok (.athrow, 1) := dk_191 (dk_at dksX1_does_0 23 rfl rfl)
theorem dX1_does_24 : decode cX1_does 24 = .ok (.return_, 1) := dk_177 (dk_at dksX1_does_1 0 rfl rfl)
abbrev cX1_fault : ByteArray := prog_1_method_50_code
def yX1_fault : MethodName := ⟨RX1, "fault", "()I"⟩
def dkwX1_fault_0 : List UInt8 := [42, 180, 0, 30, 2, 159, 0, 7, 4, 167, 0, 4, 3, 184, 0, 251, 42, 180, 0, 30, 172]
abbrev dktX1_fault_0 : List UInt8 := dkwX1_fault_0 ++ []
theorem dksX1_fault_0 : cX1_fault.data.toList.drop 0 = dktX1_fault_0 := by decide +kernel
theorem dX1_fault_0 : decode cX1_fault 0 = .ok (.aload_n 0, 1) := dk_42 (dk_at dksX1_fault_0 0 rfl rfl)
theorem dX1_fault_1 : decode cX1_fault 1 = .ok (.getfield 30, 3) := dk_180 0 30 (dk_at dksX1_fault_0 1 rfl rfl)
theorem dX1_fault_4 : decode cX1_fault 4 = .ok (.iconst (-1), 1) := dk_2 (dk_at dksX1_fault_0 4 rfl rfl)
theorem dX1_fault_5 : decode cX1_fault 5 = .ok (.if_icmp .eq 7, 3) := dk_159 0 7 (dk_at dksX1_fault_0 5 rfl rfl)
theorem dX1_fault_8 : decode cX1_fault 8 = .ok (.iconst 1, 1) := dk_4 (dk_at dksX1_fault_0 8 rfl rfl)
theorem dX1_fault_9 : decode cX1_fault 9 = .ok (.goto 4, 3) := dk_167 0 4 (dk_at dksX1_fault_0 9 rfl rfl)
theorem dX1_fault_12 : decode cX1_fault 12 = .ok (.iconst 0, 1) := dk_3 (dk_at dksX1_fault_0 12 rfl rfl)
theorem dX1_fault_13 : decode cX1_fault 13 = .ok (.invokestatic 251, 3) := dk_184 0 251 (dk_at dksX1_fault_0 13 rfl rfl)
theorem dX1_fault_16 : decode cX1_fault 16 = .ok (.aload_n 0, 1) := dk_42 (dk_at dksX1_fault_0 16 rfl rfl)
theorem dX1_fault_17 : decode cX1_fault 17 = .ok (.getfield 30, 3) := dk_180 0 30 (dk_at dksX1_fault_0 17 rfl rfl)
theorem dX1_fault_20 : decode cX1_fault 20 = .ok (.ireturn, 1) := dk_172 (dk_at dksX1_fault_0 20 rfl rfl)
abbrev cX1_reason : ByteArray := prog_1_method_51_code
def yX1_reason : MethodName := ⟨RX1, "reason", "(IZ)I"⟩
def dkwX1_reason_0 : List UInt8 := [27, 155, 0, 7, 4, 167, 0, 4, 3, 184, 0, 106, 42, 180, 0, 51, 27, 28, 184, 1, 4, 172]
abbrev dktX1_reason_0 : List UInt8 := dkwX1_reason_0 ++ []
theorem dksX1_reason_0 : cX1_reason.data.toList.drop 0 = dktX1_reason_0 := by decide +kernel
theorem dX1_reason_0 : decode cX1_reason 0 = .ok (.iload_n 1, 1) := dk_27 (dk_at dksX1_reason_0 0 rfl rfl)
theorem dX1_reason_1 : decode cX1_reason 1 = .ok (.ifCond .lt 7, 3) := dk_155 0 7 (dk_at dksX1_reason_0 1 rfl rfl)
theorem dX1_reason_4 : decode cX1_reason 4 = .ok (.iconst 1, 1) := dk_4 (dk_at dksX1_reason_0 4 rfl rfl)
theorem dX1_reason_5 : decode cX1_reason 5 = .ok (.goto 4, 3) := dk_167 0 4 (dk_at dksX1_reason_0 5 rfl rfl)
theorem dX1_reason_8 : decode cX1_reason 8 = .ok (.iconst 0, 1) := dk_3 (dk_at dksX1_reason_0 8 rfl rfl)
theorem dX1_reason_9 : decode cX1_reason 9 = .ok (.invokestatic 106, 3) := dk_184 0 106 (dk_at dksX1_reason_0 9 rfl rfl)
theorem dX1_reason_12 : decode cX1_reason 12 = .ok (.aload_n 0, 1) := dk_42 (dk_at dksX1_reason_0 12 rfl rfl)
theorem dX1_reason_13 : decode cX1_reason 13 = .ok (.getfield 51, 3) := dk_180 0 51 (dk_at dksX1_reason_0 13 rfl rfl)
theorem dX1_reason_16 : decode cX1_reason 16 = .ok (.iload_n 1, 1) := dk_27 (dk_at dksX1_reason_0 16 rfl rfl)
theorem dX1_reason_17 : decode cX1_reason 17 = .ok (.iload_n 2, 1) := dk_28 (dk_at dksX1_reason_0 17 rfl rfl)
theorem dX1_reason_18 : decode cX1_reason 18 = .ok (.invokestatic 260, 3) := dk_184 1 4 (dk_at dksX1_reason_0 18 rfl rfl)
theorem dX1_reason_21 : decode cX1_reason 21 = .ok (.ireturn, 1) := dk_172 (dk_at dksX1_reason_0 21 rfl rfl)
abbrev cX1_account : ByteArray := prog_1_method_53_code
def yX1_account : MethodName := ⟨RX1, "account", "(I)I"⟩
def dkwX1_account_8 : List UInt8 := [180, 1, 156, 167, 0, 20, 42, 180, 0, 26, 182, 1, 91, 167, 0, 10, 42, 180, 0, 19, 182, 0, 66, 172]
abbrev dktX1_account_8 : List UInt8 := dkwX1_account_8 ++ []
def dkwX1_account_7 : List UInt8 := [42, 180, 0, 10, 180, 1, 150, 167, 0, 40, 42, 180, 0, 10, 180, 1, 153, 167, 0, 30, 42, 180, 0, 10]
abbrev dktX1_account_7 : List UInt8 := dkwX1_account_7 ++ dktX1_account_8
def dkwX1_account_6 : List UInt8 := [180, 0, 10, 186, 1, 146, 0, 0, 182, 1, 139, 167, 0, 60, 42, 180, 0, 10, 180, 1, 147, 167, 0, 50]
abbrev dktX1_account_6 : List UInt8 := dkwX1_account_6 ++ dktX1_account_7
def dkwX1_account_5 : List UInt8 := [180, 0, 10, 186, 1, 135, 0, 0, 182, 1, 139, 167, 0, 82, 42, 182, 1, 143, 167, 0, 75, 42]
abbrev dktX1_account_5 : List UInt8 := dkwX1_account_5 ++ dktX1_account_6
def dkwX1_account_4 : List UInt8 := [182, 0, 201, 167, 0, 112, 42, 180, 0, 10, 186, 1, 132, 0, 0, 182, 0, 137, 167, 0, 97, 42]
abbrev dktX1_account_4 : List UInt8 := dkwX1_account_4 ++ dktX1_account_5
def dkwX1_account_3 : List UInt8 := [182, 1, 76, 167, 0, 135, 42, 180, 0, 10, 182, 1, 130, 167, 0, 125, 42, 180, 0, 10, 180, 0, 239]
abbrev dktX1_account_3 : List UInt8 := dkwX1_account_3 ++ dktX1_account_4
def dkwX1_account_2 : List UInt8 := [42, 180, 0, 10, 180, 0, 197, 182, 0, 201, 167, 0, 150, 42, 180, 0, 10, 186, 1, 129, 0, 0]
abbrev dktX1_account_2 : List UInt8 := dkwX1_account_2 ++ dktX1_account_3
def dkwX1_account_1 : List UInt8 := [170, 0, 0, 0, 218, 0, 0, 0, 0, 0, 0, 0, 12, 0, 0, 0, 65, 0, 0, 0, 78, 0, 0, 0, 93, 0, 0, 0, 103, 0, 0, 0, 116, 0, 0, 0, 131, 0, 0, 0, 146, 0, 0, 0, 153, 0, 0, 0, 168, 0, 0, 0, 178, 0, 0, 0, 188, 0, 0, 0, 198, 0, 0, 0, 208]
abbrev dktX1_account_1 : List UInt8 := dkwX1_account_1 ++ dktX1_account_2
def dkwX1_account_0 : List UInt8 := [27, 3, 16, 13, 184, 0, 94, 184, 0, 106, 27]
abbrev dktX1_account_0 : List UInt8 := dkwX1_account_0 ++ dktX1_account_1
theorem dksX1_account_0 : cX1_account.data.toList.drop 0 = dktX1_account_0 := by decide +kernel
theorem dksX1_account_1 : cX1_account.data.toList.drop 11 = dktX1_account_1 := dk_seg dksX1_account_0 11 rfl rfl
theorem dksX1_account_2 : cX1_account.data.toList.drop 76 = dktX1_account_2 := dk_seg dksX1_account_1 65 rfl rfl
theorem dksX1_account_3 : cX1_account.data.toList.drop 98 = dktX1_account_3 := dk_seg dksX1_account_2 22 rfl rfl
theorem dksX1_account_4 : cX1_account.data.toList.drop 121 = dktX1_account_4 := dk_seg dksX1_account_3 23 rfl rfl
theorem dksX1_account_5 : cX1_account.data.toList.drop 143 = dktX1_account_5 := dk_seg dksX1_account_4 22 rfl rfl
theorem dksX1_account_6 : cX1_account.data.toList.drop 165 = dktX1_account_6 := dk_seg dksX1_account_5 22 rfl rfl
theorem dksX1_account_7 : cX1_account.data.toList.drop 189 = dktX1_account_7 := dk_seg dksX1_account_6 24 rfl rfl
theorem dksX1_account_8 : cX1_account.data.toList.drop 213 = dktX1_account_8 := dk_seg dksX1_account_7 24 rfl rfl
theorem dX1_account_0 : decode cX1_account 0 = .ok (.iload_n 1, 1) := dk_27 (dk_at dksX1_account_0 0 rfl rfl)
theorem dX1_account_1 : decode cX1_account 1 = .ok (.iconst 0, 1) := dk_3 (dk_at dksX1_account_0 1 rfl rfl)
theorem dX1_account_2 : decode cX1_account 2 = .ok (.bipush 13, 2) := dk_16 13 (dk_at dksX1_account_0 2 rfl rfl)
theorem dX1_account_4 : decode cX1_account 4 = .ok (.invokestatic 94, 3) := dk_184 0 94 (dk_at dksX1_account_0 4 rfl rfl)
theorem dX1_account_7 : decode cX1_account 7 = .ok (.invokestatic 106, 3) := dk_184 0 106 (dk_at dksX1_account_0 7 rfl rfl)
theorem dX1_account_10 : decode cX1_account 10 = .ok (.iload_n 1, 1) := dk_27 (dk_at dksX1_account_0 10 rfl rfl)
theorem dX1_account_11 : decode cX1_account 11 = .ok (.tableswitch 218 0 12 #[65, 78, 93, 103, 116, 131, 146, 153, 168, 178, 188, 198, 208], 65) := by decide +kernel
theorem dX1_account_76 : decode cX1_account 76 = .ok (.aload_n 0, 1) := dk_42 (dk_at dksX1_account_2 0 rfl rfl)
theorem dX1_account_77 : decode cX1_account 77 = .ok (.getfield 10, 3) := dk_180 0 10 (dk_at dksX1_account_2 1 rfl rfl)
theorem dX1_account_80 : decode cX1_account 80 = .ok (.getfield 197, 3) := dk_180 0 197 (dk_at dksX1_account_2 4 rfl rfl)
theorem dX1_account_83 : decode cX1_account 83 = .ok (.invokevirtual 201, 3) := dk_182 0 201 (dk_at dksX1_account_2 7 rfl rfl)
theorem dX1_account_86 : decode cX1_account 86 = .ok (.goto 150, 3) := dk_167 0 150 (dk_at dksX1_account_2 10 rfl rfl)
theorem dX1_account_89 : decode cX1_account 89 = .ok (.aload_n 0, 1) := dk_42 (dk_at dksX1_account_2 13 rfl rfl)
theorem dX1_account_90 : decode cX1_account 90 = .ok (.getfield 10, 3) := dk_180 0 10 (dk_at dksX1_account_2 14 rfl rfl)
theorem dX1_account_93 : decode cX1_account 93 = .ok (.invokedynamic 385, 5) := by decide +kernel
theorem dX1_account_98 : decode cX1_account 98 = .ok (.invokevirtual 332, 3) := dk_182 1 76 (dk_at dksX1_account_3 0 rfl rfl)
theorem dX1_account_101 : decode cX1_account 101 = .ok (.goto 135, 3) := dk_167 0 135 (dk_at dksX1_account_3 3 rfl rfl)
theorem dX1_account_104 : decode cX1_account 104 = .ok (.aload_n 0, 1) := dk_42 (dk_at dksX1_account_3 6 rfl rfl)
theorem dX1_account_105 : decode cX1_account 105 = .ok (.getfield 10, 3) := dk_180 0 10 (dk_at dksX1_account_3 7 rfl rfl)
theorem dX1_account_108 : decode cX1_account 108 = .ok (.invokevirtual 386, 3) := dk_182 1 130 (dk_at dksX1_account_3 10 rfl rfl)
theorem dX1_account_111 : decode cX1_account 111 = .ok (.goto 125, 3) := dk_167 0 125 (dk_at dksX1_account_3 13 rfl rfl)
theorem dX1_account_114 : decode cX1_account 114 = .ok (.aload_n 0, 1) := dk_42 (dk_at dksX1_account_3 16 rfl rfl)
theorem dX1_account_115 : decode cX1_account 115 = .ok (.getfield 10, 3) := dk_180 0 10 (dk_at dksX1_account_3 17 rfl rfl)
theorem dX1_account_118 : decode cX1_account 118 = .ok (.getfield 239, 3) := dk_180 0 239 (dk_at dksX1_account_3 20 rfl rfl)
theorem dX1_account_121 : decode cX1_account 121 = .ok (.invokevirtual 201, 3) := dk_182 0 201 (dk_at dksX1_account_4 0 rfl rfl)
theorem dX1_account_124 : decode cX1_account 124 = .ok (.goto 112, 3) := dk_167 0 112 (dk_at dksX1_account_4 3 rfl rfl)
theorem dX1_account_127 : decode cX1_account 127 = .ok (.aload_n 0, 1) := dk_42 (dk_at dksX1_account_4 6 rfl rfl)
theorem dX1_account_128 : decode cX1_account 128 = .ok (.getfield 10, 3) := dk_180 0 10 (dk_at dksX1_account_4 7 rfl rfl)
theorem dX1_account_131 : decode cX1_account 131 = .ok (.invokedynamic 388, 5) := by decide +kernel
theorem dX1_account_136 : decode cX1_account 136 = .ok (.invokevirtual 137, 3) := dk_182 0 137 (dk_at dksX1_account_4 15 rfl rfl)
theorem dX1_account_139 : decode cX1_account 139 = .ok (.goto 97, 3) := dk_167 0 97 (dk_at dksX1_account_4 18 rfl rfl)
theorem dX1_account_142 : decode cX1_account 142 = .ok (.aload_n 0, 1) := dk_42 (dk_at dksX1_account_4 21 rfl rfl)
theorem dX1_account_143 : decode cX1_account 143 = .ok (.getfield 10, 3) := dk_180 0 10 (dk_at dksX1_account_5 0 rfl rfl)
theorem dX1_account_146 : decode cX1_account 146 = .ok (.invokedynamic 391, 5) := by decide +kernel
theorem dX1_account_151 : decode cX1_account 151 = .ok (.invokevirtual 395, 3) := dk_182 1 139 (dk_at dksX1_account_5 8 rfl rfl)
theorem dX1_account_154 : decode cX1_account 154 = .ok (.goto 82, 3) := dk_167 0 82 (dk_at dksX1_account_5 11 rfl rfl)
theorem dX1_account_157 : decode cX1_account 157 = .ok (.aload_n 0, 1) := dk_42 (dk_at dksX1_account_5 14 rfl rfl)
theorem dX1_account_158 : decode cX1_account 158 = .ok (.invokevirtual 399, 3) := dk_182 1 143 (dk_at dksX1_account_5 15 rfl rfl)
theorem dX1_account_161 : decode cX1_account 161 = .ok (.goto 75, 3) := dk_167 0 75 (dk_at dksX1_account_5 18 rfl rfl)
theorem dX1_account_164 : decode cX1_account 164 = .ok (.aload_n 0, 1) := dk_42 (dk_at dksX1_account_5 21 rfl rfl)
theorem dX1_account_165 : decode cX1_account 165 = .ok (.getfield 10, 3) := dk_180 0 10 (dk_at dksX1_account_6 0 rfl rfl)
theorem dX1_account_168 : decode cX1_account 168 = .ok (.invokedynamic 402, 5) := by decide +kernel
theorem dX1_account_173 : decode cX1_account 173 = .ok (.invokevirtual 395, 3) := dk_182 1 139 (dk_at dksX1_account_6 8 rfl rfl)
theorem dX1_account_176 : decode cX1_account 176 = .ok (.goto 60, 3) := dk_167 0 60 (dk_at dksX1_account_6 11 rfl rfl)
theorem dX1_account_179 : decode cX1_account 179 = .ok (.aload_n 0, 1) := dk_42 (dk_at dksX1_account_6 14 rfl rfl)
theorem dX1_account_180 : decode cX1_account 180 = .ok (.getfield 10, 3) := dk_180 0 10 (dk_at dksX1_account_6 15 rfl rfl)
theorem dX1_account_183 : decode cX1_account 183 = .ok (.getfield 403, 3) := dk_180 1 147 (dk_at dksX1_account_6 18 rfl rfl)
theorem dX1_account_186 : decode cX1_account 186 = .ok (.goto 50, 3) := dk_167 0 50 (dk_at dksX1_account_6 21 rfl rfl)
theorem dX1_account_189 : decode cX1_account 189 = .ok (.aload_n 0, 1) := dk_42 (dk_at dksX1_account_7 0 rfl rfl)
theorem dX1_account_190 : decode cX1_account 190 = .ok (.getfield 10, 3) := dk_180 0 10 (dk_at dksX1_account_7 1 rfl rfl)
theorem dX1_account_193 : decode cX1_account 193 = .ok (.getfield 406, 3) := dk_180 1 150 (dk_at dksX1_account_7 4 rfl rfl)
theorem dX1_account_196 : decode cX1_account 196 = .ok (.goto 40, 3) := dk_167 0 40 (dk_at dksX1_account_7 7 rfl rfl)
theorem dX1_account_199 : decode cX1_account 199 = .ok (.aload_n 0, 1) := dk_42 (dk_at dksX1_account_7 10 rfl rfl)
theorem dX1_account_200 : decode cX1_account 200 = .ok (.getfield 10, 3) := dk_180 0 10 (dk_at dksX1_account_7 11 rfl rfl)
theorem dX1_account_203 : decode cX1_account 203 = .ok (.getfield 409, 3) := dk_180 1 153 (dk_at dksX1_account_7 14 rfl rfl)
theorem dX1_account_206 : decode cX1_account 206 = .ok (.goto 30, 3) := dk_167 0 30 (dk_at dksX1_account_7 17 rfl rfl)
theorem dX1_account_209 : decode cX1_account 209 = .ok (.aload_n 0, 1) := dk_42 (dk_at dksX1_account_7 20 rfl rfl)
theorem dX1_account_210 : decode cX1_account 210 = .ok (.getfield 10, 3) := dk_180 0 10 (dk_at dksX1_account_7 21 rfl rfl)
theorem dX1_account_213 : decode cX1_account 213 = .ok (.getfield 412, 3) := dk_180 1 156 (dk_at dksX1_account_8 0 rfl rfl)
theorem dX1_account_216 : decode cX1_account 216 = .ok (.goto 20, 3) := dk_167 0 20 (dk_at dksX1_account_8 3 rfl rfl)
theorem dX1_account_219 : decode cX1_account 219 = .ok (.aload_n 0, 1) := dk_42 (dk_at dksX1_account_8 6 rfl rfl)
theorem dX1_account_220 : decode cX1_account 220 = .ok (.getfield 26, 3) := dk_180 0 26 (dk_at dksX1_account_8 7 rfl rfl)
theorem dX1_account_223 : decode cX1_account 223 = .ok (.invokevirtual 347, 3) := dk_182 1 91 (dk_at dksX1_account_8 10 rfl rfl)
theorem dX1_account_226 : decode cX1_account 226 = .ok (.goto 10, 3) := dk_167 0 10 (dk_at dksX1_account_8 13 rfl rfl)
theorem dX1_account_229 : decode cX1_account 229 = .ok (.aload_n 0, 1) := dk_42 (dk_at dksX1_account_8 16 rfl rfl)
theorem dX1_account_230 : decode cX1_account 230 = .ok (.getfield 19, 3) := dk_180 0 19 (dk_at dksX1_account_8 17 rfl rfl)
theorem dX1_account_233 : decode cX1_account 233 = .ok (.invokevirtual 66, 3) := dk_182 0 66 (dk_at dksX1_account_8 20 rfl rfl)
theorem dX1_account_236 : decode cX1_account 236 = .ok (.ireturn, 1) := dk_172 (dk_at dksX1_account_8 23 rfl rfl)
abbrev cX1_lambda_account_15 : ByteArray := prog_1_method_62_code
def yX1_lambda_account_15 : MethodName := ⟨RX1, "lambda$account$15", "(LStaffRailway$Train;)Z"⟩
theorem dX1_lambda_account_15_0 : decode cX1_lambda_account_15 0 = .ok (.aload_n 0, 1) := by decide +kernel
theorem dX1_lambda_account_15_1 : decode cX1_lambda_account_15 1 = .ok (.invokevirtual 323, 3) := by decide +kernel
theorem dX1_lambda_account_15_4 : decode cX1_lambda_account_15 4 = .ok (.ireturn, 1) := by decide +kernel
abbrev cX1_lambda_account_16 : ByteArray := prog_1_method_61_code
def yX1_lambda_account_16 : MethodName := ⟨RX1, "lambda$account$16", "(LStaffRailway$Pilotman;)Z"⟩
def dkwX1_lambda_account_16_0 : List UInt8 := [42, 182, 1, 176, 154, 0, 7, 4, 167, 0, 4, 3, 172]
abbrev dktX1_lambda_account_16_0 : List UInt8 := dkwX1_lambda_account_16_0 ++ []
theorem dksX1_lambda_account_16_0 : cX1_lambda_account_16.data.toList.drop 0 = dktX1_lambda_account_16_0 := by decide +kernel
theorem dX1_lambda_account_16_0 : decode cX1_lambda_account_16 0 = .ok (.aload_n 0, 1) := dk_42 (dk_at dksX1_lambda_account_16_0 0 rfl rfl)
theorem dX1_lambda_account_16_1 : decode cX1_lambda_account_16 1 = .ok (.invokevirtual 432, 3) := dk_182 1 176 (dk_at dksX1_lambda_account_16_0 1 rfl rfl)
theorem dX1_lambda_account_16_4 : decode cX1_lambda_account_16 4 = .ok (.ifCond .ne 7, 3) := dk_154 0 7 (dk_at dksX1_lambda_account_16_0 4 rfl rfl)
theorem dX1_lambda_account_16_7 : decode cX1_lambda_account_16 7 = .ok (.iconst 1, 1) := dk_4 (dk_at dksX1_lambda_account_16_0 7 rfl rfl)
theorem dX1_lambda_account_16_8 : decode cX1_lambda_account_16 8 = .ok (.goto 4, 3) := dk_167 0 4 (dk_at dksX1_lambda_account_16_0 8 rfl rfl)
theorem dX1_lambda_account_16_11 : decode cX1_lambda_account_16 11 = .ok (.iconst 0, 1) := dk_3 (dk_at dksX1_lambda_account_16_0 11 rfl rfl)
theorem dX1_lambda_account_16_12 : decode cX1_lambda_account_16 12 = .ok (.ireturn, 1) := dk_172 (dk_at dksX1_lambda_account_16_0 12 rfl rfl)
abbrev cX1_lambda_account_17 : ByteArray := prog_1_method_60_code
def yX1_lambda_account_17 : MethodName := ⟨RX1, "lambda$account$17", "(LStaffRailway$Stretch;)I"⟩
def dkwX1_lambda_account_17_0 : List UInt8 := [42, 180, 0, 170, 42, 180, 0, 173, 96, 172]
abbrev dktX1_lambda_account_17_0 : List UInt8 := dkwX1_lambda_account_17_0 ++ []
theorem dksX1_lambda_account_17_0 : cX1_lambda_account_17.data.toList.drop 0 = dktX1_lambda_account_17_0 := by decide +kernel
theorem dX1_lambda_account_17_0 : decode cX1_lambda_account_17 0 = .ok (.aload_n 0, 1) := dk_42 (dk_at dksX1_lambda_account_17_0 0 rfl rfl)
theorem dX1_lambda_account_17_1 : decode cX1_lambda_account_17 1 = .ok (.getfield 170, 3) := dk_180 0 170 (dk_at dksX1_lambda_account_17_0 1 rfl rfl)
theorem dX1_lambda_account_17_4 : decode cX1_lambda_account_17 4 = .ok (.aload_n 0, 1) := dk_42 (dk_at dksX1_lambda_account_17_0 4 rfl rfl)
theorem dX1_lambda_account_17_5 : decode cX1_lambda_account_17 5 = .ok (.getfield 173, 3) := dk_180 0 173 (dk_at dksX1_lambda_account_17_0 5 rfl rfl)
theorem dX1_lambda_account_17_8 : decode cX1_lambda_account_17 8 = .ok (.iadd, 1) := dk_96 (dk_at dksX1_lambda_account_17_0 8 rfl rfl)
theorem dX1_lambda_account_17_9 : decode cX1_lambda_account_17 9 = .ok (.ireturn, 1) := dk_172 (dk_at dksX1_lambda_account_17_0 9 rfl rfl)
abbrev cX1_withTrains : ByteArray := prog_1_method_52_code
def yX1_withTrains : MethodName := ⟨RX1, "withTrains", "()I"⟩
def dkwX1_withTrains_0 : List UInt8 := [42, 180, 0, 10, 186, 1, 126, 0, 0, 182, 1, 76, 172]
abbrev dktX1_withTrains_0 : List UInt8 := dkwX1_withTrains_0 ++ []
theorem dksX1_withTrains_0 : cX1_withTrains.data.toList.drop 0 = dktX1_withTrains_0 := by decide +kernel
theorem dX1_withTrains_0 : decode cX1_withTrains 0 = .ok (.aload_n 0, 1) := dk_42 (dk_at dksX1_withTrains_0 0 rfl rfl)
theorem dX1_withTrains_1 : decode cX1_withTrains 1 = .ok (.getfield 10, 3) := dk_180 0 10 (dk_at dksX1_withTrains_0 1 rfl rfl)
theorem dX1_withTrains_4 : decode cX1_withTrains 4 = .ok (.invokedynamic 382, 5) := by decide +kernel
theorem dX1_withTrains_9 : decode cX1_withTrains 9 = .ok (.invokevirtual 332, 3) := dk_182 1 76 (dk_at dksX1_withTrains_0 9 rfl rfl)
theorem dX1_withTrains_12 : decode cX1_withTrains 12 = .ok (.ireturn, 1) := dk_172 (dk_at dksX1_withTrains_0 12 rfl rfl)
abbrev cX1_lambda_withTrains_14 : ByteArray := prog_1_method_63_code
def yX1_lambda_withTrains_14 : MethodName := ⟨RX1, "lambda$withTrains$14", "(LStaffRailway$Train;)Z"⟩
theorem dX1_lambda_withTrains_14_0 : decode cX1_lambda_withTrains_14 0 = .ok (.aload_n 0, 1) := by decide +kernel
theorem dX1_lambda_withTrains_14_1 : decode cX1_lambda_withTrains_14 1 = .ok (.getfield 229, 3) := by decide +kernel
theorem dX1_lambda_withTrains_14_4 : decode cX1_lambda_withTrains_14 4 = .ok (.ireturn, 1) := by decide +kernel
abbrev cX1_lambda_account_18 : ByteArray := prog_1_method_59_code
def yX1_lambda_account_18 : MethodName := ⟨RX1, "lambda$account$18", "(LStaffRailway$Stretch;)I"⟩
def dkwX1_lambda_account_18_0 : List UInt8 := [42, 180, 0, 176, 153, 0, 7, 4, 167, 0, 4, 3, 172]
abbrev dktX1_lambda_account_18_0 : List UInt8 := dkwX1_lambda_account_18_0 ++ []
theorem dksX1_lambda_account_18_0 : cX1_lambda_account_18.data.toList.drop 0 = dktX1_lambda_account_18_0 := by decide +kernel
theorem dX1_lambda_account_18_0 : decode cX1_lambda_account_18 0 = .ok (.aload_n 0, 1) := dk_42 (dk_at dksX1_lambda_account_18_0 0 rfl rfl)
theorem dX1_lambda_account_18_1 : decode cX1_lambda_account_18 1 = .ok (.getfield 176, 3) := dk_180 0 176 (dk_at dksX1_lambda_account_18_0 1 rfl rfl)
theorem dX1_lambda_account_18_4 : decode cX1_lambda_account_18 4 = .ok (.ifCond .eq 7, 3) := dk_153 0 7 (dk_at dksX1_lambda_account_18_0 4 rfl rfl)
theorem dX1_lambda_account_18_7 : decode cX1_lambda_account_18 7 = .ok (.iconst 1, 1) := dk_4 (dk_at dksX1_lambda_account_18_0 7 rfl rfl)
theorem dX1_lambda_account_18_8 : decode cX1_lambda_account_18 8 = .ok (.goto 4, 3) := dk_167 0 4 (dk_at dksX1_lambda_account_18_0 8 rfl rfl)
theorem dX1_lambda_account_18_11 : decode cX1_lambda_account_18 11 = .ok (.iconst 0, 1) := dk_3 (dk_at dksX1_lambda_account_18_0 11 rfl rfl)
theorem dX1_lambda_account_18_12 : decode cX1_lambda_account_18 12 = .ok (.ireturn, 1) := dk_172 (dk_at dksX1_lambda_account_18_0 12 rfl rfl)
abbrev cX1_share : ByteArray := prog_1_method_54_code
def yX1_share : MethodName := ⟨RX1, "share", "()D"⟩
def dkwX1_share_2 : List UInt8 := [175]
abbrev dktX1_share_2 : List UInt8 := dkwX1_share_2 ++ []
def dkwX1_share_1 : List UInt8 := [180, 0, 10, 186, 1, 165, 0, 0, 182, 1, 76, 135, 42, 180, 0, 10, 180, 0, 197, 182, 0, 201, 135, 111]
abbrev dktX1_share_1 : List UInt8 := dkwX1_share_1 ++ dktX1_share_2
def dkwX1_share_0 : List UInt8 := [42, 180, 0, 10, 180, 0, 197, 182, 1, 159, 153, 0, 11, 187, 1, 162, 89, 183, 1, 164, 191, 42]
abbrev dktX1_share_0 : List UInt8 := dkwX1_share_0 ++ dktX1_share_1
theorem dksX1_share_0 : cX1_share.data.toList.drop 0 = dktX1_share_0 := by decide +kernel
theorem dksX1_share_1 : cX1_share.data.toList.drop 22 = dktX1_share_1 := dk_seg dksX1_share_0 22 rfl rfl
theorem dksX1_share_2 : cX1_share.data.toList.drop 46 = dktX1_share_2 := dk_seg dksX1_share_1 24 rfl rfl
theorem dX1_share_0 : decode cX1_share 0 = .ok (.aload_n 0, 1) := dk_42 (dk_at dksX1_share_0 0 rfl rfl)
theorem dX1_share_1 : decode cX1_share 1 = .ok (.getfield 10, 3) := dk_180 0 10 (dk_at dksX1_share_0 1 rfl rfl)
theorem dX1_share_4 : decode cX1_share 4 = .ok (.getfield 197, 3) := dk_180 0 197 (dk_at dksX1_share_0 4 rfl rfl)
theorem dX1_share_7 : decode cX1_share 7 = .ok (.invokevirtual 415, 3) := dk_182 1 159 (dk_at dksX1_share_0 7 rfl rfl)
theorem dX1_share_10 : decode cX1_share 10 = .ok (.ifCond .eq 11, 3) := dk_153 0 11 (dk_at dksX1_share_0 10 rfl rfl)
theorem dX1_share_13 : decode cX1_share 13 = .ok (.new 418, 3) := dk_187 1 162 (dk_at dksX1_share_0 13 rfl rfl)
theorem dX1_share_16 : decode cX1_share 16 = .ok (.dup, 1) := dk_89 (dk_at dksX1_share_0 16 rfl rfl)
theorem dX1_share_17 : decode cX1_share 17 = .ok (.invokespecial 420, 3) := dk_183 1 164 (dk_at dksX1_share_0 17 rfl rfl)
theorem dX1_share_20 : decode cX1_share 20 = .ok (.athrow, 1) := dk_191 (dk_at dksX1_share_0 20 rfl rfl)
theorem dX1_share_21 : decode cX1_share 21 = .ok (.aload_n 0, 1) := dk_42 (dk_at dksX1_share_0 21 rfl rfl)
theorem dX1_share_22 : decode cX1_share 22 = .ok (.getfield 10, 3) := dk_180 0 10 (dk_at dksX1_share_1 0 rfl rfl)
theorem dX1_share_25 : decode cX1_share 25 = .ok (.invokedynamic 421, 5) := by decide +kernel
theorem dX1_share_30 : decode cX1_share 30 = .ok (.invokevirtual 332, 3) := dk_182 1 76 (dk_at dksX1_share_1 8 rfl rfl)
theorem dX1_share_33 : decode cX1_share 33 = .ok (.i2d, 1) := dk_135 (dk_at dksX1_share_1 11 rfl rfl)
theorem dX1_share_34 : decode cX1_share 34 = .ok (.aload_n 0, 1) := dk_42 (dk_at dksX1_share_1 12 rfl rfl)
theorem dX1_share_35 : decode cX1_share 35 = .ok (.getfield 10, 3) := dk_180 0 10 (dk_at dksX1_share_1 13 rfl rfl)
theorem dX1_share_38 : decode cX1_share 38 = .ok (.getfield 197, 3) := dk_180 0 197 (dk_at dksX1_share_1 16 rfl rfl)
theorem dX1_share_41 : decode cX1_share 41 = .ok (.invokevirtual 201, 3) := dk_182 0 201 (dk_at dksX1_share_1 19 rfl rfl)
theorem dX1_share_44 : decode cX1_share 44 = .ok (.i2d, 1) := dk_135 (dk_at dksX1_share_1 22 rfl rfl)
theorem dX1_share_45 : decode cX1_share 45 = .ok (.ddiv, 1) := dk_111 (dk_at dksX1_share_1 23 rfl rfl)
theorem dX1_share_46 : decode cX1_share 46 = .ok (.dreturn, 1) := dk_175 (dk_at dksX1_share_2 0 rfl rfl)
abbrev cX1_lambda_share_19 : ByteArray := prog_1_method_58_code
def yX1_lambda_share_19 : MethodName := ⟨RX1, "lambda$share$19", "(LStaffRailway$Train;)Z"⟩
theorem dX1_lambda_share_19_0 : decode cX1_lambda_share_19 0 = .ok (.aload_n 0, 1) := by decide +kernel
theorem dX1_lambda_share_19_1 : decode cX1_lambda_share_19 1 = .ok (.invokevirtual 323, 3) := by decide +kernel
theorem dX1_lambda_share_19_4 : decode cX1_lambda_share_19 4 = .ok (.ireturn, 1) := by decide +kernel
abbrev cX1_undo : ByteArray := prog_1_method_55_code
def yX1_undo : MethodName := ⟨RX1, "undo", "()I"⟩
def dkwX1_undo_1 : List UInt8 := [182, 1, 167, 192, 0, 7, 181, 0, 10, 42, 180, 0, 19, 182, 0, 66, 172]
abbrev dktX1_undo_1 : List UInt8 := dkwX1_undo_1 ++ []
def dkwX1_undo_0 : List UInt8 := [42, 180, 0, 19, 182, 1, 166, 154, 0, 7, 4, 167, 0, 4, 3, 184, 1, 93, 42, 42, 180, 0, 19]
abbrev dktX1_undo_0 : List UInt8 := dkwX1_undo_0 ++ dktX1_undo_1
theorem dksX1_undo_0 : cX1_undo.data.toList.drop 0 = dktX1_undo_0 := by decide +kernel
theorem dksX1_undo_1 : cX1_undo.data.toList.drop 23 = dktX1_undo_1 := dk_seg dksX1_undo_0 23 rfl rfl
theorem dX1_undo_0 : decode cX1_undo 0 = .ok (.aload_n 0, 1) := dk_42 (dk_at dksX1_undo_0 0 rfl rfl)
theorem dX1_undo_1 : decode cX1_undo 1 = .ok (.getfield 19, 3) := dk_180 0 19 (dk_at dksX1_undo_0 1 rfl rfl)
theorem dX1_undo_4 : decode cX1_undo 4 = .ok (.invokevirtual 422, 3) := dk_182 1 166 (dk_at dksX1_undo_0 4 rfl rfl)
theorem dX1_undo_7 : decode cX1_undo 7 = .ok (.ifCond .ne 7, 3) := dk_154 0 7 (dk_at dksX1_undo_0 7 rfl rfl)
theorem dX1_undo_10 : decode cX1_undo 10 = .ok (.iconst 1, 1) := dk_4 (dk_at dksX1_undo_0 10 rfl rfl)
theorem dX1_undo_11 : decode cX1_undo 11 = .ok (.goto 4, 3) := dk_167 0 4 (dk_at dksX1_undo_0 11 rfl rfl)
theorem dX1_undo_14 : decode cX1_undo 14 = .ok (.iconst 0, 1) := dk_3 (dk_at dksX1_undo_0 14 rfl rfl)
theorem dX1_undo_15 : decode cX1_undo 15 = .ok (.invokestatic 349, 3) := dk_184 1 93 (dk_at dksX1_undo_0 15 rfl rfl)
theorem dX1_undo_18 : decode cX1_undo 18 = .ok (.aload_n 0, 1) := dk_42 (dk_at dksX1_undo_0 18 rfl rfl)
theorem dX1_undo_19 : decode cX1_undo 19 = .ok (.aload_n 0, 1) := dk_42 (dk_at dksX1_undo_0 19 rfl rfl)
theorem dX1_undo_20 : decode cX1_undo 20 = .ok (.getfield 19, 3) := dk_180 0 19 (dk_at dksX1_undo_0 20 rfl rfl)
theorem dX1_undo_23 : decode cX1_undo 23 = .ok (.invokevirtual 423, 3) := dk_182 1 167 (dk_at dksX1_undo_1 0 rfl rfl)
theorem dX1_undo_26 : decode cX1_undo 26 = .ok (.checkcast 7, 3) := dk_192 0 7 (dk_at dksX1_undo_1 3 rfl rfl)
theorem dX1_undo_29 : decode cX1_undo 29 = .ok (.putfield 10, 3) := dk_181 0 10 (dk_at dksX1_undo_1 6 rfl rfl)
theorem dX1_undo_32 : decode cX1_undo 32 = .ok (.aload_n 0, 1) := dk_42 (dk_at dksX1_undo_1 9 rfl rfl)
theorem dX1_undo_33 : decode cX1_undo 33 = .ok (.getfield 19, 3) := dk_180 0 19 (dk_at dksX1_undo_1 10 rfl rfl)
theorem dX1_undo_36 : decode cX1_undo 36 = .ok (.invokevirtual 66, 3) := dk_182 0 66 (dk_at dksX1_undo_1 13 rfl rfl)
theorem dX1_undo_39 : decode cX1_undo 39 = .ok (.ireturn, 1) := dk_172 (dk_at dksX1_undo_1 16 rfl rfl)
abbrev cX1_restore : ByteArray := prog_1_method_57_code
def yX1_restore : MethodName := ⟨RX1, "restore", "()I"⟩
def dkwX1_restore_1 : List UInt8 := [181, 0, 10, 42, 180, 0, 19, 182, 1, 173, 42, 180, 0, 10, 180, 0, 197, 182, 0, 201, 172]
abbrev dktX1_restore_1 : List UInt8 := dkwX1_restore_1 ++ []
def dkwX1_restore_0 : List UInt8 := [42, 180, 1, 170, 198, 0, 7, 4, 167, 0, 4, 3, 184, 1, 93, 42, 42, 180, 1, 170, 182, 0, 74]
abbrev dktX1_restore_0 : List UInt8 := dkwX1_restore_0 ++ dktX1_restore_1
theorem dksX1_restore_0 : cX1_restore.data.toList.drop 0 = dktX1_restore_0 := by decide +kernel
theorem dksX1_restore_1 : cX1_restore.data.toList.drop 23 = dktX1_restore_1 := dk_seg dksX1_restore_0 23 rfl rfl
theorem dX1_restore_0 : decode cX1_restore 0 = .ok (.aload_n 0, 1) := dk_42 (dk_at dksX1_restore_0 0 rfl rfl)
theorem dX1_restore_1 : decode cX1_restore 1 = .ok (.getfield 426, 3) := dk_180 1 170 (dk_at dksX1_restore_0 1 rfl rfl)
theorem dX1_restore_4 : decode cX1_restore 4 = .ok (.ifnull 7, 3) := dk_198 0 7 (dk_at dksX1_restore_0 4 rfl rfl)
theorem dX1_restore_7 : decode cX1_restore 7 = .ok (.iconst 1, 1) := dk_4 (dk_at dksX1_restore_0 7 rfl rfl)
theorem dX1_restore_8 : decode cX1_restore 8 = .ok (.goto 4, 3) := dk_167 0 4 (dk_at dksX1_restore_0 8 rfl rfl)
theorem dX1_restore_11 : decode cX1_restore 11 = .ok (.iconst 0, 1) := dk_3 (dk_at dksX1_restore_0 11 rfl rfl)
theorem dX1_restore_12 : decode cX1_restore 12 = .ok (.invokestatic 349, 3) := dk_184 1 93 (dk_at dksX1_restore_0 12 rfl rfl)
theorem dX1_restore_15 : decode cX1_restore 15 = .ok (.aload_n 0, 1) := dk_42 (dk_at dksX1_restore_0 15 rfl rfl)
theorem dX1_restore_16 : decode cX1_restore 16 = .ok (.aload_n 0, 1) := dk_42 (dk_at dksX1_restore_0 16 rfl rfl)
theorem dX1_restore_17 : decode cX1_restore 17 = .ok (.getfield 426, 3) := dk_180 1 170 (dk_at dksX1_restore_0 17 rfl rfl)
theorem dX1_restore_20 : decode cX1_restore 20 = .ok (.invokevirtual 74, 3) := dk_182 0 74 (dk_at dksX1_restore_0 20 rfl rfl)
theorem dX1_restore_23 : decode cX1_restore 23 = .ok (.putfield 10, 3) := dk_181 0 10 (dk_at dksX1_restore_1 0 rfl rfl)
theorem dX1_restore_26 : decode cX1_restore 26 = .ok (.aload_n 0, 1) := dk_42 (dk_at dksX1_restore_1 3 rfl rfl)
theorem dX1_restore_27 : decode cX1_restore 27 = .ok (.getfield 19, 3) := dk_180 0 19 (dk_at dksX1_restore_1 4 rfl rfl)
theorem dX1_restore_30 : decode cX1_restore 30 = .ok (.invokevirtual 429, 3) := dk_182 1 173 (dk_at dksX1_restore_1 7 rfl rfl)
theorem dX1_restore_33 : decode cX1_restore 33 = .ok (.aload_n 0, 1) := dk_42 (dk_at dksX1_restore_1 10 rfl rfl)
theorem dX1_restore_34 : decode cX1_restore 34 = .ok (.getfield 10, 3) := dk_180 0 10 (dk_at dksX1_restore_1 11 rfl rfl)
theorem dX1_restore_37 : decode cX1_restore 37 = .ok (.getfield 197, 3) := dk_180 0 197 (dk_at dksX1_restore_1 14 rfl rfl)
theorem dX1_restore_40 : decode cX1_restore 40 = .ok (.invokevirtual 201, 3) := dk_182 0 201 (dk_at dksX1_restore_1 17 rfl rfl)
theorem dX1_restore_43 : decode cX1_restore 43 = .ok (.ireturn, 1) := dk_172 (dk_at dksX1_restore_1 20 rfl rfl)
theorem q94 : (Jvm.Cond.initialized "StaffRailway") ∈ lw_all := lw_g (lw_at lw_m1 1 rfl) rfl
theorem q141 : (Jvm.Cond.instantiable "StaffRailway" (6 : Nat)) ∈ lw_all := lw_g (lw_at lw_m1 48 rfl) rfl
theorem q143 : (Jvm.Cond.instanceMethod ({ cls := "StaffRailway", name := "<init>", desc := "()V" } : Jvm.MethodName)) ∈ lw_all := lw_g (lw_at lw_m1 50 rfl) rfl
theorem q144 : (Jvm.Cond.code ({ cls := "StaffRailway", name := "<init>", desc := "()V" } : Jvm.MethodName) prog_1_method_1_code (1 : Nat) (Option.none : Option Jvm.ClassFile.FieldType)) ∈ lw_all := lw_g (lw_at lw_m1 51 rfl) rfl
theorem q145 : (Jvm.Cond.methodLink "StaffRailway" (1 : Nat) ({ cls := "java/lang/Object", name := "<init>", desc := "()V" } : Jvm.MethodName)) ∈ lw_all := lw_g (lw_at lw_m1 52 rfl) rfl
theorem q148 : (Jvm.Cond.classLink "StaffRailway" (7 : Nat) "StaffRailway$Line") ∈ lw_all := lw_g (lw_at lw_m1 55 rfl) rfl
theorem q150 : (Jvm.Cond.methodLinkNest "StaffRailway" (9 : Nat) ({ cls := "StaffRailway$Line", name := "<init>", desc := "()V" } : Jvm.MethodName) "StaffRailway") ∈ lw_tbl := lw_at lw_m1 57 rfl
theorem q520 : (Jvm.Cond.fieldLinkNest "StaffRailway" (336 : Nat) "StaffRailway$Box" "row" "[LStaffRailway$Entry;" "StaffRailway") ∈ lw_tbl := lw_at lw_m2 187 rfl
theorem q523 : (Jvm.Cond.fieldLinkNest "StaffRailway" (145 : Nat) "StaffRailway$Box" "many" "I" "StaffRailway") ∈ lw_tbl := lw_at lw_m2 190 rfl
theorem q539 : (Jvm.Cond.fieldLinkNest "StaffRailway" (159 : Nat) "StaffRailway$Stretch" "tablets" "I" "StaffRailway") ∈ lw_tbl := lw_at lw_m2 206 rfl
theorem q542 : (Jvm.Cond.fieldLinkNest "StaffRailway" (164 : Nat) "StaffRailway$Stretch" "length" "I" "StaffRailway") ∈ lw_tbl := lw_at lw_m2 209 rfl
theorem q544 : (Jvm.Cond.fieldLinkNest "StaffRailway" (167 : Nat) "StaffRailway$Stretch" "limit" "I" "StaffRailway") ∈ lw_tbl := lw_at lw_m2 211 rfl
theorem q547 : (Jvm.Cond.fieldLinkNest "StaffRailway" (170 : Nat) "StaffRailway$Stretch" "left" "I" "StaffRailway") ∈ lw_tbl := lw_at lw_m2 214 rfl
theorem q549 : (Jvm.Cond.fieldLinkNest "StaffRailway" (173 : Nat) "StaffRailway$Stretch" "right" "I" "StaffRailway") ∈ lw_tbl := lw_at lw_m2 216 rfl
theorem q551 : (Jvm.Cond.fieldLinkNest "StaffRailway" (176 : Nat) "StaffRailway$Stretch" "isLost" "Z" "StaffRailway") ∈ lw_tbl := lw_at lw_m2 218 rfl
theorem q567 : (Jvm.Cond.fieldLinkNest "StaffRailway" (122 : Nat) "StaffRailway$Line" "tracks" "[I" "StaffRailway") ∈ lw_tbl := lw_at lw_m2 234 rfl
theorem q569 : (Jvm.Cond.fieldLinkNest "StaffRailway" (155 : Nat) "StaffRailway$Line" "stretches" "[LStaffRailway$Stretch;" "StaffRailway") ∈ lw_tbl := lw_at lw_m2 236 rfl
theorem q571 : (Jvm.Cond.fieldLinkNest "StaffRailway" (141 : Nat) "StaffRailway$Line" "boxes" "[LStaffRailway$Box;" "StaffRailway") ∈ lw_tbl := lw_at lw_m2 238 rfl
theorem q573 : (Jvm.Cond.fieldLinkNest "StaffRailway" (197 : Nat) "StaffRailway$Line" "trains" "Ljava/util/ArrayList;" "StaffRailway") ∈ lw_tbl := lw_at lw_m3 0 rfl
theorem q575 : (Jvm.Cond.fieldLinkNest "StaffRailway" (239 : Nat) "StaffRailway$Line" "pilotmen" "Ljava/util/ArrayList;" "StaffRailway") ∈ lw_tbl := lw_at lw_m3 2 rfl
theorem q577 : (Jvm.Cond.fieldLinkNest "StaffRailway" (403 : Nat) "StaffRailway$Line" "clock" "I" "StaffRailway") ∈ lw_tbl := lw_at lw_m3 4 rfl
theorem q579 : (Jvm.Cond.fieldLinkNest "StaffRailway" (406 : Nat) "StaffRailway$Line" "came" "I" "StaffRailway") ∈ lw_tbl := lw_at lw_m3 6 rfl
theorem q581 : (Jvm.Cond.fieldLinkNest "StaffRailway" (409 : Nat) "StaffRailway$Line" "halves" "I" "StaffRailway") ∈ lw_tbl := lw_at lw_m3 8 rfl
theorem q583 : (Jvm.Cond.fieldLinkNest "StaffRailway" (412 : Nat) "StaffRailway$Line" "losses" "I" "StaffRailway") ∈ lw_tbl := lw_at lw_m3 10 rfl
theorem q603 : (Jvm.Cond.classLink "StaffRailway" (16 : Nat) "java/util/ArrayDeque") ∈ lw_all := lw_g (lw_at lw_m3 30 rfl) rfl
theorem q605 : (Jvm.Cond.methodLink "StaffRailway" (18 : Nat) ({ cls := "java/util/ArrayDeque", name := "<init>", desc := "()V" } : Jvm.MethodName)) ∈ lw_all := lw_g (lw_at lw_m3 32 rfl) rfl
theorem q622 : (Jvm.Cond.classLink "StaffRailway" (23 : Nat) "java/lang/StringBuilder") ∈ lw_all := lw_g (lw_at lw_m3 49 rfl) rfl
theorem q623 : (Jvm.Cond.methodLink "StaffRailway" (25 : Nat) ({ cls := "java/lang/StringBuilder", name := "<init>", desc := "()V" } : Jvm.MethodName)) ∈ lw_all := lw_g (lw_at lw_m3 50 rfl) rfl
theorem q624 : (Jvm.Cond.fieldLink "StaffRailway" (10 : Nat) "StaffRailway" "line" "LStaffRailway$Line;") ∈ lw_all := lw_g (lw_at lw_m3 51 rfl) rfl
theorem q625 : (Jvm.Cond.fieldLink "StaffRailway" (426 : Nat) "StaffRailway" "saved" "LStaffRailway$Line;") ∈ lw_all := lw_g (lw_at lw_m3 52 rfl) rfl
theorem q626 : (Jvm.Cond.fieldLink "StaffRailway" (19 : Nat) "StaffRailway" "past" "Ljava/util/ArrayDeque;") ∈ lw_all := lw_g (lw_at lw_m3 53 rfl) rfl
theorem q627 : (Jvm.Cond.fieldLink "StaffRailway" (51 : Nat) "StaffRailway" "latest" "LStaffRailway$Refused;") ∈ lw_all := lw_g (lw_at lw_m3 54 rfl) rfl
theorem q628 : (Jvm.Cond.fieldLink "StaffRailway" (26 : Nat) "StaffRailway" "text" "Ljava/lang/StringBuilder;") ∈ lw_all := lw_g (lw_at lw_m3 55 rfl) rfl
theorem q629 : (Jvm.Cond.fieldLink "StaffRailway" (30 : Nat) "StaffRailway" "faultAt" "I") ∈ lw_all := lw_g (lw_at lw_m3 56 rfl) rfl
theorem q630 : (Jvm.Cond.lays "StaffRailway" "StaffRailway" "line" "LStaffRailway$Line;") ∈ lw_all := lw_g (lw_at lw_m3 57 rfl) rfl
theorem q631 : (Jvm.Cond.soleField "StaffRailway" "line") ∈ lw_all := lw_g (lw_at lw_m3 58 rfl) rfl
theorem q632 : (Jvm.Cond.lays "StaffRailway" "StaffRailway" "saved" "LStaffRailway$Line;") ∈ lw_all := lw_g (lw_at lw_m3 59 rfl) rfl
theorem q633 : (Jvm.Cond.soleField "StaffRailway" "saved") ∈ lw_all := lw_g (lw_at lw_m3 60 rfl) rfl
theorem q634 : (Jvm.Cond.laysFinal "StaffRailway" "StaffRailway" "past" "Ljava/util/ArrayDeque;") ∈ lw_all := lw_g (lw_at lw_m3 61 rfl) rfl
theorem q635 : (Jvm.Cond.soleField "StaffRailway" "past") ∈ lw_all := lw_g (lw_at lw_m3 62 rfl) rfl
theorem q636 : (Jvm.Cond.lays "StaffRailway" "StaffRailway" "latest" "LStaffRailway$Refused;") ∈ lw_all := lw_g (lw_at lw_m3 63 rfl) rfl
theorem q637 : (Jvm.Cond.soleField "StaffRailway" "latest") ∈ lw_all := lw_g (lw_at lw_m3 64 rfl) rfl
theorem q638 : (Jvm.Cond.laysFinal "StaffRailway" "StaffRailway" "text" "Ljava/lang/StringBuilder;") ∈ lw_all := lw_g (lw_at lw_m3 65 rfl) rfl
theorem q639 : (Jvm.Cond.soleField "StaffRailway" "text") ∈ lw_all := lw_g (lw_at lw_m3 66 rfl) rfl
theorem q640 : (Jvm.Cond.lays "StaffRailway" "StaffRailway" "faultAt" "I") ∈ lw_all := lw_g (lw_at lw_m3 67 rfl) rfl
theorem q641 : (Jvm.Cond.soleField "StaffRailway" "faultAt") ∈ lw_all := lw_g (lw_at lw_m3 68 rfl) rfl
theorem q642 : (Jvm.Cond.superclass "StaffRailway" "java/lang/Object") ∈ lw_all := lw_g (lw_at lw_m3 69 rfl) rfl
theorem q644 : (Jvm.Cond.instanceMethod ({ cls := "StaffRailway", name := "movable", desc := "()I" } : Jvm.MethodName)) ∈ lw_all := lw_g (lw_at lw_m3 71 rfl) rfl
theorem q645 : (Jvm.Cond.selects "StaffRailway" ({ cls := "StaffRailway", name := "movable", desc := "()I" } : Jvm.MethodName) ({ cls := "StaffRailway", name := "movable", desc := "()I" } : Jvm.MethodName)) ∈ lw_all := lw_g (lw_at lw_m3 72 rfl) rfl
theorem q646 : (Jvm.Cond.code ({ cls := "StaffRailway", name := "movable", desc := "()I" } : Jvm.MethodName) prog_1_method_43_code (1 : Nat) (Option.some Jvm.ClassFile.FieldType.int)) ∈ lw_all := lw_g (lw_at lw_m3 73 rfl) rfl
theorem q647 : (Jvm.Cond.privateMethod ({ cls := "StaffRailway", name := "isMovable", desc := "(LStaffRailway$Train;)Z" } : Jvm.MethodName)) ∈ lw_tbl := lw_at lw_m3 74 rfl
theorem q648 : (Jvm.Cond.instanceMethod ({ cls := "StaffRailway", name := "isMovable", desc := "(LStaffRailway$Train;)Z" } : Jvm.MethodName)) ∈ lw_all := lw_g (lw_at lw_m3 75 rfl) rfl
theorem q649 : (Jvm.Cond.code ({ cls := "StaffRailway", name := "isMovable", desc := "(LStaffRailway$Train;)Z" } : Jvm.MethodName) prog_1_method_42_code (3 : Nat) (Option.some Jvm.ClassFile.FieldType.boolean)) ∈ lw_all := lw_g (lw_at lw_m3 76 rfl) rfl
theorem q650 : (Jvm.Cond.methodLink "StaffRailway" (323 : Nat) ({ cls := "StaffRailway$Train", name := "isUnderWay", desc := "()Z" } : Jvm.MethodName)) ∈ lw_all := lw_g (lw_at lw_m3 77 rfl) rfl
theorem q654 : (Jvm.Cond.methodLink "StaffRailway" (98 : Nat) ({ cls := "StaffRailway", name := "isStation", desc := "(I)Z" } : Jvm.MethodName)) ∈ lw_all := lw_g (lw_at lw_m3 81 rfl) rfl
theorem q655 : (Jvm.Cond.static ({ cls := "StaffRailway", name := "isStation", desc := "(I)Z" } : Jvm.MethodName)) ∈ lw_all := lw_g (lw_at lw_m3 82 rfl) rfl
theorem q656 : (Jvm.Cond.code ({ cls := "StaffRailway", name := "isStation", desc := "(I)Z" } : Jvm.MethodName) prog_1_method_12_code (1 : Nat) (Option.some Jvm.ClassFile.FieldType.boolean)) ∈ lw_all := lw_g (lw_at lw_m3 83 rfl) rfl
theorem q657 : (Jvm.Cond.methodLink "StaffRailway" (94 : Nat) ({ cls := "StaffRailway", name := "isIn", desc := "(III)Z" } : Jvm.MethodName)) ∈ lw_all := lw_g (lw_at lw_m3 84 rfl) rfl
theorem q658 : (Jvm.Cond.static ({ cls := "StaffRailway", name := "isIn", desc := "(III)Z" } : Jvm.MethodName)) ∈ lw_all := lw_g (lw_at lw_m3 85 rfl) rfl
theorem q659 : (Jvm.Cond.code ({ cls := "StaffRailway", name := "isIn", desc := "(III)Z" } : Jvm.MethodName) prog_1_method_2_code (3 : Nat) (Option.some Jvm.ClassFile.FieldType.boolean)) ∈ lw_all := lw_g (lw_at lw_m3 86 rfl) rfl
theorem q660 : (Jvm.Cond.methodLink "StaffRailway" (326 : Nat) ({ cls := "StaffRailway", name := "canGo", desc := "(III)Z" } : Jvm.MethodName)) ∈ lw_all := lw_g (lw_at lw_m3 87 rfl) rfl
theorem q661 : (Jvm.Cond.privateMethod ({ cls := "StaffRailway", name := "canGo", desc := "(III)Z" } : Jvm.MethodName)) ∈ lw_tbl := lw_at lw_m3 88 rfl
theorem q662 : (Jvm.Cond.instanceMethod ({ cls := "StaffRailway", name := "canGo", desc := "(III)Z" } : Jvm.MethodName)) ∈ lw_all := lw_g (lw_at lw_m3 89 rfl) rfl
theorem q663 : (Jvm.Cond.codeWith ({ cls := "StaffRailway", name := "canGo", desc := "(III)Z" } : Jvm.MethodName) prog_1_method_35_code (5 : Nat) (Option.some Jvm.ClassFile.FieldType.boolean) [((0 : Nat), (11 : Nat), (12 : Nat), (46 : Nat))]) ∈ lw_all := lw_g (lw_at lw_m3 90 rfl) rfl
theorem q664 : (Jvm.Cond.classLink "StaffRailway" (46 : Nat) "StaffRailway$Refused") ∈ lw_all := lw_g (lw_at lw_m3 91 rfl) rfl
theorem q665 : (Jvm.Cond.methodLink "StaffRailway" (263 : Nat) ({ cls := "StaffRailway$Line", name := "checkWay", desc := "(III)V" } : Jvm.MethodName)) ∈ lw_all := lw_g (lw_at lw_m3 92 rfl) rfl
theorem q698 : (Jvm.Cond.static ({ cls := "StaffRailway", name := "refuse", desc := "(ZII)V" } : Jvm.MethodName)) ∈ lw_all := lw_g (lw_at lw_m3 125 rfl) rfl
theorem q699 : (Jvm.Cond.code ({ cls := "StaffRailway", name := "refuse", desc := "(ZII)V" } : Jvm.MethodName) prog_1_method_7_code (3 : Nat) (Option.none : Option Jvm.ClassFile.FieldType)) ∈ lw_all := lw_g (lw_at lw_m3 126 rfl) rfl
theorem q708 : (Jvm.Cond.methodLink "StaffRailway" (48 : Nat) ({ cls := "StaffRailway$Refused", name := "<init>", desc := "(II)V" } : Jvm.MethodName)) ∈ lw_all := lw_g (lw_at lw_m3 135 rfl) rfl
theorem q934 : (Jvm.Cond.methodLink "StaffRailway" (332 : Nat) ({ cls := "StaffRailway$Line", name := "count", desc := "(LStaffRailway$OfTrain;)I" } : Jvm.MethodName)) ∈ lw_all := lw_g (lw_at lw_m4 121 rfl) rfl
theorem q936 : (Jvm.Cond.instanceMethod ({ cls := "StaffRailway", name := "save", desc := "()I" } : Jvm.MethodName)) ∈ lw_all := lw_g (lw_at lw_m4 123 rfl) rfl
theorem q937 : (Jvm.Cond.selects "StaffRailway" ({ cls := "StaffRailway", name := "save", desc := "()I" } : Jvm.MethodName) ({ cls := "StaffRailway", name := "save", desc := "()I" } : Jvm.MethodName)) ∈ lw_all := lw_g (lw_at lw_m4 124 rfl) rfl
theorem q938 : (Jvm.Cond.code ({ cls := "StaffRailway", name := "save", desc := "()I" } : Jvm.MethodName) prog_1_method_56_code (1 : Nat) (Option.some Jvm.ClassFile.FieldType.int)) ∈ lw_all := lw_g (lw_at lw_m4 125 rfl) rfl
theorem q939 : (Jvm.Cond.methodLink "StaffRailway" (74 : Nat) ({ cls := "StaffRailway$Line", name := "copy", desc := "()LStaffRailway$Line;" } : Jvm.MethodName)) ∈ lw_all := lw_g (lw_at lw_m4 126 rfl) rfl
theorem q969 : (Jvm.Cond.fieldLinkNest "StaffRailway" (150 : Nat) "StaffRailway$Pilotman" "number" "I" "StaffRailway") ∈ lw_tbl := lw_at lw_m4 156 rfl
theorem q972 : (Jvm.Cond.fieldLinkNest "StaffRailway" (242 : Nat) "StaffRailway$Pilotman" "station" "I" "StaffRailway") ∈ lw_tbl := lw_at lw_m4 159 rfl
theorem q974 : (Jvm.Cond.fieldLinkNest "StaffRailway" (243 : Nat) "StaffRailway$Pilotman" "stretch" "I" "StaffRailway") ∈ lw_tbl := lw_at lw_m4 161 rfl
theorem q1008 : (Jvm.Cond.selects "StaffRailway" ({ cls := "java/lang/Object", name := "getClass", desc := "()Ljava/lang/Class;" } : Jvm.MethodName) ({ cls := "java/lang/Object", name := "getClass", desc := "()Ljava/lang/Class;" } : Jvm.MethodName)) ∈ lw_all := lw_g (lw_at lw_m4 195 rfl) rfl
theorem q1061 : (Jvm.Cond.fieldLinkNest "StaffRailway" (210 : Nat) "StaffRailway$Train" "wagons" "I" "StaffRailway") ∈ lw_tbl := lw_at lw_m5 8 rfl
theorem q1065 : (Jvm.Cond.fieldLinkNest "StaffRailway" (213 : Nat) "StaffRailway$Train" "station" "I" "StaffRailway") ∈ lw_tbl := lw_at lw_m5 12 rfl
theorem q1068 : (Jvm.Cond.fieldLinkNest "StaffRailway" (216 : Nat) "StaffRailway$Train" "stretch" "I" "StaffRailway") ∈ lw_tbl := lw_at lw_m5 15 rfl
theorem q1071 : (Jvm.Cond.fieldLinkNest "StaffRailway" (219 : Nat) "StaffRailway$Train" "to" "I" "StaffRailway") ∈ lw_tbl := lw_at lw_m5 18 rfl
theorem q1074 : (Jvm.Cond.fieldLinkNest "StaffRailway" (222 : Nat) "StaffRailway$Train" "minutes" "I" "StaffRailway") ∈ lw_tbl := lw_at lw_m5 21 rfl
theorem q1077 : (Jvm.Cond.fieldLinkNest "StaffRailway" (225 : Nat) "StaffRailway$Train" "pilotman" "LStaffRailway$Pilotman;" "StaffRailway") ∈ lw_tbl := lw_at lw_m5 24 rfl
theorem q1080 : (Jvm.Cond.fieldLinkNest "StaffRailway" (229 : Nat) "StaffRailway$Train" "hasToken" "Z" "StaffRailway") ∈ lw_tbl := lw_at lw_m5 27 rfl
theorem q1100 : (Jvm.Cond.methodLink "StaffRailway" (201 : Nat) ({ cls := "java/util/ArrayList", name := "size", desc := "()I" } : Jvm.MethodName)) ∈ lw_all := lw_g (lw_at lw_m5 47 rfl) rfl
theorem q1126 : (Jvm.Cond.instanceMethod ({ cls := "StaffRailway", name := "tracks", desc := "(II)I" } : Jvm.MethodName)) ∈ lw_all := lw_g (lw_at lw_m5 73 rfl) rfl
theorem q1127 : (Jvm.Cond.selects "StaffRailway" ({ cls := "StaffRailway", name := "tracks", desc := "(II)I" } : Jvm.MethodName) ({ cls := "StaffRailway", name := "tracks", desc := "(II)I" } : Jvm.MethodName)) ∈ lw_all := lw_g (lw_at lw_m5 74 rfl) rfl
theorem q1128 : (Jvm.Cond.code ({ cls := "StaffRailway", name := "tracks", desc := "(II)I" } : Jvm.MethodName) prog_1_method_13_code (3 : Nat) (Option.some Jvm.ClassFile.FieldType.int)) ∈ lw_all := lw_g (lw_at lw_m5 75 rfl) rfl
theorem q1129 : (Jvm.Cond.methodLink "StaffRailway" (102 : Nat) ({ cls := "StaffRailway", name := "checkIndex", desc := "(Z)V" } : Jvm.MethodName)) ∈ lw_all := lw_g (lw_at lw_m5 76 rfl) rfl
theorem q1130 : (Jvm.Cond.static ({ cls := "StaffRailway", name := "checkIndex", desc := "(Z)V" } : Jvm.MethodName)) ∈ lw_all := lw_g (lw_at lw_m5 77 rfl) rfl
theorem q1131 : (Jvm.Cond.code ({ cls := "StaffRailway", name := "checkIndex", desc := "(Z)V" } : Jvm.MethodName) prog_1_method_3_code (1 : Nat) (Option.none : Option Jvm.ClassFile.FieldType)) ∈ lw_all := lw_g (lw_at lw_m5 78 rfl) rfl
theorem q1132 : (Jvm.Cond.classLink "StaffRailway" (34 : Nat) "java/lang/IndexOutOfBoundsException") ∈ lw_all := lw_g (lw_at lw_m5 79 rfl) rfl
theorem q1141 : (Jvm.Cond.methodLink "StaffRailway" (36 : Nat) ({ cls := "java/lang/IndexOutOfBoundsException", name := "<init>", desc := "()V" } : Jvm.MethodName)) ∈ lw_all := lw_g (lw_at lw_m5 88 rfl) rfl
theorem q1147 : (Jvm.Cond.methodLink "StaffRailway" (106 : Nat) ({ cls := "StaffRailway", name := "check", desc := "(Z)V" } : Jvm.MethodName)) ∈ lw_all := lw_g (lw_at lw_m5 94 rfl) rfl
theorem q1148 : (Jvm.Cond.static ({ cls := "StaffRailway", name := "check", desc := "(Z)V" } : Jvm.MethodName)) ∈ lw_all := lw_g (lw_at lw_m5 95 rfl) rfl
theorem q1149 : (Jvm.Cond.code ({ cls := "StaffRailway", name := "check", desc := "(Z)V" } : Jvm.MethodName) prog_1_method_4_code (1 : Nat) (Option.none : Option Jvm.ClassFile.FieldType)) ∈ lw_all := lw_g (lw_at lw_m5 96 rfl) rfl
theorem q1150 : (Jvm.Cond.classLink "StaffRailway" (37 : Nat) "java/lang/IllegalArgumentException") ∈ lw_all := lw_g (lw_at lw_m5 97 rfl) rfl
theorem q1151 : (Jvm.Cond.methodLink "StaffRailway" (39 : Nat) ({ cls := "java/lang/IllegalArgumentException", name := "<init>", desc := "()V" } : Jvm.MethodName)) ∈ lw_all := lw_g (lw_at lw_m5 98 rfl) rfl
theorem q1155 : (Jvm.Cond.static ({ cls := "StaffRailway", name := "lambda$tracks$0", desc := "(IILStaffRailway$Line;)I" } : Jvm.MethodName)) ∈ lw_all := lw_g (lw_at lw_m5 102 rfl) rfl
theorem q1156 : (Jvm.Cond.code ({ cls := "StaffRailway", name := "lambda$tracks$0", desc := "(IILStaffRailway$Line;)I" } : Jvm.MethodName) prog_1_method_77_code (4 : Nat) (Option.some Jvm.ClassFile.FieldType.int)) ∈ lw_all := lw_g (lw_at lw_m5 103 rfl) rfl
theorem q1157 : (Jvm.Cond.methodLink "StaffRailway" (126 : Nat) ({ cls := "StaffRailway$Line", name := "standing", desc := "(I)I" } : Jvm.MethodName)) ∈ lw_all := lw_g (lw_at lw_m5 104 rfl) rfl
theorem q1158 : (Jvm.Cond.methodLink "StaffRailway" (441 : Nat) ({ cls := "StaffRailway", name := "refuse", desc := "(ZII)V" } : Jvm.MethodName)) ∈ lw_all := lw_g (lw_at lw_m5 105 rfl) rfl
theorem q1159 : (Jvm.Cond.methodLink "StaffRailway" (112 : Nat) ({ cls := "StaffRailway", name := "changes", desc := "(LStaffRailway$Deed;)I" } : Jvm.MethodName)) ∈ lw_all := lw_g (lw_at lw_m5 106 rfl) rfl
theorem q1160 : (Jvm.Cond.privateMethod ({ cls := "StaffRailway", name := "changes", desc := "(LStaffRailway$Deed;)I" } : Jvm.MethodName)) ∈ lw_tbl := lw_at lw_m5 107 rfl
theorem q1161 : (Jvm.Cond.instanceMethod ({ cls := "StaffRailway", name := "changes", desc := "(LStaffRailway$Deed;)I" } : Jvm.MethodName)) ∈ lw_all := lw_g (lw_at lw_m5 108 rfl) rfl
theorem q1162 : (Jvm.Cond.codeWith ({ cls := "StaffRailway", name := "changes", desc := "(LStaffRailway$Deed;)I" } : Jvm.MethodName) prog_1_method_11_code (4 : Nat) (Option.some Jvm.ClassFile.FieldType.int) [((8 : Nat), (23 : Nat), (24 : Nat), (46 : Nat)), ((8 : Nat), (23 : Nat), (24 : Nat), (88 : Nat))]) ∈ lw_all := lw_g (lw_at lw_m5 109 rfl) rfl
theorem q1163 : (Jvm.Cond.classLink "StaffRailway" (88 : Nat) "StaffRailway$Astray") ∈ lw_all := lw_g (lw_at lw_m5 110 rfl) rfl
theorem q1164 : (Jvm.Cond.interfaceEntry "StaffRailway" (78 : Nat)) ∈ lw_tbl := lw_at lw_m5 111 rfl
theorem q1165 : (Jvm.Cond.methodLink "StaffRailway" (78 : Nat) ({ cls := "StaffRailway$Deed", name := "does", desc := "(LStaffRailway$Line;)I" } : Jvm.MethodName)) ∈ lw_all := lw_g (lw_at lw_m5 112 rfl) rfl
theorem q1168 : (Jvm.Cond.methodLink "StaffRailway" (84 : Nat) ({ cls := "StaffRailway", name := "keeps", desc := "(LStaffRailway$Line;I)I" } : Jvm.MethodName)) ∈ lw_all := lw_g (lw_at lw_m5 115 rfl) rfl
theorem q1169 : (Jvm.Cond.privateMethod ({ cls := "StaffRailway", name := "keeps", desc := "(LStaffRailway$Line;I)I" } : Jvm.MethodName)) ∈ lw_tbl := lw_at lw_m5 116 rfl
theorem q1170 : (Jvm.Cond.instanceMethod ({ cls := "StaffRailway", name := "keeps", desc := "(LStaffRailway$Line;I)I" } : Jvm.MethodName)) ∈ lw_all := lw_g (lw_at lw_m5 117 rfl) rfl
theorem q1171 : (Jvm.Cond.code ({ cls := "StaffRailway", name := "keeps", desc := "(LStaffRailway$Line;I)I" } : Jvm.MethodName) prog_1_method_10_code (3 : Nat) (Option.some Jvm.ClassFile.FieldType.int)) ∈ lw_all := lw_g (lw_at lw_m5 118 rfl) rfl
theorem q1172 : (Jvm.Cond.methodLink "StaffRailway" (62 : Nat) ({ cls := "java/util/ArrayDeque", name := "addLast", desc := "(Ljava/lang/Object;)V" } : Jvm.MethodName)) ∈ lw_all := lw_g (lw_at lw_m5 119 rfl) rfl
theorem q1205 : (Jvm.Cond.methodLink "StaffRailway" (66 : Nat) ({ cls := "java/util/ArrayDeque", name := "size", desc := "()I" } : Jvm.MethodName)) ∈ lw_all := lw_g (lw_at lw_m5 152 rfl) rfl
theorem q1212 : (Jvm.Cond.methodLink "StaffRailway" (70 : Nat) ({ cls := "java/util/ArrayDeque", name := "removeFirst", desc := "()Ljava/lang/Object;" } : Jvm.MethodName)) ∈ lw_all := lw_g (lw_at lw_m5 159 rfl) rfl
theorem q1225 : (Jvm.Cond.methodLink "StaffRailway" (90 : Nat) ({ cls := "StaffRailway", name := "told", desc := "(Ljava/lang/Exception;)Ljava/lang/RuntimeException;" } : Jvm.MethodName)) ∈ lw_all := lw_g (lw_at lw_m5 172 rfl) rfl
theorem q1226 : (Jvm.Cond.privateMethod ({ cls := "StaffRailway", name := "told", desc := "(Ljava/lang/Exception;)Ljava/lang/RuntimeException;" } : Jvm.MethodName)) ∈ lw_tbl := lw_at lw_m5 173 rfl
theorem q1227 : (Jvm.Cond.instanceMethod ({ cls := "StaffRailway", name := "told", desc := "(Ljava/lang/Exception;)Ljava/lang/RuntimeException;" } : Jvm.MethodName)) ∈ lw_all := lw_g (lw_at lw_m5 174 rfl) rfl
theorem q1228 : (Jvm.Cond.code ({ cls := "StaffRailway", name := "told", desc := "(Ljava/lang/Exception;)Ljava/lang/RuntimeException;" } : Jvm.MethodName) prog_1_method_9_code (3 : Nat) (Option.some (Jvm.ClassFile.FieldType.object "java/lang/RuntimeException"))) ∈ lw_all := lw_g (lw_at lw_m5 175 rfl) rfl
theorem q1229 : (Jvm.Cond.methodLink "StaffRailway" (58 : Nat) ({ cls := "StaffRailway", name := "kept", desc := "(LStaffRailway$Refused;)Ljava/lang/UnsupportedOperationException;" } : Jvm.MethodName)) ∈ lw_all := lw_g (lw_at lw_m5 176 rfl) rfl
theorem q1230 : (Jvm.Cond.privateMethod ({ cls := "StaffRailway", name := "kept", desc := "(LStaffRailway$Refused;)Ljava/lang/UnsupportedOperationException;" } : Jvm.MethodName)) ∈ lw_tbl := lw_at lw_m5 177 rfl
theorem q1231 : (Jvm.Cond.instanceMethod ({ cls := "StaffRailway", name := "kept", desc := "(LStaffRailway$Refused;)Ljava/lang/UnsupportedOperationException;" } : Jvm.MethodName)) ∈ lw_all := lw_g (lw_at lw_m5 178 rfl) rfl
theorem q1232 : (Jvm.Cond.code ({ cls := "StaffRailway", name := "kept", desc := "(LStaffRailway$Refused;)Ljava/lang/UnsupportedOperationException;" } : Jvm.MethodName) prog_1_method_8_code (2 : Nat) (Option.some (Jvm.ClassFile.FieldType.object "java/lang/UnsupportedOperationException"))) ∈ lw_all := lw_g (lw_at lw_m5 179 rfl) rfl
theorem q1233 : (Jvm.Cond.classLink "StaffRailway" (55 : Nat) "java/lang/UnsupportedOperationException") ∈ lw_all := lw_g (lw_at lw_m5 180 rfl) rfl
theorem q1242 : (Jvm.Cond.methodLink "StaffRailway" (57 : Nat) ({ cls := "java/lang/UnsupportedOperationException", name := "<init>", desc := "()V" } : Jvm.MethodName)) ∈ lw_all := lw_g (lw_at lw_m5 189 rfl) rfl
theorem q1252 : (Jvm.Cond.instanceMethod ({ cls := "StaffRailway", name := "stretch", desc := "(IIII)I" } : Jvm.MethodName)) ∈ lw_all := lw_g (lw_at lw_m5 199 rfl) rfl
theorem q1253 : (Jvm.Cond.selects "StaffRailway" ({ cls := "StaffRailway", name := "stretch", desc := "(IIII)I" } : Jvm.MethodName) ({ cls := "StaffRailway", name := "stretch", desc := "(IIII)I" } : Jvm.MethodName)) ∈ lw_all := lw_g (lw_at lw_m5 200 rfl) rfl
theorem q1254 : (Jvm.Cond.code ({ cls := "StaffRailway", name := "stretch", desc := "(IIII)I" } : Jvm.MethodName) prog_1_method_15_code (5 : Nat) (Option.some Jvm.ClassFile.FieldType.int)) ∈ lw_all := lw_g (lw_at lw_m5 201 rfl) rfl
theorem q1255 : (Jvm.Cond.methodLink "StaffRailway" (116 : Nat) ({ cls := "StaffRailway", name := "isStretch", desc := "(I)Z" } : Jvm.MethodName)) ∈ lw_all := lw_g (lw_at lw_m5 202 rfl) rfl
theorem q1256 : (Jvm.Cond.static ({ cls := "StaffRailway", name := "isStretch", desc := "(I)Z" } : Jvm.MethodName)) ∈ lw_all := lw_g (lw_at lw_m5 203 rfl) rfl
theorem q1257 : (Jvm.Cond.code ({ cls := "StaffRailway", name := "isStretch", desc := "(I)Z" } : Jvm.MethodName) prog_1_method_14_code (1 : Nat) (Option.some Jvm.ClassFile.FieldType.boolean)) ∈ lw_all := lw_g (lw_at lw_m5 204 rfl) rfl
theorem q1258 : (Jvm.Cond.static ({ cls := "StaffRailway", name := "lambda$stretch$1", desc := "(IIIILStaffRailway$Line;)I" } : Jvm.MethodName)) ∈ lw_all := lw_g (lw_at lw_m5 205 rfl) rfl
theorem q1259 : (Jvm.Cond.code ({ cls := "StaffRailway", name := "lambda$stretch$1", desc := "(IIIILStaffRailway$Line;)I" } : Jvm.MethodName) prog_1_method_76_code (7 : Nat) (Option.some Jvm.ClassFile.FieldType.int)) ∈ lw_all := lw_g (lw_at lw_m5 206 rfl) rfl
theorem q1260 : (Jvm.Cond.methodLink "StaffRailway" (471 : Nat) ({ cls := "StaffRailway$Line", name := "checkEmpty", desc := "(I)V" } : Jvm.MethodName)) ∈ lw_all := lw_g (lw_at lw_m5 207 rfl) rfl
theorem q1261 : (Jvm.Cond.methodLink "StaffRailway" (474 : Nat) ({ cls := "StaffRailway$Stretch", name := "sets", desc := "(III)V" } : Jvm.MethodName)) ∈ lw_all := lw_g (lw_at lw_m5 208 rfl) rfl
theorem q1266 : (Jvm.Cond.instanceMethod ({ cls := "StaffRailway", name := "stationOf", desc := "(II)I" } : Jvm.MethodName)) ∈ lw_all := lw_g (lw_at lw_m5 213 rfl) rfl
theorem q1267 : (Jvm.Cond.selects "StaffRailway" ({ cls := "StaffRailway", name := "stationOf", desc := "(II)I" } : Jvm.MethodName) ({ cls := "StaffRailway", name := "stationOf", desc := "(II)I" } : Jvm.MethodName)) ∈ lw_all := lw_g (lw_at lw_m5 214 rfl) rfl
theorem q1268 : (Jvm.Cond.code ({ cls := "StaffRailway", name := "stationOf", desc := "(II)I" } : Jvm.MethodName) prog_1_method_16_code (3 : Nat) (Option.some Jvm.ClassFile.FieldType.int)) ∈ lw_all := lw_g (lw_at lw_m5 215 rfl) rfl
theorem q1269 : (Jvm.Cond.methodLink "StaffRailway" (130 : Nat) ({ cls := "StaffRailway$Line", name := "underWayTo", desc := "(I)I" } : Jvm.MethodName)) ∈ lw_all := lw_g (lw_at lw_m5 216 rfl) rfl
theorem q1270 : (Jvm.Cond.static ({ cls := "StaffRailway", name := "lambda$stationOf$2", desc := "(ILStaffRailway$Pilotman;)Z" } : Jvm.MethodName)) ∈ lw_all := lw_g (lw_at lw_m5 217 rfl) rfl
theorem q1271 : (Jvm.Cond.code ({ cls := "StaffRailway", name := "lambda$stationOf$2", desc := "(ILStaffRailway$Pilotman;)Z" } : Jvm.MethodName) prog_1_method_75_code (2 : Nat) (Option.some Jvm.ClassFile.FieldType.boolean)) ∈ lw_all := lw_g (lw_at lw_m5 218 rfl) rfl
theorem q1272 : (Jvm.Cond.methodLink "StaffRailway" (137 : Nat) ({ cls := "StaffRailway$Line", name := "countPilotmen", desc := "(LStaffRailway$OfPilotman;)I" } : Jvm.MethodName)) ∈ lw_all := lw_g (lw_at lw_m5 219 rfl) rfl
theorem q1280 : (Jvm.Cond.instanceMethod ({ cls := "StaffRailway", name := "stretchOf", desc := "(II)I" } : Jvm.MethodName)) ∈ lw_all := lw_g (lw_at lw_m5 227 rfl) rfl
theorem q1281 : (Jvm.Cond.selects "StaffRailway" ({ cls := "StaffRailway", name := "stretchOf", desc := "(II)I" } : Jvm.MethodName) ({ cls := "StaffRailway", name := "stretchOf", desc := "(II)I" } : Jvm.MethodName)) ∈ lw_all := lw_g (lw_at lw_m5 228 rfl) rfl
theorem q1282 : (Jvm.Cond.code ({ cls := "StaffRailway", name := "stretchOf", desc := "(II)I" } : Jvm.MethodName) prog_1_method_18_code (4 : Nat) (Option.some Jvm.ClassFile.FieldType.int)) ∈ lw_all := lw_g (lw_at lw_m5 229 rfl) rfl
theorem q1283 : (Jvm.Cond.methodLink "StaffRailway" (180 : Nat) ({ cls := "StaffRailway$Line", name := "trainIn", desc := "(I)I" } : Jvm.MethodName)) ∈ lw_all := lw_g (lw_at lw_m5 230 rfl) rfl
theorem q1284 : (Jvm.Cond.methodLink "StaffRailway" (183 : Nat) ({ cls := "StaffRailway$Line", name := "pilotmanOf", desc := "(I)LStaffRailway$Pilotman;" } : Jvm.MethodName)) ∈ lw_all := lw_g (lw_at lw_m5 231 rfl) rfl
theorem q1285 : (Jvm.Cond.methodLink "StaffRailway" (187 : Nat) ({ cls := "StaffRailway", name := "numberOf", desc := "(LStaffRailway$Pilotman;)I" } : Jvm.MethodName)) ∈ lw_all := lw_g (lw_at lw_m5 232 rfl) rfl
theorem q1286 : (Jvm.Cond.static ({ cls := "StaffRailway", name := "numberOf", desc := "(LStaffRailway$Pilotman;)I" } : Jvm.MethodName)) ∈ lw_all := lw_g (lw_at lw_m5 233 rfl) rfl
theorem q1287 : (Jvm.Cond.code ({ cls := "StaffRailway", name := "numberOf", desc := "(LStaffRailway$Pilotman;)I" } : Jvm.MethodName) prog_1_method_17_code (1 : Nat) (Option.some Jvm.ClassFile.FieldType.int)) ∈ lw_all := lw_g (lw_at lw_m5 234 rfl) rfl
theorem q1292 : (Jvm.Cond.instanceMethod ({ cls := "StaffRailway", name := "train", desc := "(II)I" } : Jvm.MethodName)) ∈ lw_all := lw_g (lw_at lw_m5 239 rfl) rfl
theorem q1293 : (Jvm.Cond.selects "StaffRailway" ({ cls := "StaffRailway", name := "train", desc := "(II)I" } : Jvm.MethodName) ({ cls := "StaffRailway", name := "train", desc := "(II)I" } : Jvm.MethodName)) ∈ lw_all := lw_g (lw_at lw_m6 0 rfl) rfl
theorem q1294 : (Jvm.Cond.code ({ cls := "StaffRailway", name := "train", desc := "(II)I" } : Jvm.MethodName) prog_1_method_19_code (3 : Nat) (Option.some Jvm.ClassFile.FieldType.int)) ∈ lw_all := lw_g (lw_at lw_m6 1 rfl) rfl
theorem q1295 : (Jvm.Cond.static ({ cls := "StaffRailway", name := "lambda$train$3", desc := "(IILStaffRailway$Line;)I" } : Jvm.MethodName)) ∈ lw_all := lw_g (lw_at lw_m6 2 rfl) rfl
theorem q1296 : (Jvm.Cond.code ({ cls := "StaffRailway", name := "lambda$train$3", desc := "(IILStaffRailway$Line;)I" } : Jvm.MethodName) prog_1_method_74_code (3 : Nat) (Option.some Jvm.ClassFile.FieldType.int)) ∈ lw_all := lw_g (lw_at lw_m6 3 rfl) rfl
theorem q1297 : (Jvm.Cond.methodLink "StaffRailway" (468 : Nat) ({ cls := "StaffRailway$Line", name := "addsTrain", desc := "(II)I" } : Jvm.MethodName)) ∈ lw_all := lw_g (lw_at lw_m6 4 rfl) rfl
theorem q1309 : (Jvm.Cond.instanceMethod ({ cls := "StaffRailway", name := "remove", desc := "(I)I" } : Jvm.MethodName)) ∈ lw_all := lw_g (lw_at lw_m6 16 rfl) rfl
theorem q1310 : (Jvm.Cond.selects "StaffRailway" ({ cls := "StaffRailway", name := "remove", desc := "(I)I" } : Jvm.MethodName) ({ cls := "StaffRailway", name := "remove", desc := "(I)I" } : Jvm.MethodName)) ∈ lw_all := lw_g (lw_at lw_m6 17 rfl) rfl
theorem q1311 : (Jvm.Cond.code ({ cls := "StaffRailway", name := "remove", desc := "(I)I" } : Jvm.MethodName) prog_1_method_20_code (2 : Nat) (Option.some Jvm.ClassFile.FieldType.int)) ∈ lw_all := lw_g (lw_at lw_m6 18 rfl) rfl
theorem q1312 : (Jvm.Cond.static ({ cls := "StaffRailway", name := "lambda$remove$4", desc := "(ILStaffRailway$Line;)I" } : Jvm.MethodName)) ∈ lw_all := lw_g (lw_at lw_m6 19 rfl) rfl
theorem q1313 : (Jvm.Cond.code ({ cls := "StaffRailway", name := "lambda$remove$4", desc := "(ILStaffRailway$Line;)I" } : Jvm.MethodName) prog_1_method_73_code (2 : Nat) (Option.some Jvm.ClassFile.FieldType.int)) ∈ lw_all := lw_g (lw_at lw_m6 20 rfl) rfl
theorem q1314 : (Jvm.Cond.methodLink "StaffRailway" (465 : Nat) ({ cls := "StaffRailway$Line", name := "removes", desc := "(I)I" } : Jvm.MethodName)) ∈ lw_all := lw_g (lw_at lw_m6 21 rfl) rfl
theorem q1340 : (Jvm.Cond.instanceMethod ({ cls := "StaffRailway", name := "divide", desc := "(II)I" } : Jvm.MethodName)) ∈ lw_all := lw_g (lw_at lw_m6 47 rfl) rfl
theorem q1341 : (Jvm.Cond.selects "StaffRailway" ({ cls := "StaffRailway", name := "divide", desc := "(II)I" } : Jvm.MethodName) ({ cls := "StaffRailway", name := "divide", desc := "(II)I" } : Jvm.MethodName)) ∈ lw_all := lw_g (lw_at lw_m6 48 rfl) rfl
theorem q1342 : (Jvm.Cond.code ({ cls := "StaffRailway", name := "divide", desc := "(II)I" } : Jvm.MethodName) prog_1_method_21_code (3 : Nat) (Option.some Jvm.ClassFile.FieldType.int)) ∈ lw_all := lw_g (lw_at lw_m6 49 rfl) rfl
theorem q1343 : (Jvm.Cond.static ({ cls := "StaffRailway", name := "lambda$divide$5", desc := "(IILStaffRailway$Line;)I" } : Jvm.MethodName)) ∈ lw_all := lw_g (lw_at lw_m6 50 rfl) rfl
theorem q1344 : (Jvm.Cond.code ({ cls := "StaffRailway", name := "lambda$divide$5", desc := "(IILStaffRailway$Line;)I" } : Jvm.MethodName) prog_1_method_72_code (3 : Nat) (Option.some Jvm.ClassFile.FieldType.int)) ∈ lw_all := lw_g (lw_at lw_m6 51 rfl) rfl
theorem q1345 : (Jvm.Cond.methodLink "StaffRailway" (462 : Nat) ({ cls := "StaffRailway$Line", name := "divides", desc := "(II)I" } : Jvm.MethodName)) ∈ lw_all := lw_g (lw_at lw_m6 52 rfl) rfl
theorem q1354 : (Jvm.Cond.instanceMethod ({ cls := "StaffRailway", name := "couple", desc := "(II)I" } : Jvm.MethodName)) ∈ lw_all := lw_g (lw_at lw_m6 61 rfl) rfl
theorem q1355 : (Jvm.Cond.selects "StaffRailway" ({ cls := "StaffRailway", name := "couple", desc := "(II)I" } : Jvm.MethodName) ({ cls := "StaffRailway", name := "couple", desc := "(II)I" } : Jvm.MethodName)) ∈ lw_all := lw_g (lw_at lw_m6 62 rfl) rfl
theorem q1356 : (Jvm.Cond.code ({ cls := "StaffRailway", name := "couple", desc := "(II)I" } : Jvm.MethodName) prog_1_method_22_code (3 : Nat) (Option.some Jvm.ClassFile.FieldType.int)) ∈ lw_all := lw_g (lw_at lw_m6 63 rfl) rfl
theorem q1357 : (Jvm.Cond.static ({ cls := "StaffRailway", name := "lambda$couple$6", desc := "(IILStaffRailway$Line;)I" } : Jvm.MethodName)) ∈ lw_all := lw_g (lw_at lw_m6 64 rfl) rfl
theorem q1358 : (Jvm.Cond.code ({ cls := "StaffRailway", name := "lambda$couple$6", desc := "(IILStaffRailway$Line;)I" } : Jvm.MethodName) prog_1_method_71_code (3 : Nat) (Option.some Jvm.ClassFile.FieldType.int)) ∈ lw_all := lw_g (lw_at lw_m6 65 rfl) rfl
theorem q1359 : (Jvm.Cond.methodLink "StaffRailway" (459 : Nat) ({ cls := "StaffRailway$Line", name := "couples", desc := "(II)I" } : Jvm.MethodName)) ∈ lw_all := lw_g (lw_at lw_m6 66 rfl) rfl
theorem q1371 : (Jvm.Cond.instanceMethod ({ cls := "StaffRailway", name := "trainOf", desc := "(II)I" } : Jvm.MethodName)) ∈ lw_all := lw_g (lw_at lw_m6 78 rfl) rfl
theorem q1372 : (Jvm.Cond.selects "StaffRailway" ({ cls := "StaffRailway", name := "trainOf", desc := "(II)I" } : Jvm.MethodName) ({ cls := "StaffRailway", name := "trainOf", desc := "(II)I" } : Jvm.MethodName)) ∈ lw_all := lw_g (lw_at lw_m6 79 rfl) rfl
theorem q1373 : (Jvm.Cond.code ({ cls := "StaffRailway", name := "trainOf", desc := "(II)I" } : Jvm.MethodName) prog_1_method_23_code (4 : Nat) (Option.some Jvm.ClassFile.FieldType.int)) ∈ lw_all := lw_g (lw_at lw_m6 80 rfl) rfl
theorem q1374 : (Jvm.Cond.methodLink "StaffRailway" (204 : Nat) ({ cls := "java/util/ArrayList", name := "get", desc := "(I)Ljava/lang/Object;" } : Jvm.MethodName)) ∈ lw_all := lw_g (lw_at lw_m6 81 rfl) rfl
theorem q1375 : (Jvm.Cond.classLink "StaffRailway" (208 : Nat) "StaffRailway$Train") ∈ lw_all := lw_g (lw_at lw_m6 82 rfl) rfl
theorem q1380 : (Jvm.Cond.instanceMethod ({ cls := "StaffRailway", name := "send", desc := "(II)I" } : Jvm.MethodName)) ∈ lw_all := lw_g (lw_at lw_m6 87 rfl) rfl
theorem q1381 : (Jvm.Cond.selects "StaffRailway" ({ cls := "StaffRailway", name := "send", desc := "(II)I" } : Jvm.MethodName) ({ cls := "StaffRailway", name := "send", desc := "(II)I" } : Jvm.MethodName)) ∈ lw_all := lw_g (lw_at lw_m6 88 rfl) rfl
theorem q1382 : (Jvm.Cond.code ({ cls := "StaffRailway", name := "send", desc := "(II)I" } : Jvm.MethodName) prog_1_method_24_code (3 : Nat) (Option.some Jvm.ClassFile.FieldType.int)) ∈ lw_all := lw_g (lw_at lw_m6 89 rfl) rfl
theorem q1383 : (Jvm.Cond.static ({ cls := "StaffRailway", name := "lambda$send$7", desc := "(IILStaffRailway$Line;)I" } : Jvm.MethodName)) ∈ lw_all := lw_g (lw_at lw_m6 90 rfl) rfl
theorem q1384 : (Jvm.Cond.code ({ cls := "StaffRailway", name := "lambda$send$7", desc := "(IILStaffRailway$Line;)I" } : Jvm.MethodName) prog_1_method_70_code (3 : Nat) (Option.some Jvm.ClassFile.FieldType.int)) ∈ lw_all := lw_g (lw_at lw_m6 91 rfl) rfl
theorem q1385 : (Jvm.Cond.methodLink "StaffRailway" (306 : Nat) ({ cls := "StaffRailway$Line", name := "sends", desc := "(II)I" } : Jvm.MethodName)) ∈ lw_all := lw_g (lw_at lw_m6 92 rfl) rfl
theorem q1443 : (Jvm.Cond.instanceMethod ({ cls := "StaffRailway", name := "pass", desc := "(I)I" } : Jvm.MethodName)) ∈ lw_all := lw_g (lw_at lw_m6 150 rfl) rfl
theorem q1444 : (Jvm.Cond.selects "StaffRailway" ({ cls := "StaffRailway", name := "pass", desc := "(I)I" } : Jvm.MethodName) ({ cls := "StaffRailway", name := "pass", desc := "(I)I" } : Jvm.MethodName)) ∈ lw_all := lw_g (lw_at lw_m6 151 rfl) rfl
theorem q1445 : (Jvm.Cond.code ({ cls := "StaffRailway", name := "pass", desc := "(I)I" } : Jvm.MethodName) prog_1_method_25_code (2 : Nat) (Option.some Jvm.ClassFile.FieldType.int)) ∈ lw_all := lw_g (lw_at lw_m6 152 rfl) rfl
theorem q1446 : (Jvm.Cond.static ({ cls := "StaffRailway", name := "lambda$pass$8", desc := "(ILStaffRailway$Line;)I" } : Jvm.MethodName)) ∈ lw_all := lw_g (lw_at lw_m6 153 rfl) rfl
theorem q1447 : (Jvm.Cond.code ({ cls := "StaffRailway", name := "lambda$pass$8", desc := "(ILStaffRailway$Line;)I" } : Jvm.MethodName) prog_1_method_69_code (2 : Nat) (Option.some Jvm.ClassFile.FieldType.int)) ∈ lw_all := lw_g (lw_at lw_m6 154 rfl) rfl
theorem q1448 : (Jvm.Cond.methodLink "StaffRailway" (456 : Nat) ({ cls := "StaffRailway$Line", name := "passes", desc := "(I)I" } : Jvm.MethodName)) ∈ lw_all := lw_g (lw_at lw_m6 155 rfl) rfl
theorem q1470 : (Jvm.Cond.instanceMethod ({ cls := "StaffRailway", name := "lose", desc := "(I)I" } : Jvm.MethodName)) ∈ lw_all := lw_g (lw_at lw_m6 177 rfl) rfl
theorem q1471 : (Jvm.Cond.selects "StaffRailway" ({ cls := "StaffRailway", name := "lose", desc := "(I)I" } : Jvm.MethodName) ({ cls := "StaffRailway", name := "lose", desc := "(I)I" } : Jvm.MethodName)) ∈ lw_all := lw_g (lw_at lw_m6 178 rfl) rfl
theorem q1472 : (Jvm.Cond.code ({ cls := "StaffRailway", name := "lose", desc := "(I)I" } : Jvm.MethodName) prog_1_method_26_code (2 : Nat) (Option.some Jvm.ClassFile.FieldType.int)) ∈ lw_all := lw_g (lw_at lw_m6 179 rfl) rfl
theorem q1473 : (Jvm.Cond.static ({ cls := "StaffRailway", name := "lambda$lose$9", desc := "(ILStaffRailway$Line;)I" } : Jvm.MethodName)) ∈ lw_all := lw_g (lw_at lw_m6 180 rfl) rfl
theorem q1474 : (Jvm.Cond.code ({ cls := "StaffRailway", name := "lambda$lose$9", desc := "(ILStaffRailway$Line;)I" } : Jvm.MethodName) prog_1_method_68_code (2 : Nat) (Option.some Jvm.ClassFile.FieldType.int)) ∈ lw_all := lw_g (lw_at lw_m6 181 rfl) rfl
theorem q1475 : (Jvm.Cond.methodLink "StaffRailway" (453 : Nat) ({ cls := "StaffRailway$Line", name := "loses", desc := "(I)I" } : Jvm.MethodName)) ∈ lw_all := lw_g (lw_at lw_m6 182 rfl) rfl
theorem q1487 : (Jvm.Cond.instanceMethod ({ cls := "StaffRailway", name := "find", desc := "(II)I" } : Jvm.MethodName)) ∈ lw_all := lw_g (lw_at lw_m6 194 rfl) rfl
theorem q1488 : (Jvm.Cond.selects "StaffRailway" ({ cls := "StaffRailway", name := "find", desc := "(II)I" } : Jvm.MethodName) ({ cls := "StaffRailway", name := "find", desc := "(II)I" } : Jvm.MethodName)) ∈ lw_all := lw_g (lw_at lw_m6 195 rfl) rfl
theorem q1489 : (Jvm.Cond.code ({ cls := "StaffRailway", name := "find", desc := "(II)I" } : Jvm.MethodName) prog_1_method_27_code (3 : Nat) (Option.some Jvm.ClassFile.FieldType.int)) ∈ lw_all := lw_g (lw_at lw_m6 196 rfl) rfl
theorem q1490 : (Jvm.Cond.static ({ cls := "StaffRailway", name := "lambda$find$10", desc := "(IILStaffRailway$Line;)I" } : Jvm.MethodName)) ∈ lw_all := lw_g (lw_at lw_m6 197 rfl) rfl
theorem q1491 : (Jvm.Cond.code ({ cls := "StaffRailway", name := "lambda$find$10", desc := "(IILStaffRailway$Line;)I" } : Jvm.MethodName) prog_1_method_67_code (3 : Nat) (Option.some Jvm.ClassFile.FieldType.int)) ∈ lw_all := lw_g (lw_at lw_m6 198 rfl) rfl
theorem q1492 : (Jvm.Cond.methodLink "StaffRailway" (450 : Nat) ({ cls := "StaffRailway$Line", name := "finds", desc := "(II)I" } : Jvm.MethodName)) ∈ lw_all := lw_g (lw_at lw_m6 199 rfl) rfl
theorem q1522 : (Jvm.Cond.instanceMethod ({ cls := "StaffRailway", name := "pilotman", desc := "(I)I" } : Jvm.MethodName)) ∈ lw_all := lw_g (lw_at lw_m6 229 rfl) rfl
theorem q1523 : (Jvm.Cond.selects "StaffRailway" ({ cls := "StaffRailway", name := "pilotman", desc := "(I)I" } : Jvm.MethodName) ({ cls := "StaffRailway", name := "pilotman", desc := "(I)I" } : Jvm.MethodName)) ∈ lw_all := lw_g (lw_at lw_m6 230 rfl) rfl
theorem q1524 : (Jvm.Cond.code ({ cls := "StaffRailway", name := "pilotman", desc := "(I)I" } : Jvm.MethodName) prog_1_method_28_code (2 : Nat) (Option.some Jvm.ClassFile.FieldType.int)) ∈ lw_all := lw_g (lw_at lw_m6 231 rfl) rfl
theorem q1525 : (Jvm.Cond.static ({ cls := "StaffRailway", name := "lambda$pilotman$11", desc := "(ILStaffRailway$Line;)I" } : Jvm.MethodName)) ∈ lw_all := lw_g (lw_at lw_m6 232 rfl) rfl
theorem q1526 : (Jvm.Cond.code ({ cls := "StaffRailway", name := "lambda$pilotman$11", desc := "(ILStaffRailway$Line;)I" } : Jvm.MethodName) prog_1_method_66_code (3 : Nat) (Option.some Jvm.ClassFile.FieldType.int)) ∈ lw_all := lw_g (lw_at lw_m6 233 rfl) rfl
theorem q1527 : (Jvm.Cond.classLink "StaffRailway" (151 : Nat) "StaffRailway$Pilotman") ∈ lw_all := lw_g (lw_at lw_m6 234 rfl) rfl
theorem q1528 : (Jvm.Cond.methodLink "StaffRailway" (445 : Nat) ({ cls := "StaffRailway$Pilotman", name := "<init>", desc := "(II)V" } : Jvm.MethodName)) ∈ lw_all := lw_g (lw_at lw_m6 235 rfl) rfl
theorem q1529 : (Jvm.Cond.methodLink "StaffRailway" (446 : Nat) ({ cls := "java/util/ArrayList", name := "add", desc := "(Ljava/lang/Object;)Z" } : Jvm.MethodName)) ∈ lw_all := lw_g (lw_at lw_m6 236 rfl) rfl
theorem q1534 : (Jvm.Cond.instanceMethod ({ cls := "StaffRailway", name := "walk", desc := "(II)I" } : Jvm.MethodName)) ∈ lw_all := lw_g (lw_at lw_m7 1 rfl) rfl
theorem q1535 : (Jvm.Cond.selects "StaffRailway" ({ cls := "StaffRailway", name := "walk", desc := "(II)I" } : Jvm.MethodName) ({ cls := "StaffRailway", name := "walk", desc := "(II)I" } : Jvm.MethodName)) ∈ lw_all := lw_g (lw_at lw_m7 2 rfl) rfl
theorem q1536 : (Jvm.Cond.code ({ cls := "StaffRailway", name := "walk", desc := "(II)I" } : Jvm.MethodName) prog_1_method_29_code (3 : Nat) (Option.some Jvm.ClassFile.FieldType.int)) ∈ lw_all := lw_g (lw_at lw_m7 3 rfl) rfl
theorem q1537 : (Jvm.Cond.static ({ cls := "StaffRailway", name := "lambda$walk$12", desc := "(IILStaffRailway$Line;)I" } : Jvm.MethodName)) ∈ lw_all := lw_g (lw_at lw_m7 4 rfl) rfl
theorem q1538 : (Jvm.Cond.code ({ cls := "StaffRailway", name := "lambda$walk$12", desc := "(IILStaffRailway$Line;)I" } : Jvm.MethodName) prog_1_method_65_code (3 : Nat) (Option.some Jvm.ClassFile.FieldType.int)) ∈ lw_all := lw_g (lw_at lw_m7 5 rfl) rfl
theorem q1539 : (Jvm.Cond.methodLink "StaffRailway" (438 : Nat) ({ cls := "StaffRailway$Line", name := "walks", desc := "(II)I" } : Jvm.MethodName)) ∈ lw_all := lw_g (lw_at lw_m7 6 rfl) rfl
theorem q1551 : (Jvm.Cond.instanceMethod ({ cls := "StaffRailway", name := "appoint", desc := "(II)I" } : Jvm.MethodName)) ∈ lw_all := lw_g (lw_at lw_m7 18 rfl) rfl
theorem q1552 : (Jvm.Cond.selects "StaffRailway" ({ cls := "StaffRailway", name := "appoint", desc := "(II)I" } : Jvm.MethodName) ({ cls := "StaffRailway", name := "appoint", desc := "(II)I" } : Jvm.MethodName)) ∈ lw_all := lw_g (lw_at lw_m7 19 rfl) rfl
theorem q1553 : (Jvm.Cond.code ({ cls := "StaffRailway", name := "appoint", desc := "(II)I" } : Jvm.MethodName) prog_1_method_30_code (3 : Nat) (Option.some Jvm.ClassFile.FieldType.int)) ∈ lw_all := lw_g (lw_at lw_m7 20 rfl) rfl
theorem q1554 : (Jvm.Cond.static ({ cls := "StaffRailway", name := "lambda$appoint$13", desc := "(IILStaffRailway$Line;)I" } : Jvm.MethodName)) ∈ lw_all := lw_g (lw_at lw_m7 21 rfl) rfl
theorem q1555 : (Jvm.Cond.code ({ cls := "StaffRailway", name := "lambda$appoint$13", desc := "(IILStaffRailway$Line;)I" } : Jvm.MethodName) prog_1_method_64_code (3 : Nat) (Option.some Jvm.ClassFile.FieldType.int)) ∈ lw_all := lw_g (lw_at lw_m7 22 rfl) rfl
theorem q1556 : (Jvm.Cond.methodLink "StaffRailway" (435 : Nat) ({ cls := "StaffRailway$Line", name := "appoints", desc := "(II)I" } : Jvm.MethodName)) ∈ lw_all := lw_g (lw_at lw_m7 23 rfl) rfl
theorem q1564 : (Jvm.Cond.instanceMethod ({ cls := "StaffRailway", name := "pilotmanOf", desc := "(II)I" } : Jvm.MethodName)) ∈ lw_all := lw_g (lw_at lw_m7 31 rfl) rfl
theorem q1565 : (Jvm.Cond.selects "StaffRailway" ({ cls := "StaffRailway", name := "pilotmanOf", desc := "(II)I" } : Jvm.MethodName) ({ cls := "StaffRailway", name := "pilotmanOf", desc := "(II)I" } : Jvm.MethodName)) ∈ lw_all := lw_g (lw_at lw_m7 32 rfl) rfl
theorem q1566 : (Jvm.Cond.code ({ cls := "StaffRailway", name := "pilotmanOf", desc := "(II)I" } : Jvm.MethodName) prog_1_method_32_code (4 : Nat) (Option.some Jvm.ClassFile.FieldType.int)) ∈ lw_all := lw_g (lw_at lw_m7 33 rfl) rfl
theorem q1567 : (Jvm.Cond.methodLink "StaffRailway" (244 : Nat) ({ cls := "StaffRailway", name := "trainWith", desc := "(LStaffRailway$Pilotman;)I" } : Jvm.MethodName)) ∈ lw_all := lw_g (lw_at lw_m7 34 rfl) rfl
theorem q1568 : (Jvm.Cond.privateMethod ({ cls := "StaffRailway", name := "trainWith", desc := "(LStaffRailway$Pilotman;)I" } : Jvm.MethodName)) ∈ lw_tbl := lw_at lw_m7 35 rfl
theorem q1569 : (Jvm.Cond.instanceMethod ({ cls := "StaffRailway", name := "trainWith", desc := "(LStaffRailway$Pilotman;)I" } : Jvm.MethodName)) ∈ lw_all := lw_g (lw_at lw_m7 36 rfl) rfl
theorem q1570 : (Jvm.Cond.code ({ cls := "StaffRailway", name := "trainWith", desc := "(LStaffRailway$Pilotman;)I" } : Jvm.MethodName) prog_1_method_31_code (3 : Nat) (Option.some Jvm.ClassFile.FieldType.int)) ∈ lw_all := lw_g (lw_at lw_m7 37 rfl) rfl
theorem q1576 : (Jvm.Cond.instanceMethod ({ cls := "StaffRailway", name := "why", desc := "(IIIZ)I" } : Jvm.MethodName)) ∈ lw_all := lw_g (lw_at lw_m7 43 rfl) rfl
theorem q1577 : (Jvm.Cond.selects "StaffRailway" ({ cls := "StaffRailway", name := "why", desc := "(IIIZ)I" } : Jvm.MethodName) ({ cls := "StaffRailway", name := "why", desc := "(IIIZ)I" } : Jvm.MethodName)) ∈ lw_all := lw_g (lw_at lw_m7 44 rfl) rfl
theorem q1578 : (Jvm.Cond.codeWith ({ cls := "StaffRailway", name := "why", desc := "(IIIZ)I" } : Jvm.MethodName) prog_1_method_34_code (6 : Nat) (Option.some Jvm.ClassFile.FieldType.int) [((12 : Nat), (22 : Nat), (23 : Nat), (46 : Nat))]) ∈ lw_all := lw_g (lw_at lw_m7 45 rfl) rfl
theorem q1579 : (Jvm.Cond.methodLink "StaffRailway" (257 : Nat) ({ cls := "StaffRailway$Line", name := "checkSend", desc := "(II)V" } : Jvm.MethodName)) ∈ lw_all := lw_g (lw_at lw_m7 46 rfl) rfl
theorem q1580 : (Jvm.Cond.methodLink "StaffRailway" (260 : Nat) ({ cls := "StaffRailway", name := "behind", desc := "(LStaffRailway$Refused;IZ)I" } : Jvm.MethodName)) ∈ lw_all := lw_g (lw_at lw_m7 47 rfl) rfl
theorem q1581 : (Jvm.Cond.static ({ cls := "StaffRailway", name := "behind", desc := "(LStaffRailway$Refused;IZ)I" } : Jvm.MethodName)) ∈ lw_all := lw_g (lw_at lw_m7 48 rfl) rfl
theorem q1582 : (Jvm.Cond.code ({ cls := "StaffRailway", name := "behind", desc := "(LStaffRailway$Refused;IZ)I" } : Jvm.MethodName) prog_1_method_33_code (4 : Nat) (Option.some Jvm.ClassFile.FieldType.int)) ∈ lw_all := lw_g (lw_at lw_m7 49 rfl) rfl
theorem q1583 : (Jvm.Cond.methodLink "StaffRailway" (247 : Nat) ({ cls := "StaffRailway$Refused", name := "behind", desc := "(I)LStaffRailway$Refused;" } : Jvm.MethodName)) ∈ lw_all := lw_g (lw_at lw_m7 50 rfl) rfl
theorem q1603 : (Jvm.Cond.methodLink "StaffRailway" (251 : Nat) ({ cls := "StaffRailway", name := "checkElement", desc := "(Z)V" } : Jvm.MethodName)) ∈ lw_all := lw_g (lw_at lw_m7 70 rfl) rfl
theorem q1604 : (Jvm.Cond.static ({ cls := "StaffRailway", name := "checkElement", desc := "(Z)V" } : Jvm.MethodName)) ∈ lw_all := lw_g (lw_at lw_m7 71 rfl) rfl
theorem q1605 : (Jvm.Cond.code ({ cls := "StaffRailway", name := "checkElement", desc := "(Z)V" } : Jvm.MethodName) prog_1_method_6_code (1 : Nat) (Option.none : Option Jvm.ClassFile.FieldType)) ∈ lw_all := lw_g (lw_at lw_m7 72 rfl) rfl
theorem q1606 : (Jvm.Cond.classLink "StaffRailway" (43 : Nat) "java/util/NoSuchElementException") ∈ lw_all := lw_g (lw_at lw_m7 73 rfl) rfl
theorem q1607 : (Jvm.Cond.methodLink "StaffRailway" (45 : Nat) ({ cls := "java/util/NoSuchElementException", name := "<init>", desc := "()V" } : Jvm.MethodName)) ∈ lw_all := lw_g (lw_at lw_m7 74 rfl) rfl
theorem q1608 : (Jvm.Cond.methodLink "StaffRailway" (254 : Nat) ({ cls := "StaffRailway$Refused", name := "told", desc := "(Z)I" } : Jvm.MethodName)) ∈ lw_all := lw_g (lw_at lw_m7 75 rfl) rfl
theorem q1616 : (Jvm.Cond.instanceMethod ({ cls := "StaffRailway", name := "reach", desc := "(IZ)I" } : Jvm.MethodName)) ∈ lw_all := lw_g (lw_at lw_m7 83 rfl) rfl
theorem q1617 : (Jvm.Cond.selects "StaffRailway" ({ cls := "StaffRailway", name := "reach", desc := "(IZ)I" } : Jvm.MethodName) ({ cls := "StaffRailway", name := "reach", desc := "(IZ)I" } : Jvm.MethodName)) ∈ lw_all := lw_g (lw_at lw_m7 84 rfl) rfl
theorem q1618 : (Jvm.Cond.codeWith ({ cls := "StaffRailway", name := "reach", desc := "(IZ)I" } : Jvm.MethodName) prog_1_method_38_code (7 : Nat) (Option.some Jvm.ClassFile.FieldType.int) [((0 : Nat), (59 : Nat), (60 : Nat), (46 : Nat))]) ∈ lw_all := lw_g (lw_at lw_m7 85 rfl) rfl
theorem q1619 : (Jvm.Cond.methodLink "StaffRailway" (279 : Nat) ({ cls := "StaffRailway", name := "standing", desc := "(I)LStaffRailway$Train;" } : Jvm.MethodName)) ∈ lw_all := lw_g (lw_at lw_m7 86 rfl) rfl
theorem q1620 : (Jvm.Cond.privateMethod ({ cls := "StaffRailway", name := "standing", desc := "(I)LStaffRailway$Train;" } : Jvm.MethodName)) ∈ lw_tbl := lw_at lw_m7 87 rfl
theorem q1621 : (Jvm.Cond.instanceMethod ({ cls := "StaffRailway", name := "standing", desc := "(I)LStaffRailway$Train;" } : Jvm.MethodName)) ∈ lw_all := lw_g (lw_at lw_m7 88 rfl) rfl
theorem q1622 : (Jvm.Cond.code ({ cls := "StaffRailway", name := "standing", desc := "(I)LStaffRailway$Train;" } : Jvm.MethodName) prog_1_method_37_code (2 : Nat) (Option.some (Jvm.ClassFile.FieldType.object "StaffRailway$Train"))) ∈ lw_all := lw_g (lw_at lw_m7 89 rfl) rfl
theorem q1623 : (Jvm.Cond.methodLink "StaffRailway" (272 : Nat) ({ cls := "StaffRailway$Line", name := "checkTrain", desc := "(I)V" } : Jvm.MethodName)) ∈ lw_all := lw_g (lw_at lw_m7 90 rfl) rfl
theorem q1624 : (Jvm.Cond.methodLink "StaffRailway" (276 : Nat) ({ cls := "StaffRailway$Line", name := "checkStands", desc := "(I)V" } : Jvm.MethodName)) ∈ lw_all := lw_g (lw_at lw_m7 91 rfl) rfl
theorem q1625 : (Jvm.Cond.methodLink "StaffRailway" (282 : Nat) ({ cls := "StaffRailway", name := "way", desc := "(LStaffRailway$Train;Z)Ljava/lang/Iterable;" } : Jvm.MethodName)) ∈ lw_all := lw_g (lw_at lw_m7 92 rfl) rfl
theorem q1626 : (Jvm.Cond.privateMethod ({ cls := "StaffRailway", name := "way", desc := "(LStaffRailway$Train;Z)Ljava/lang/Iterable;" } : Jvm.MethodName)) ∈ lw_tbl := lw_at lw_m7 93 rfl
theorem q1627 : (Jvm.Cond.instanceMethod ({ cls := "StaffRailway", name := "way", desc := "(LStaffRailway$Train;Z)Ljava/lang/Iterable;" } : Jvm.MethodName)) ∈ lw_all := lw_g (lw_at lw_m7 94 rfl) rfl
theorem q1628 : (Jvm.Cond.code ({ cls := "StaffRailway", name := "way", desc := "(LStaffRailway$Train;Z)Ljava/lang/Iterable;" } : Jvm.MethodName) prog_1_method_36_code (4 : Nat) (Option.some (Jvm.ClassFile.FieldType.object "java/lang/Iterable"))) ∈ lw_all := lw_g (lw_at lw_m7 95 rfl) rfl
theorem q1629 : (Jvm.Cond.classLink "StaffRailway" (267 : Nat) "StaffRailway$1") ∈ lw_all := lw_g (lw_at lw_m7 96 rfl) rfl
theorem q1631 : (Jvm.Cond.methodLink "StaffRailway" (269 : Nat) ({ cls := "StaffRailway$1", name := "<init>", desc := "(LStaffRailway;ILStaffRailway$Train;)V" } : Jvm.MethodName)) ∈ lw_all := lw_g (lw_at lw_m7 98 rfl) rfl
theorem q1645 : (Jvm.Cond.interfaceEntry "StaffRailway" (286 : Nat)) ∈ lw_tbl := lw_at lw_m7 112 rfl
theorem q1646 : (Jvm.Cond.methodLink "StaffRailway" (286 : Nat) ({ cls := "java/lang/Iterable", name := "iterator", desc := "()Ljava/util/Iterator;" } : Jvm.MethodName)) ∈ lw_all := lw_g (lw_at lw_m7 113 rfl) rfl
theorem q1723 : (Jvm.Cond.interfaceEntry "StaffRailway" (292 : Nat)) ∈ lw_tbl := lw_at lw_m7 190 rfl
theorem q1724 : (Jvm.Cond.methodLink "StaffRailway" (292 : Nat) ({ cls := "java/util/Iterator", name := "hasNext", desc := "()Z" } : Jvm.MethodName)) ∈ lw_all := lw_g (lw_at lw_m7 191 rfl) rfl
theorem q1725 : (Jvm.Cond.interfaceEntry "StaffRailway" (298 : Nat)) ∈ lw_tbl := lw_at lw_m7 192 rfl
theorem q1726 : (Jvm.Cond.methodLink "StaffRailway" (298 : Nat) ({ cls := "java/util/Iterator", name := "next", desc := "()Ljava/lang/Object;" } : Jvm.MethodName)) ∈ lw_all := lw_g (lw_at lw_m7 193 rfl) rfl
theorem q1727 : (Jvm.Cond.classLink "StaffRailway" (301 : Nat) "java/lang/Integer") ∈ lw_all := lw_g (lw_at lw_m7 194 rfl) rfl
theorem q1728 : (Jvm.Cond.methodLink "StaffRailway" (303 : Nat) ({ cls := "java/lang/Integer", name := "intValue", desc := "()I" } : Jvm.MethodName)) ∈ lw_all := lw_g (lw_at lw_m7 195 rfl) rfl
theorem q1736 : (Jvm.Cond.instanceMethod ({ cls := "StaffRailway", name := "reachAgain", desc := "(IZ)I" } : Jvm.MethodName)) ∈ lw_all := lw_g (lw_at lw_m7 203 rfl) rfl
theorem q1737 : (Jvm.Cond.selects "StaffRailway" ({ cls := "StaffRailway", name := "reachAgain", desc := "(IZ)I" } : Jvm.MethodName) ({ cls := "StaffRailway", name := "reachAgain", desc := "(IZ)I" } : Jvm.MethodName)) ∈ lw_all := lw_g (lw_at lw_m7 204 rfl) rfl
theorem q1738 : (Jvm.Cond.codeWith ({ cls := "StaffRailway", name := "reachAgain", desc := "(IZ)I" } : Jvm.MethodName) prog_1_method_40_code (7 : Nat) (Option.some Jvm.ClassFile.FieldType.int) [((0 : Nat), (69 : Nat), (70 : Nat), (46 : Nat))]) ∈ lw_all := lw_g (lw_at lw_m7 205 rfl) rfl
theorem q1739 : (Jvm.Cond.methodLink "StaffRailway" (313 : Nat) ({ cls := "StaffRailway", name := "goesOn", desc := "(LStaffRailway$Line;II)Z" } : Jvm.MethodName)) ∈ lw_all := lw_g (lw_at lw_m7 206 rfl) rfl
theorem q1740 : (Jvm.Cond.static ({ cls := "StaffRailway", name := "goesOn", desc := "(LStaffRailway$Line;II)Z" } : Jvm.MethodName)) ∈ lw_all := lw_g (lw_at lw_m7 207 rfl) rfl
theorem q1741 : (Jvm.Cond.codeWith ({ cls := "StaffRailway", name := "goesOn", desc := "(LStaffRailway$Line;II)Z" } : Jvm.MethodName) prog_1_method_39_code (5 : Nat) (Option.some Jvm.ClassFile.FieldType.boolean) [((0 : Nat), (26 : Nat), (27 : Nat), (46 : Nat))]) ∈ lw_all := lw_g (lw_at lw_m7 208 rfl) rfl
theorem q1742 : (Jvm.Cond.methodLink "StaffRailway" (310 : Nat) ({ cls := "StaffRailway$Line", name := "goesOn", desc := "(I)Z" } : Jvm.MethodName)) ∈ lw_all := lw_g (lw_at lw_m7 209 rfl) rfl
theorem q1747 : (Jvm.Cond.instanceMethod ({ cls := "StaffRailway", name := "minutes", desc := "(IZ)I" } : Jvm.MethodName)) ∈ lw_all := lw_g (lw_at lw_m7 214 rfl) rfl
theorem q1748 : (Jvm.Cond.selects "StaffRailway" ({ cls := "StaffRailway", name := "minutes", desc := "(IZ)I" } : Jvm.MethodName) ({ cls := "StaffRailway", name := "minutes", desc := "(IZ)I" } : Jvm.MethodName)) ∈ lw_all := lw_g (lw_at lw_m7 215 rfl) rfl
theorem q1749 : (Jvm.Cond.codeWith ({ cls := "StaffRailway", name := "minutes", desc := "(IZ)I" } : Jvm.MethodName) prog_1_method_41_code (8 : Nat) (Option.some Jvm.ClassFile.FieldType.int) [((0 : Nat), (89 : Nat), (90 : Nat), (46 : Nat))]) ∈ lw_all := lw_g (lw_at lw_m7 216 rfl) rfl
theorem q1750 : (Jvm.Cond.methodLink "StaffRailway" (316 : Nat) ({ cls := "java/lang/Math", name := "min", desc := "(II)I" } : Jvm.MethodName)) ∈ lw_all := lw_g (lw_at lw_m7 217 rfl) rfl
theorem q1751 : (Jvm.Cond.methodLink "StaffRailway" (321 : Nat) ({ cls := "StaffRailway$Stretch", name := "minutes", desc := "(I)I" } : Jvm.MethodName)) ∈ lw_all := lw_g (lw_at lw_m7 218 rfl) rfl
theorem q1756 : (Jvm.Cond.instanceMethod ({ cls := "StaffRailway", name := "log", desc := "(III)I" } : Jvm.MethodName)) ∈ lw_all := lw_g (lw_at lw_m7 223 rfl) rfl
theorem q1757 : (Jvm.Cond.selects "StaffRailway" ({ cls := "StaffRailway", name := "log", desc := "(III)I" } : Jvm.MethodName) ({ cls := "StaffRailway", name := "log", desc := "(III)I" } : Jvm.MethodName)) ∈ lw_all := lw_g (lw_at lw_m7 224 rfl) rfl
theorem q1758 : (Jvm.Cond.code ({ cls := "StaffRailway", name := "log", desc := "(III)I" } : Jvm.MethodName) prog_1_method_44_code (5 : Nat) (Option.some Jvm.ClassFile.FieldType.int)) ∈ lw_all := lw_g (lw_at lw_m7 225 rfl) rfl
theorem q1759 : (Jvm.Cond.methodLink "StaffRailway" (340 : Nat) ({ cls := "StaffRailway$Entry", name := "told", desc := "(I)I" } : Jvm.MethodName)) ∈ lw_all := lw_g (lw_at lw_m7 226 rfl) rfl
theorem q1767 : (Jvm.Cond.instanceMethod ({ cls := "StaffRailway", name := "entries", desc := "(I)I" } : Jvm.MethodName)) ∈ lw_all := lw_g (lw_at lw_m7 234 rfl) rfl
theorem q1768 : (Jvm.Cond.selects "StaffRailway" ({ cls := "StaffRailway", name := "entries", desc := "(I)I" } : Jvm.MethodName) ({ cls := "StaffRailway", name := "entries", desc := "(I)I" } : Jvm.MethodName)) ∈ lw_all := lw_g (lw_at lw_m7 235 rfl) rfl
theorem q1769 : (Jvm.Cond.code ({ cls := "StaffRailway", name := "entries", desc := "(I)I" } : Jvm.MethodName) prog_1_method_45_code (2 : Nat) (Option.some Jvm.ClassFile.FieldType.int)) ∈ lw_all := lw_g (lw_at lw_m7 236 rfl) rfl
theorem q1770 : (Jvm.Cond.methodLink "StaffRailway" (344 : Nat) ({ cls := "StaffRailway$Line", name := "entries", desc := "(I)I" } : Jvm.MethodName)) ∈ lw_all := lw_g (lw_at lw_m7 237 rfl) rfl
theorem q1780 : (Jvm.Cond.instanceMethod ({ cls := "StaffRailway", name := "append", desc := "(C)I" } : Jvm.MethodName)) ∈ lw_all := lw_g (lw_at lw_m8 7 rfl) rfl
theorem q1781 : (Jvm.Cond.selects "StaffRailway" ({ cls := "StaffRailway", name := "append", desc := "(C)I" } : Jvm.MethodName) ({ cls := "StaffRailway", name := "append", desc := "(C)I" } : Jvm.MethodName)) ∈ lw_all := lw_g (lw_at lw_m8 8 rfl) rfl
theorem q1782 : (Jvm.Cond.code ({ cls := "StaffRailway", name := "append", desc := "(C)I" } : Jvm.MethodName) prog_1_method_46_code (2 : Nat) (Option.some Jvm.ClassFile.FieldType.int)) ∈ lw_all := lw_g (lw_at lw_m8 9 rfl) rfl
theorem q1783 : (Jvm.Cond.methodLink "StaffRailway" (347 : Nat) ({ cls := "java/lang/StringBuilder", name := "length", desc := "()I" } : Jvm.MethodName)) ∈ lw_all := lw_g (lw_at lw_m8 10 rfl) rfl
theorem q1784 : (Jvm.Cond.methodLink "StaffRailway" (349 : Nat) ({ cls := "StaffRailway", name := "checkState", desc := "(Z)V" } : Jvm.MethodName)) ∈ lw_all := lw_g (lw_at lw_m8 11 rfl) rfl
theorem q1785 : (Jvm.Cond.static ({ cls := "StaffRailway", name := "checkState", desc := "(Z)V" } : Jvm.MethodName)) ∈ lw_all := lw_g (lw_at lw_m8 12 rfl) rfl
theorem q1786 : (Jvm.Cond.code ({ cls := "StaffRailway", name := "checkState", desc := "(Z)V" } : Jvm.MethodName) prog_1_method_5_code (1 : Nat) (Option.none : Option Jvm.ClassFile.FieldType)) ∈ lw_all := lw_g (lw_at lw_m8 13 rfl) rfl
theorem q1787 : (Jvm.Cond.classLink "StaffRailway" (40 : Nat) "java/lang/IllegalStateException") ∈ lw_all := lw_g (lw_at lw_m8 14 rfl) rfl
theorem q1788 : (Jvm.Cond.methodLink "StaffRailway" (42 : Nat) ({ cls := "java/lang/IllegalStateException", name := "<init>", desc := "()V" } : Jvm.MethodName)) ∈ lw_all := lw_g (lw_at lw_m8 15 rfl) rfl
theorem q1792 : (Jvm.Cond.methodLink "StaffRailway" (352 : Nat) ({ cls := "java/lang/StringBuilder", name := "append", desc := "(C)Ljava/lang/StringBuilder;" } : Jvm.MethodName)) ∈ lw_all := lw_g (lw_at lw_m8 19 rfl) rfl
theorem q1816 : (Jvm.Cond.instanceMethod ({ cls := "StaffRailway", name := "run", desc := "()I" } : Jvm.MethodName)) ∈ lw_all := lw_g (lw_at lw_m8 43 rfl) rfl
theorem q1817 : (Jvm.Cond.selects "StaffRailway" ({ cls := "StaffRailway", name := "run", desc := "()I" } : Jvm.MethodName) ({ cls := "StaffRailway", name := "run", desc := "()I" } : Jvm.MethodName)) ∈ lw_all := lw_g (lw_at lw_m8 44 rfl) rfl
theorem q1818 : (Jvm.Cond.codeWith ({ cls := "StaffRailway", name := "run", desc := "()I" } : Jvm.MethodName) prog_1_method_49_code (4 : Nat) (Option.some Jvm.ClassFile.FieldType.int) [((13 : Nat), (42 : Nat), (45 : Nat), (46 : Nat)), ((13 : Nat), (42 : Nat), (45 : Nat), (88 : Nat))]) ∈ lw_all := lw_g (lw_at lw_m8 45 rfl) rfl
theorem q1819 : (Jvm.Cond.methodLink "StaffRailway" (376 : Nat) ({ cls := "StaffRailway", name := "read", desc := "()Ljava/util/ArrayList;" } : Jvm.MethodName)) ∈ lw_all := lw_g (lw_at lw_m8 46 rfl) rfl
theorem q1820 : (Jvm.Cond.privateMethod ({ cls := "StaffRailway", name := "read", desc := "()Ljava/util/ArrayList;" } : Jvm.MethodName)) ∈ lw_tbl := lw_at lw_m8 47 rfl
theorem q1821 : (Jvm.Cond.instanceMethod ({ cls := "StaffRailway", name := "read", desc := "()Ljava/util/ArrayList;" } : Jvm.MethodName)) ∈ lw_all := lw_g (lw_at lw_m8 48 rfl) rfl
theorem q1822 : (Jvm.Cond.codeWith ({ cls := "StaffRailway", name := "read", desc := "()Ljava/util/ArrayList;" } : Jvm.MethodName) prog_1_method_47_code (3 : Nat) (Option.some (Jvm.ClassFile.FieldType.object "java/util/ArrayList")) [((0 : Nat), (16 : Nat), (26 : Nat), (368 : Nat)), ((0 : Nat), (16 : Nat), (43 : Nat), (0 : Nat)), ((26 : Nat), (44 : Nat), (43 : Nat), (0 : Nat))]) ∈ lw_all := lw_g (lw_at lw_m8 49 rfl) rfl
theorem q1823 : (Jvm.Cond.classLink "StaffRailway" (368 : Nat) "StaffRailway$Wrong") ∈ lw_all := lw_g (lw_at lw_m8 50 rfl) rfl
theorem q1824 : (Jvm.Cond.classLink "StaffRailway" (356 : Nat) "StaffRailway$Reader") ∈ lw_all := lw_g (lw_at lw_m8 51 rfl) rfl
theorem q1826 : (Jvm.Cond.methodLink "StaffRailway" (358 : Nat) ({ cls := "StaffRailway$Reader", name := "<init>", desc := "(LStaffRailway;Ljava/lang/CharSequence;)V" } : Jvm.MethodName)) ∈ lw_all := lw_g (lw_at lw_m8 53 rfl) rfl
theorem q1840 : (Jvm.Cond.methodLink "StaffRailway" (361 : Nat) ({ cls := "StaffRailway$Reader", name := "orders", desc := "()Ljava/util/ArrayList;" } : Jvm.MethodName)) ∈ lw_all := lw_g (lw_at lw_m8 67 rfl) rfl
theorem q1934 : (Jvm.Cond.fieldLinkNest "StaffRailway" (370 : Nat) "StaffRailway$Wrong" "at" "I" "StaffRailway") ∈ lw_tbl := lw_at lw_m8 161 rfl
theorem q1993 : (Jvm.Cond.methodLink "StaffRailway" (365 : Nat) ({ cls := "java/lang/StringBuilder", name := "setLength", desc := "(I)V" } : Jvm.MethodName)) ∈ lw_all := lw_g (lw_at lw_m8 220 rfl) rfl
theorem q2045 : (Jvm.Cond.classLink "StaffRailway" (79 : Nat) "StaffRailway$Deed") ∈ lw_all := lw_g (lw_at lw_m9 32 rfl) rfl
theorem q2046 : (Jvm.Cond.methodLink "StaffRailway" (379 : Nat) ({ cls := "StaffRailway", name := "does", desc := "(LStaffRailway$Line;LStaffRailway$Deed;I)V" } : Jvm.MethodName)) ∈ lw_all := lw_g (lw_at lw_m9 33 rfl) rfl
theorem q2047 : (Jvm.Cond.static ({ cls := "StaffRailway", name := "does", desc := "(LStaffRailway$Line;LStaffRailway$Deed;I)V" } : Jvm.MethodName)) ∈ lw_all := lw_g (lw_at lw_m9 34 rfl) rfl
theorem q2048 : (Jvm.Cond.codeWith ({ cls := "StaffRailway", name := "does", desc := "(LStaffRailway$Line;LStaffRailway$Deed;I)V" } : Jvm.MethodName) prog_1_method_48_code (4 : Nat) (Option.none : Option Jvm.ClassFile.FieldType) [((0 : Nat), (8 : Nat), (11 : Nat), (46 : Nat))]) ∈ lw_all := lw_g (lw_at lw_m9 35 rfl) rfl
theorem q2049 : (Jvm.Cond.methodLink "StaffRailway" (373 : Nat) ({ cls := "StaffRailway$Refused", name := "<init>", desc := "(IILStaffRailway$Refused;)V" } : Jvm.MethodName)) ∈ lw_all := lw_g (lw_at lw_m9 36 rfl) rfl
theorem q2054 : (Jvm.Cond.instanceMethod ({ cls := "StaffRailway", name := "fault", desc := "()I" } : Jvm.MethodName)) ∈ lw_all := lw_g (lw_at lw_m9 41 rfl) rfl
theorem q2055 : (Jvm.Cond.selects "StaffRailway" ({ cls := "StaffRailway", name := "fault", desc := "()I" } : Jvm.MethodName) ({ cls := "StaffRailway", name := "fault", desc := "()I" } : Jvm.MethodName)) ∈ lw_all := lw_g (lw_at lw_m9 42 rfl) rfl
theorem q2056 : (Jvm.Cond.code ({ cls := "StaffRailway", name := "fault", desc := "()I" } : Jvm.MethodName) prog_1_method_50_code (1 : Nat) (Option.some Jvm.ClassFile.FieldType.int)) ∈ lw_all := lw_g (lw_at lw_m9 43 rfl) rfl
theorem q2061 : (Jvm.Cond.instanceMethod ({ cls := "StaffRailway", name := "reason", desc := "(IZ)I" } : Jvm.MethodName)) ∈ lw_all := lw_g (lw_at lw_m9 48 rfl) rfl
theorem q2062 : (Jvm.Cond.selects "StaffRailway" ({ cls := "StaffRailway", name := "reason", desc := "(IZ)I" } : Jvm.MethodName) ({ cls := "StaffRailway", name := "reason", desc := "(IZ)I" } : Jvm.MethodName)) ∈ lw_all := lw_g (lw_at lw_m9 49 rfl) rfl
theorem q2063 : (Jvm.Cond.code ({ cls := "StaffRailway", name := "reason", desc := "(IZ)I" } : Jvm.MethodName) prog_1_method_51_code (3 : Nat) (Option.some Jvm.ClassFile.FieldType.int)) ∈ lw_all := lw_g (lw_at lw_m9 50 rfl) rfl
theorem q2068 : (Jvm.Cond.instanceMethod ({ cls := "StaffRailway", name := "account", desc := "(I)I" } : Jvm.MethodName)) ∈ lw_all := lw_g (lw_at lw_m9 55 rfl) rfl
theorem q2069 : (Jvm.Cond.selects "StaffRailway" ({ cls := "StaffRailway", name := "account", desc := "(I)I" } : Jvm.MethodName) ({ cls := "StaffRailway", name := "account", desc := "(I)I" } : Jvm.MethodName)) ∈ lw_all := lw_g (lw_at lw_m9 56 rfl) rfl
theorem q2070 : (Jvm.Cond.code ({ cls := "StaffRailway", name := "account", desc := "(I)I" } : Jvm.MethodName) prog_1_method_53_code (2 : Nat) (Option.some Jvm.ClassFile.FieldType.int)) ∈ lw_all := lw_g (lw_at lw_m9 57 rfl) rfl
theorem q2071 : (Jvm.Cond.static ({ cls := "StaffRailway", name := "lambda$account$15", desc := "(LStaffRailway$Train;)Z" } : Jvm.MethodName)) ∈ lw_all := lw_g (lw_at lw_m9 58 rfl) rfl
theorem q2072 : (Jvm.Cond.code ({ cls := "StaffRailway", name := "lambda$account$15", desc := "(LStaffRailway$Train;)Z" } : Jvm.MethodName) prog_1_method_62_code (1 : Nat) (Option.some Jvm.ClassFile.FieldType.boolean)) ∈ lw_all := lw_g (lw_at lw_m9 59 rfl) rfl
theorem q2073 : (Jvm.Cond.methodLink "StaffRailway" (386 : Nat) ({ cls := "StaffRailway$Line", name := "wagons", desc := "()I" } : Jvm.MethodName)) ∈ lw_all := lw_g (lw_at lw_m9 60 rfl) rfl
theorem q2077 : (Jvm.Cond.static ({ cls := "StaffRailway", name := "lambda$account$16", desc := "(LStaffRailway$Pilotman;)Z" } : Jvm.MethodName)) ∈ lw_all := lw_g (lw_at lw_m9 64 rfl) rfl
theorem q2078 : (Jvm.Cond.code ({ cls := "StaffRailway", name := "lambda$account$16", desc := "(LStaffRailway$Pilotman;)Z" } : Jvm.MethodName) prog_1_method_61_code (1 : Nat) (Option.some Jvm.ClassFile.FieldType.boolean)) ∈ lw_all := lw_g (lw_at lw_m9 65 rfl) rfl
theorem q2079 : (Jvm.Cond.methodLink "StaffRailway" (432 : Nat) ({ cls := "StaffRailway$Pilotman", name := "isFree", desc := "()Z" } : Jvm.MethodName)) ∈ lw_all := lw_g (lw_at lw_m9 66 rfl) rfl
theorem q2080 : (Jvm.Cond.static ({ cls := "StaffRailway", name := "lambda$account$17", desc := "(LStaffRailway$Stretch;)I" } : Jvm.MethodName)) ∈ lw_all := lw_g (lw_at lw_m9 67 rfl) rfl
theorem q2081 : (Jvm.Cond.code ({ cls := "StaffRailway", name := "lambda$account$17", desc := "(LStaffRailway$Stretch;)I" } : Jvm.MethodName) prog_1_method_60_code (1 : Nat) (Option.some Jvm.ClassFile.FieldType.int)) ∈ lw_all := lw_g (lw_at lw_m9 68 rfl) rfl
theorem q2082 : (Jvm.Cond.methodLink "StaffRailway" (395 : Nat) ({ cls := "StaffRailway$Line", name := "sum", desc := "(LStaffRailway$Amount;)I" } : Jvm.MethodName)) ∈ lw_all := lw_g (lw_at lw_m9 69 rfl) rfl
theorem q2090 : (Jvm.Cond.methodLink "StaffRailway" (399 : Nat) ({ cls := "StaffRailway", name := "withTrains", desc := "()I" } : Jvm.MethodName)) ∈ lw_all := lw_g (lw_at lw_m9 77 rfl) rfl
theorem q2091 : (Jvm.Cond.privateMethod ({ cls := "StaffRailway", name := "withTrains", desc := "()I" } : Jvm.MethodName)) ∈ lw_tbl := lw_at lw_m9 78 rfl
theorem q2092 : (Jvm.Cond.instanceMethod ({ cls := "StaffRailway", name := "withTrains", desc := "()I" } : Jvm.MethodName)) ∈ lw_all := lw_g (lw_at lw_m9 79 rfl) rfl
theorem q2093 : (Jvm.Cond.code ({ cls := "StaffRailway", name := "withTrains", desc := "()I" } : Jvm.MethodName) prog_1_method_52_code (1 : Nat) (Option.some Jvm.ClassFile.FieldType.int)) ∈ lw_all := lw_g (lw_at lw_m9 80 rfl) rfl
theorem q2094 : (Jvm.Cond.static ({ cls := "StaffRailway", name := "lambda$withTrains$14", desc := "(LStaffRailway$Train;)Z" } : Jvm.MethodName)) ∈ lw_all := lw_g (lw_at lw_m9 81 rfl) rfl
theorem q2095 : (Jvm.Cond.code ({ cls := "StaffRailway", name := "lambda$withTrains$14", desc := "(LStaffRailway$Train;)Z" } : Jvm.MethodName) prog_1_method_63_code (1 : Nat) (Option.some Jvm.ClassFile.FieldType.boolean)) ∈ lw_all := lw_g (lw_at lw_m9 82 rfl) rfl
theorem q2096 : (Jvm.Cond.static ({ cls := "StaffRailway", name := "lambda$account$18", desc := "(LStaffRailway$Stretch;)I" } : Jvm.MethodName)) ∈ lw_all := lw_g (lw_at lw_m9 83 rfl) rfl
theorem q2097 : (Jvm.Cond.code ({ cls := "StaffRailway", name := "lambda$account$18", desc := "(LStaffRailway$Stretch;)I" } : Jvm.MethodName) prog_1_method_59_code (1 : Nat) (Option.some Jvm.ClassFile.FieldType.int)) ∈ lw_all := lw_g (lw_at lw_m9 84 rfl) rfl
theorem q2116 : (Jvm.Cond.instanceMethod ({ cls := "StaffRailway", name := "share", desc := "()D" } : Jvm.MethodName)) ∈ lw_all := lw_g (lw_at lw_m9 103 rfl) rfl
theorem q2117 : (Jvm.Cond.selects "StaffRailway" ({ cls := "StaffRailway", name := "share", desc := "()D" } : Jvm.MethodName) ({ cls := "StaffRailway", name := "share", desc := "()D" } : Jvm.MethodName)) ∈ lw_all := lw_g (lw_at lw_m9 104 rfl) rfl
theorem q2118 : (Jvm.Cond.code ({ cls := "StaffRailway", name := "share", desc := "()D" } : Jvm.MethodName) prog_1_method_54_code (1 : Nat) (Option.some Jvm.ClassFile.FieldType.double)) ∈ lw_all := lw_g (lw_at lw_m9 105 rfl) rfl
theorem q2119 : (Jvm.Cond.methodLink "StaffRailway" (415 : Nat) ({ cls := "java/util/ArrayList", name := "isEmpty", desc := "()Z" } : Jvm.MethodName)) ∈ lw_all := lw_g (lw_at lw_m9 106 rfl) rfl
theorem q2123 : (Jvm.Cond.classLink "StaffRailway" (418 : Nat) "java/lang/ArithmeticException") ∈ lw_all := lw_g (lw_at lw_m9 110 rfl) rfl
theorem q2124 : (Jvm.Cond.methodLink "StaffRailway" (420 : Nat) ({ cls := "java/lang/ArithmeticException", name := "<init>", desc := "()V" } : Jvm.MethodName)) ∈ lw_all := lw_g (lw_at lw_m9 111 rfl) rfl
theorem q2128 : (Jvm.Cond.static ({ cls := "StaffRailway", name := "lambda$share$19", desc := "(LStaffRailway$Train;)Z" } : Jvm.MethodName)) ∈ lw_all := lw_g (lw_at lw_m9 115 rfl) rfl
theorem q2129 : (Jvm.Cond.code ({ cls := "StaffRailway", name := "lambda$share$19", desc := "(LStaffRailway$Train;)Z" } : Jvm.MethodName) prog_1_method_58_code (1 : Nat) (Option.some Jvm.ClassFile.FieldType.boolean)) ∈ lw_all := lw_g (lw_at lw_m9 116 rfl) rfl
theorem q2134 : (Jvm.Cond.instanceMethod ({ cls := "StaffRailway", name := "undo", desc := "()I" } : Jvm.MethodName)) ∈ lw_all := lw_g (lw_at lw_m9 121 rfl) rfl
theorem q2135 : (Jvm.Cond.selects "StaffRailway" ({ cls := "StaffRailway", name := "undo", desc := "()I" } : Jvm.MethodName) ({ cls := "StaffRailway", name := "undo", desc := "()I" } : Jvm.MethodName)) ∈ lw_all := lw_g (lw_at lw_m9 122 rfl) rfl
theorem q2136 : (Jvm.Cond.code ({ cls := "StaffRailway", name := "undo", desc := "()I" } : Jvm.MethodName) prog_1_method_55_code (1 : Nat) (Option.some Jvm.ClassFile.FieldType.int)) ∈ lw_all := lw_g (lw_at lw_m9 123 rfl) rfl
theorem q2137 : (Jvm.Cond.methodLink "StaffRailway" (422 : Nat) ({ cls := "java/util/ArrayDeque", name := "isEmpty", desc := "()Z" } : Jvm.MethodName)) ∈ lw_all := lw_g (lw_at lw_m9 124 rfl) rfl
theorem q2141 : (Jvm.Cond.methodLink "StaffRailway" (423 : Nat) ({ cls := "java/util/ArrayDeque", name := "removeLast", desc := "()Ljava/lang/Object;" } : Jvm.MethodName)) ∈ lw_all := lw_g (lw_at lw_m9 128 rfl) rfl
theorem q2156 : (Jvm.Cond.instanceMethod ({ cls := "StaffRailway", name := "restore", desc := "()I" } : Jvm.MethodName)) ∈ lw_all := lw_g (lw_at lw_m9 143 rfl) rfl
theorem q2157 : (Jvm.Cond.selects "StaffRailway" ({ cls := "StaffRailway", name := "restore", desc := "()I" } : Jvm.MethodName) ({ cls := "StaffRailway", name := "restore", desc := "()I" } : Jvm.MethodName)) ∈ lw_all := lw_g (lw_at lw_m9 144 rfl) rfl
theorem q2158 : (Jvm.Cond.code ({ cls := "StaffRailway", name := "restore", desc := "()I" } : Jvm.MethodName) prog_1_method_57_code (1 : Nat) (Option.some Jvm.ClassFile.FieldType.int)) ∈ lw_all := lw_g (lw_at lw_m9 145 rfl) rfl
theorem q2159 : (Jvm.Cond.methodLink "StaffRailway" (429 : Nat) ({ cls := "java/util/ArrayDeque", name := "clear", desc := "()V" } : Jvm.MethodName)) ∈ lw_all := lw_g (lw_at lw_m9 146 rfl) rfl
theorem q2649 : (Jvm.Cond.castable "StaffRailway" "java/lang/Object") ∈ lw_tbl := lw_at lw_m11 156 rfl
theorem in_X1 : ∀ w ∈ wsX10, w ∈ lw_all := lw_in wsX10 [630, 632, 634, 636, 638, 640] (by decide +kernel) (by decide +kernel)
/-! StaffRailway$Line -/
set_option maxRecDepth 100000
def RX2 : String := "StaffRailway$Line"
def TX2 : u_T := fun k => match k with
  | 0 => ("StaffRailway$Line", "tracks", "[I", true)
  | 1 => ("StaffRailway$Line", "stretches", "[LStaffRailway$Stretch;", true)
  | 2 => ("StaffRailway$Line", "boxes", "[LStaffRailway$Box;", true)
  | 3 => ("StaffRailway$Line", "trains", "Ljava/util/ArrayList;", true)
  | 4 => ("StaffRailway$Line", "pilotmen", "Ljava/util/ArrayList;", true)
  | 5 => ("StaffRailway$Line", "clock", "I", false)
  | 6 => ("StaffRailway$Line", "came", "I", false)
  | 7 => ("StaffRailway$Line", "halves", "I", false)
  | _ => ("StaffRailway$Line", "losses", "I", false)
def tyX2 : Nat → FieldType := fun k => match k with
  | 0 => .array .int
  | 1 => .array (.object "StaffRailway$Stretch")
  | 2 => .array (.object "StaffRailway$Box")
  | 3 => .object "java/util/ArrayList"
  | 4 => .object "java/util/ArrayList"
  | 5 => .int
  | 6 => .int
  | 7 => .int
  | _ => .int
abbrev wsX20 : List Cond := u_ws RX2 TX2 9
theorem nmX2 : ∀ a, a < 9 → ∀ b, b < 9 → a ≠ b → (TX2 a).2.1 ≠ (TX2 b).2.1 := by decide +kernel
theorem tyX2_ok : ∀ k, k < 9 → parseFieldDescriptor (TX2 k).2.2.1 = some (tyX2 k) := by decide +kernel
abbrev cX2_init : ByteArray := prog_10_method_1_code
def yX2_init : MethodName := ⟨RX2, "<init>", "()V"⟩
def dkwX2_init_4 : List UInt8 := [162, 0, 22, 42, 180, 0, 17, 27, 187, 0, 15, 89, 183, 0, 40, 83, 132, 1, 1, 167, 255, 235, 177]
abbrev dktX2_init_4 : List UInt8 := dkwX2_init_4 ++ []
def dkwX2_init_3 : List UInt8 := [180, 0, 23, 27, 187, 0, 21, 89, 183, 0, 39, 83, 132, 1, 1, 167, 255, 227, 3, 60, 27, 8]
abbrev dktX2_init_3 : List UInt8 := dkwX2_init_3 ++ dktX2_init_4
def dkwX2_init_2 : List UInt8 := [6, 183, 0, 29, 181, 0, 36, 3, 60, 27, 16, 6, 162, 0, 29, 42, 180, 0, 9, 27, 5, 79, 42]
abbrev dktX2_init_2 : List UInt8 := dkwX2_init_2 ++ dktX2_init_3
def dkwX2_init_1 : List UInt8 := [189, 0, 21, 181, 0, 23, 42, 187, 0, 27, 89, 16, 6, 183, 0, 29, 181, 0, 32, 42, 187, 0, 27, 89]
abbrev dktX2_init_1 : List UInt8 := dkwX2_init_1 ++ dktX2_init_2
def dkwX2_init_0 : List UInt8 := [42, 183, 0, 3, 42, 16, 6, 188, 10, 181, 0, 9, 42, 8, 189, 0, 15, 181, 0, 17, 42, 16, 6]
abbrev dktX2_init_0 : List UInt8 := dkwX2_init_0 ++ dktX2_init_1
theorem dksX2_init_0 : cX2_init.data.toList.drop 0 = dktX2_init_0 := by decide +kernel
theorem dksX2_init_1 : cX2_init.data.toList.drop 23 = dktX2_init_1 := dk_seg dksX2_init_0 23 rfl rfl
theorem dksX2_init_2 : cX2_init.data.toList.drop 47 = dktX2_init_2 := dk_seg dksX2_init_1 24 rfl rfl
theorem dksX2_init_3 : cX2_init.data.toList.drop 70 = dktX2_init_3 := dk_seg dksX2_init_2 23 rfl rfl
theorem dksX2_init_4 : cX2_init.data.toList.drop 92 = dktX2_init_4 := dk_seg dksX2_init_3 22 rfl rfl
theorem dX2_init_0 : decode cX2_init 0 = .ok (.aload_n 0, 1) := dk_42 (dk_at dksX2_init_0 0 rfl rfl)
theorem dX2_init_1 : decode cX2_init 1 = .ok (.invokespecial 3, 3) := dk_183 0 3 (dk_at dksX2_init_0 1 rfl rfl)
theorem dX2_init_4 : decode cX2_init 4 = .ok (.aload_n 0, 1) := dk_42 (dk_at dksX2_init_0 4 rfl rfl)
theorem dX2_init_5 : decode cX2_init 5 = .ok (.bipush 6, 2) := dk_16 6 (dk_at dksX2_init_0 5 rfl rfl)
theorem dX2_init_7 : decode cX2_init 7 = .ok (.newarray .int, 2) := dk_188_10 (dk_at dksX2_init_0 7 rfl rfl)
theorem dX2_init_9 : decode cX2_init 9 = .ok (.putfield 9, 3) := dk_181 0 9 (dk_at dksX2_init_0 9 rfl rfl)
theorem dX2_init_12 : decode cX2_init 12 = .ok (.aload_n 0, 1) := dk_42 (dk_at dksX2_init_0 12 rfl rfl)
theorem dX2_init_13 : decode cX2_init 13 = .ok (.iconst 5, 1) := dk_8 (dk_at dksX2_init_0 13 rfl rfl)
theorem dX2_init_14 : decode cX2_init 14 = .ok (.anewarray 15, 3) := dk_189 0 15 (dk_at dksX2_init_0 14 rfl rfl)
theorem dX2_init_17 : decode cX2_init 17 = .ok (.putfield 17, 3) := dk_181 0 17 (dk_at dksX2_init_0 17 rfl rfl)
theorem dX2_init_20 : decode cX2_init 20 = .ok (.aload_n 0, 1) := dk_42 (dk_at dksX2_init_0 20 rfl rfl)
theorem dX2_init_21 : decode cX2_init 21 = .ok (.bipush 6, 2) := dk_16 6 (dk_at dksX2_init_0 21 rfl rfl)
theorem dX2_init_23 : decode cX2_init 23 = .ok (.anewarray 21, 3) := dk_189 0 21 (dk_at dksX2_init_1 0 rfl rfl)
theorem dX2_init_26 : decode cX2_init 26 = .ok (.putfield 23, 3) := dk_181 0 23 (dk_at dksX2_init_1 3 rfl rfl)
theorem dX2_init_29 : decode cX2_init 29 = .ok (.aload_n 0, 1) := dk_42 (dk_at dksX2_init_1 6 rfl rfl)
theorem dX2_init_30 : decode cX2_init 30 = .ok (.new 27, 3) := dk_187 0 27 (dk_at dksX2_init_1 7 rfl rfl)
theorem dX2_init_33 : decode cX2_init 33 = .ok (.dup, 1) := dk_89 (dk_at dksX2_init_1 10 rfl rfl)
theorem dX2_init_34 : decode cX2_init 34 = .ok (.bipush 6, 2) := dk_16 6 (dk_at dksX2_init_1 11 rfl rfl)
theorem dX2_init_36 : decode cX2_init 36 = .ok (.invokespecial 29, 3) := dk_183 0 29 (dk_at dksX2_init_1 13 rfl rfl)
theorem dX2_init_39 : decode cX2_init 39 = .ok (.putfield 32, 3) := dk_181 0 32 (dk_at dksX2_init_1 16 rfl rfl)
theorem dX2_init_42 : decode cX2_init 42 = .ok (.aload_n 0, 1) := dk_42 (dk_at dksX2_init_1 19 rfl rfl)
theorem dX2_init_43 : decode cX2_init 43 = .ok (.new 27, 3) := dk_187 0 27 (dk_at dksX2_init_1 20 rfl rfl)
theorem dX2_init_46 : decode cX2_init 46 = .ok (.dup, 1) := dk_89 (dk_at dksX2_init_1 23 rfl rfl)
theorem dX2_init_47 : decode cX2_init 47 = .ok (.iconst 3, 1) := dk_6 (dk_at dksX2_init_2 0 rfl rfl)
theorem dX2_init_48 : decode cX2_init 48 = .ok (.invokespecial 29, 3) := dk_183 0 29 (dk_at dksX2_init_2 1 rfl rfl)
theorem dX2_init_51 : decode cX2_init 51 = .ok (.putfield 36, 3) := dk_181 0 36 (dk_at dksX2_init_2 4 rfl rfl)
theorem dX2_init_54 : decode cX2_init 54 = .ok (.iconst 0, 1) := dk_3 (dk_at dksX2_init_2 7 rfl rfl)
theorem dX2_init_55 : decode cX2_init 55 = .ok (.istore_n 1, 1) := dk_60 (dk_at dksX2_init_2 8 rfl rfl)
theorem dX2_init_56 : decode cX2_init 56 = .ok (.iload_n 1, 1) := dk_27 (dk_at dksX2_init_2 9 rfl rfl)
theorem dX2_init_57 : decode cX2_init 57 = .ok (.bipush 6, 2) := dk_16 6 (dk_at dksX2_init_2 10 rfl rfl)
theorem dX2_init_59 : decode cX2_init 59 = .ok (.if_icmp .ge 29, 3) := dk_162 0 29 (dk_at dksX2_init_2 12 rfl rfl)
theorem dX2_init_62 : decode cX2_init 62 = .ok (.aload_n 0, 1) := dk_42 (dk_at dksX2_init_2 15 rfl rfl)
theorem dX2_init_63 : decode cX2_init 63 = .ok (.getfield 9, 3) := dk_180 0 9 (dk_at dksX2_init_2 16 rfl rfl)
theorem dX2_init_66 : decode cX2_init 66 = .ok (.iload_n 1, 1) := dk_27 (dk_at dksX2_init_2 19 rfl rfl)
theorem dX2_init_67 : decode cX2_init 67 = .ok (.iconst 2, 1) := dk_5 (dk_at dksX2_init_2 20 rfl rfl)
theorem dX2_init_68 : decode cX2_init 68 = .ok (.iastore, 1) := dk_79 (dk_at dksX2_init_2 21 rfl rfl)
theorem dX2_init_69 : decode cX2_init 69 = .ok (.aload_n 0, 1) := dk_42 (dk_at dksX2_init_2 22 rfl rfl)
theorem dX2_init_70 : decode cX2_init 70 = .ok (.getfield 23, 3) := dk_180 0 23 (dk_at dksX2_init_3 0 rfl rfl)
theorem dX2_init_73 : decode cX2_init 73 = .ok (.iload_n 1, 1) := dk_27 (dk_at dksX2_init_3 3 rfl rfl)
theorem dX2_init_74 : decode cX2_init 74 = .ok (.new 21, 3) := dk_187 0 21 (dk_at dksX2_init_3 4 rfl rfl)
theorem dX2_init_77 : decode cX2_init 77 = .ok (.dup, 1) := dk_89 (dk_at dksX2_init_3 7 rfl rfl)
theorem dX2_init_78 : decode cX2_init 78 = .ok (.invokespecial 39, 3) := dk_183 0 39 (dk_at dksX2_init_3 8 rfl rfl)
theorem dX2_init_81 : decode cX2_init 81 = .ok (.aastore, 1) := dk_83 (dk_at dksX2_init_3 11 rfl rfl)
theorem dX2_init_82 : decode cX2_init 82 = .ok (.iinc 1 1, 3) := dk_132 1 1 (dk_at dksX2_init_3 12 rfl rfl)
theorem dX2_init_85 : decode cX2_init 85 = .ok (.goto (-29), 3) := dk_167 255 227 (dk_at dksX2_init_3 15 rfl rfl)
theorem dX2_init_88 : decode cX2_init 88 = .ok (.iconst 0, 1) := dk_3 (dk_at dksX2_init_3 18 rfl rfl)
theorem dX2_init_89 : decode cX2_init 89 = .ok (.istore_n 1, 1) := dk_60 (dk_at dksX2_init_3 19 rfl rfl)
theorem dX2_init_90 : decode cX2_init 90 = .ok (.iload_n 1, 1) := dk_27 (dk_at dksX2_init_3 20 rfl rfl)
theorem dX2_init_91 : decode cX2_init 91 = .ok (.iconst 5, 1) := dk_8 (dk_at dksX2_init_3 21 rfl rfl)
theorem dX2_init_92 : decode cX2_init 92 = .ok (.if_icmp .ge 22, 3) := dk_162 0 22 (dk_at dksX2_init_4 0 rfl rfl)
theorem dX2_init_95 : decode cX2_init 95 = .ok (.aload_n 0, 1) := dk_42 (dk_at dksX2_init_4 3 rfl rfl)
theorem dX2_init_96 : decode cX2_init 96 = .ok (.getfield 17, 3) := dk_180 0 17 (dk_at dksX2_init_4 4 rfl rfl)
theorem dX2_init_99 : decode cX2_init 99 = .ok (.iload_n 1, 1) := dk_27 (dk_at dksX2_init_4 7 rfl rfl)
theorem dX2_init_100 : decode cX2_init 100 = .ok (.new 15, 3) := dk_187 0 15 (dk_at dksX2_init_4 8 rfl rfl)
theorem dX2_init_103 : decode cX2_init 103 = .ok (.dup, 1) := dk_89 (dk_at dksX2_init_4 11 rfl rfl)
theorem dX2_init_104 : decode cX2_init 104 = .ok (.invokespecial 40, 3) := dk_183 0 40 (dk_at dksX2_init_4 12 rfl rfl)
theorem dX2_init_107 : decode cX2_init 107 = .ok (.aastore, 1) := dk_83 (dk_at dksX2_init_4 15 rfl rfl)
theorem dX2_init_108 : decode cX2_init 108 = .ok (.iinc 1 1, 3) := dk_132 1 1 (dk_at dksX2_init_4 16 rfl rfl)
theorem dX2_init_111 : decode cX2_init 111 = .ok (.goto (-21), 3) := dk_167 255 235 (dk_at dksX2_init_4 19 rfl rfl)
theorem dX2_init_114 : decode cX2_init 114 = .ok (.return_, 1) := dk_177 (dk_at dksX2_init_4 22 rfl rfl)
abbrev cX2_checkWay : ByteArray := prog_10_method_25_code
def yX2_checkWay : MethodName := ⟨RX2, "checkWay", "(III)V"⟩
def dkwX2_checkWay_3 : List UInt8 := [16, 8, 28, 184, 0, 192, 177]
abbrev dktX2_checkWay_3 : List UInt8 := dkwX2_checkWay_3 ++ []
def dkwX2_checkWay_2 : List UInt8 := [182, 0, 167, 42, 28, 182, 0, 246, 96, 42, 180, 0, 9, 28, 46, 161, 0, 7, 4, 167, 0, 4, 3]
abbrev dktX2_checkWay_2 : List UInt8 := dkwX2_checkWay_2 ++ dktX2_checkWay_3
def dkwX2_checkWay_1 : List UInt8 := [21, 4, 50, 29, 182, 0, 239, 16, 9, 42, 180, 0, 17, 21, 4, 50, 180, 0, 243, 184, 0, 192, 42, 28]
abbrev dktX2_checkWay_1 : List UInt8 := dkwX2_checkWay_1 ++ dktX2_checkWay_2
def dkwX2_checkWay_0 : List UInt8 := [27, 28, 184, 0, 227, 54, 4, 42, 21, 4, 182, 0, 233, 42, 21, 4, 27, 182, 0, 236, 42, 180, 0, 17]
abbrev dktX2_checkWay_0 : List UInt8 := dkwX2_checkWay_0 ++ dktX2_checkWay_1
theorem dksX2_checkWay_0 : cX2_checkWay.data.toList.drop 0 = dktX2_checkWay_0 := by decide +kernel
theorem dksX2_checkWay_1 : cX2_checkWay.data.toList.drop 24 = dktX2_checkWay_1 := dk_seg dksX2_checkWay_0 24 rfl rfl
theorem dksX2_checkWay_2 : cX2_checkWay.data.toList.drop 48 = dktX2_checkWay_2 := dk_seg dksX2_checkWay_1 24 rfl rfl
theorem dksX2_checkWay_3 : cX2_checkWay.data.toList.drop 71 = dktX2_checkWay_3 := dk_seg dksX2_checkWay_2 23 rfl rfl
theorem dX2_checkWay_0 : decode cX2_checkWay 0 = .ok (.iload_n 1, 1) := dk_27 (dk_at dksX2_checkWay_0 0 rfl rfl)
theorem dX2_checkWay_1 : decode cX2_checkWay 1 = .ok (.iload_n 2, 1) := dk_28 (dk_at dksX2_checkWay_0 1 rfl rfl)
theorem dX2_checkWay_2 : decode cX2_checkWay 2 = .ok (.invokestatic 227, 3) := dk_184 0 227 (dk_at dksX2_checkWay_0 2 rfl rfl)
theorem dX2_checkWay_5 : decode cX2_checkWay 5 = .ok (.istore 4, 2) := dk_54 4 (dk_at dksX2_checkWay_0 5 rfl rfl)
theorem dX2_checkWay_7 : decode cX2_checkWay 7 = .ok (.aload_n 0, 1) := dk_42 (dk_at dksX2_checkWay_0 7 rfl rfl)
theorem dX2_checkWay_8 : decode cX2_checkWay 8 = .ok (.iload 4, 2) := dk_21 4 (dk_at dksX2_checkWay_0 8 rfl rfl)
theorem dX2_checkWay_10 : decode cX2_checkWay 10 = .ok (.invokevirtual 233, 3) := dk_182 0 233 (dk_at dksX2_checkWay_0 10 rfl rfl)
theorem dX2_checkWay_13 : decode cX2_checkWay 13 = .ok (.aload_n 0, 1) := dk_42 (dk_at dksX2_checkWay_0 13 rfl rfl)
theorem dX2_checkWay_14 : decode cX2_checkWay 14 = .ok (.iload 4, 2) := dk_21 4 (dk_at dksX2_checkWay_0 14 rfl rfl)
theorem dX2_checkWay_16 : decode cX2_checkWay 16 = .ok (.iload_n 1, 1) := dk_27 (dk_at dksX2_checkWay_0 16 rfl rfl)
theorem dX2_checkWay_17 : decode cX2_checkWay 17 = .ok (.invokevirtual 236, 3) := dk_182 0 236 (dk_at dksX2_checkWay_0 17 rfl rfl)
theorem dX2_checkWay_20 : decode cX2_checkWay 20 = .ok (.aload_n 0, 1) := dk_42 (dk_at dksX2_checkWay_0 20 rfl rfl)
theorem dX2_checkWay_21 : decode cX2_checkWay 21 = .ok (.getfield 17, 3) := dk_180 0 17 (dk_at dksX2_checkWay_0 21 rfl rfl)
theorem dX2_checkWay_24 : decode cX2_checkWay 24 = .ok (.iload 4, 2) := dk_21 4 (dk_at dksX2_checkWay_1 0 rfl rfl)
theorem dX2_checkWay_26 : decode cX2_checkWay 26 = .ok (.aaload, 1) := dk_50 (dk_at dksX2_checkWay_1 2 rfl rfl)
theorem dX2_checkWay_27 : decode cX2_checkWay 27 = .ok (.iload_n 3, 1) := dk_29 (dk_at dksX2_checkWay_1 3 rfl rfl)
theorem dX2_checkWay_28 : decode cX2_checkWay 28 = .ok (.invokevirtual 239, 3) := dk_182 0 239 (dk_at dksX2_checkWay_1 4 rfl rfl)
theorem dX2_checkWay_31 : decode cX2_checkWay 31 = .ok (.bipush 9, 2) := dk_16 9 (dk_at dksX2_checkWay_1 7 rfl rfl)
theorem dX2_checkWay_33 : decode cX2_checkWay 33 = .ok (.aload_n 0, 1) := dk_42 (dk_at dksX2_checkWay_1 9 rfl rfl)
theorem dX2_checkWay_34 : decode cX2_checkWay 34 = .ok (.getfield 17, 3) := dk_180 0 17 (dk_at dksX2_checkWay_1 10 rfl rfl)
theorem dX2_checkWay_37 : decode cX2_checkWay 37 = .ok (.iload 4, 2) := dk_21 4 (dk_at dksX2_checkWay_1 13 rfl rfl)
theorem dX2_checkWay_39 : decode cX2_checkWay 39 = .ok (.aaload, 1) := dk_50 (dk_at dksX2_checkWay_1 15 rfl rfl)
theorem dX2_checkWay_40 : decode cX2_checkWay 40 = .ok (.getfield 243, 3) := dk_180 0 243 (dk_at dksX2_checkWay_1 16 rfl rfl)
theorem dX2_checkWay_43 : decode cX2_checkWay 43 = .ok (.invokestatic 192, 3) := dk_184 0 192 (dk_at dksX2_checkWay_1 19 rfl rfl)
theorem dX2_checkWay_46 : decode cX2_checkWay 46 = .ok (.aload_n 0, 1) := dk_42 (dk_at dksX2_checkWay_1 22 rfl rfl)
theorem dX2_checkWay_47 : decode cX2_checkWay 47 = .ok (.iload_n 2, 1) := dk_28 (dk_at dksX2_checkWay_1 23 rfl rfl)
theorem dX2_checkWay_48 : decode cX2_checkWay 48 = .ok (.invokevirtual 167, 3) := dk_182 0 167 (dk_at dksX2_checkWay_2 0 rfl rfl)
theorem dX2_checkWay_51 : decode cX2_checkWay 51 = .ok (.aload_n 0, 1) := dk_42 (dk_at dksX2_checkWay_2 3 rfl rfl)
theorem dX2_checkWay_52 : decode cX2_checkWay 52 = .ok (.iload_n 2, 1) := dk_28 (dk_at dksX2_checkWay_2 4 rfl rfl)
theorem dX2_checkWay_53 : decode cX2_checkWay 53 = .ok (.invokevirtual 246, 3) := dk_182 0 246 (dk_at dksX2_checkWay_2 5 rfl rfl)
theorem dX2_checkWay_56 : decode cX2_checkWay 56 = .ok (.iadd, 1) := dk_96 (dk_at dksX2_checkWay_2 8 rfl rfl)
theorem dX2_checkWay_57 : decode cX2_checkWay 57 = .ok (.aload_n 0, 1) := dk_42 (dk_at dksX2_checkWay_2 9 rfl rfl)
theorem dX2_checkWay_58 : decode cX2_checkWay 58 = .ok (.getfield 9, 3) := dk_180 0 9 (dk_at dksX2_checkWay_2 10 rfl rfl)
theorem dX2_checkWay_61 : decode cX2_checkWay 61 = .ok (.iload_n 2, 1) := dk_28 (dk_at dksX2_checkWay_2 13 rfl rfl)
theorem dX2_checkWay_62 : decode cX2_checkWay 62 = .ok (.iaload, 1) := dk_46 (dk_at dksX2_checkWay_2 14 rfl rfl)
theorem dX2_checkWay_63 : decode cX2_checkWay 63 = .ok (.if_icmp .lt 7, 3) := dk_161 0 7 (dk_at dksX2_checkWay_2 15 rfl rfl)
theorem dX2_checkWay_66 : decode cX2_checkWay 66 = .ok (.iconst 1, 1) := dk_4 (dk_at dksX2_checkWay_2 18 rfl rfl)
theorem dX2_checkWay_67 : decode cX2_checkWay 67 = .ok (.goto 4, 3) := dk_167 0 4 (dk_at dksX2_checkWay_2 19 rfl rfl)
theorem dX2_checkWay_70 : decode cX2_checkWay 70 = .ok (.iconst 0, 1) := dk_3 (dk_at dksX2_checkWay_2 22 rfl rfl)
theorem dX2_checkWay_71 : decode cX2_checkWay 71 = .ok (.bipush 8, 2) := dk_16 8 (dk_at dksX2_checkWay_3 0 rfl rfl)
theorem dX2_checkWay_73 : decode cX2_checkWay 73 = .ok (.iload_n 2, 1) := dk_28 (dk_at dksX2_checkWay_3 2 rfl rfl)
theorem dX2_checkWay_74 : decode cX2_checkWay 74 = .ok (.invokestatic 192, 3) := dk_184 0 192 (dk_at dksX2_checkWay_3 3 rfl rfl)
theorem dX2_checkWay_77 : decode cX2_checkWay 77 = .ok (.return_, 1) := dk_177 (dk_at dksX2_checkWay_3 6 rfl rfl)
abbrev cX2_checkEmpty : ByteArray := prog_10_method_21_code
def yX2_checkEmpty : MethodName := ⟨RX2, "checkEmpty", "(I)V"⟩
def dkwX2_checkEmpty_1 : List UInt8 := [177]
abbrev dktX2_checkEmpty_1 : List UInt8 := dkwX2_checkEmpty_1 ++ []
def dkwX2_checkEmpty_0 : List UInt8 := [42, 27, 182, 0, 196, 2, 159, 0, 7, 4, 167, 0, 4, 3, 16, 6, 42, 27, 182, 0, 196, 184, 0, 192]
abbrev dktX2_checkEmpty_0 : List UInt8 := dkwX2_checkEmpty_0 ++ dktX2_checkEmpty_1
theorem dksX2_checkEmpty_0 : cX2_checkEmpty.data.toList.drop 0 = dktX2_checkEmpty_0 := by decide +kernel
theorem dksX2_checkEmpty_1 : cX2_checkEmpty.data.toList.drop 24 = dktX2_checkEmpty_1 := dk_seg dksX2_checkEmpty_0 24 rfl rfl
theorem dX2_checkEmpty_0 : decode cX2_checkEmpty 0 = .ok (.aload_n 0, 1) := dk_42 (dk_at dksX2_checkEmpty_0 0 rfl rfl)
theorem dX2_checkEmpty_1 : decode cX2_checkEmpty 1 = .ok (.iload_n 1, 1) := dk_27 (dk_at dksX2_checkEmpty_0 1 rfl rfl)
theorem dX2_checkEmpty_2 : decode cX2_checkEmpty 2 = .ok (.invokevirtual 196, 3) := dk_182 0 196 (dk_at dksX2_checkEmpty_0 2 rfl rfl)
theorem dX2_checkEmpty_5 : decode cX2_checkEmpty 5 = .ok (.iconst (-1), 1) := dk_2 (dk_at dksX2_checkEmpty_0 5 rfl rfl)
theorem dX2_checkEmpty_6 : decode cX2_checkEmpty 6 = .ok (.if_icmp .eq 7, 3) := dk_159 0 7 (dk_at dksX2_checkEmpty_0 6 rfl rfl)
theorem dX2_checkEmpty_9 : decode cX2_checkEmpty 9 = .ok (.iconst 1, 1) := dk_4 (dk_at dksX2_checkEmpty_0 9 rfl rfl)
theorem dX2_checkEmpty_10 : decode cX2_checkEmpty 10 = .ok (.goto 4, 3) := dk_167 0 4 (dk_at dksX2_checkEmpty_0 10 rfl rfl)
theorem dX2_checkEmpty_13 : decode cX2_checkEmpty 13 = .ok (.iconst 0, 1) := dk_3 (dk_at dksX2_checkEmpty_0 13 rfl rfl)
theorem dX2_checkEmpty_14 : decode cX2_checkEmpty 14 = .ok (.bipush 6, 2) := dk_16 6 (dk_at dksX2_checkEmpty_0 14 rfl rfl)
theorem dX2_checkEmpty_16 : decode cX2_checkEmpty 16 = .ok (.aload_n 0, 1) := dk_42 (dk_at dksX2_checkEmpty_0 16 rfl rfl)
theorem dX2_checkEmpty_17 : decode cX2_checkEmpty 17 = .ok (.iload_n 1, 1) := dk_27 (dk_at dksX2_checkEmpty_0 17 rfl rfl)
theorem dX2_checkEmpty_18 : decode cX2_checkEmpty 18 = .ok (.invokevirtual 196, 3) := dk_182 0 196 (dk_at dksX2_checkEmpty_0 18 rfl rfl)
theorem dX2_checkEmpty_21 : decode cX2_checkEmpty 21 = .ok (.invokestatic 192, 3) := dk_184 0 192 (dk_at dksX2_checkEmpty_0 21 rfl rfl)
theorem dX2_checkEmpty_24 : decode cX2_checkEmpty 24 = .ok (.return_, 1) := dk_177 (dk_at dksX2_checkEmpty_1 0 rfl rfl)
abbrev cX2_trainIn : ByteArray := prog_10_method_11_code
def yX2_trainIn : MethodName := ⟨RX2, "trainIn", "(I)I"⟩
def dkwX2_trainIn_1 : List UInt8 := [180, 0, 105, 27, 160, 0, 5, 28, 172, 132, 2, 1, 167, 255, 222, 2, 172]
abbrev dktX2_trainIn_1 : List UInt8 := dkwX2_trainIn_1 ++ []
def dkwX2_trainIn_0 : List UInt8 := [3, 61, 28, 42, 180, 0, 32, 182, 0, 56, 162, 0, 29, 42, 180, 0, 32, 28, 182, 0, 60, 192, 0, 73]
abbrev dktX2_trainIn_0 : List UInt8 := dkwX2_trainIn_0 ++ dktX2_trainIn_1
theorem dksX2_trainIn_0 : cX2_trainIn.data.toList.drop 0 = dktX2_trainIn_0 := by decide +kernel
theorem dksX2_trainIn_1 : cX2_trainIn.data.toList.drop 24 = dktX2_trainIn_1 := dk_seg dksX2_trainIn_0 24 rfl rfl
theorem dX2_trainIn_0 : decode cX2_trainIn 0 = .ok (.iconst 0, 1) := dk_3 (dk_at dksX2_trainIn_0 0 rfl rfl)
theorem dX2_trainIn_1 : decode cX2_trainIn 1 = .ok (.istore_n 2, 1) := dk_61 (dk_at dksX2_trainIn_0 1 rfl rfl)
theorem dX2_trainIn_2 : decode cX2_trainIn 2 = .ok (.iload_n 2, 1) := dk_28 (dk_at dksX2_trainIn_0 2 rfl rfl)
theorem dX2_trainIn_3 : decode cX2_trainIn 3 = .ok (.aload_n 0, 1) := dk_42 (dk_at dksX2_trainIn_0 3 rfl rfl)
theorem dX2_trainIn_4 : decode cX2_trainIn 4 = .ok (.getfield 32, 3) := dk_180 0 32 (dk_at dksX2_trainIn_0 4 rfl rfl)
theorem dX2_trainIn_7 : decode cX2_trainIn 7 = .ok (.invokevirtual 56, 3) := dk_182 0 56 (dk_at dksX2_trainIn_0 7 rfl rfl)
theorem dX2_trainIn_10 : decode cX2_trainIn 10 = .ok (.if_icmp .ge 29, 3) := dk_162 0 29 (dk_at dksX2_trainIn_0 10 rfl rfl)
theorem dX2_trainIn_13 : decode cX2_trainIn 13 = .ok (.aload_n 0, 1) := dk_42 (dk_at dksX2_trainIn_0 13 rfl rfl)
theorem dX2_trainIn_14 : decode cX2_trainIn 14 = .ok (.getfield 32, 3) := dk_180 0 32 (dk_at dksX2_trainIn_0 14 rfl rfl)
theorem dX2_trainIn_17 : decode cX2_trainIn 17 = .ok (.iload_n 2, 1) := dk_28 (dk_at dksX2_trainIn_0 17 rfl rfl)
theorem dX2_trainIn_18 : decode cX2_trainIn 18 = .ok (.invokevirtual 60, 3) := dk_182 0 60 (dk_at dksX2_trainIn_0 18 rfl rfl)
theorem dX2_trainIn_21 : decode cX2_trainIn 21 = .ok (.checkcast 73, 3) := dk_192 0 73 (dk_at dksX2_trainIn_0 21 rfl rfl)
theorem dX2_trainIn_24 : decode cX2_trainIn 24 = .ok (.getfield 105, 3) := dk_180 0 105 (dk_at dksX2_trainIn_1 0 rfl rfl)
theorem dX2_trainIn_27 : decode cX2_trainIn 27 = .ok (.iload_n 1, 1) := dk_27 (dk_at dksX2_trainIn_1 3 rfl rfl)
theorem dX2_trainIn_28 : decode cX2_trainIn 28 = .ok (.if_icmp .ne 5, 3) := dk_160 0 5 (dk_at dksX2_trainIn_1 4 rfl rfl)
theorem dX2_trainIn_31 : decode cX2_trainIn 31 = .ok (.iload_n 2, 1) := dk_28 (dk_at dksX2_trainIn_1 7 rfl rfl)
theorem dX2_trainIn_32 : decode cX2_trainIn 32 = .ok (.ireturn, 1) := dk_172 (dk_at dksX2_trainIn_1 8 rfl rfl)
theorem dX2_trainIn_33 : decode cX2_trainIn 33 = .ok (.iinc 2 1, 3) := dk_132 2 1 (dk_at dksX2_trainIn_1 9 rfl rfl)
theorem dX2_trainIn_36 : decode cX2_trainIn 36 = .ok (.goto (-34), 3) := dk_167 255 222 (dk_at dksX2_trainIn_1 12 rfl rfl)
theorem dX2_trainIn_39 : decode cX2_trainIn 39 = .ok (.iconst (-1), 1) := dk_2 (dk_at dksX2_trainIn_1 15 rfl rfl)
theorem dX2_trainIn_40 : decode cX2_trainIn 40 = .ok (.ireturn, 1) := dk_172 (dk_at dksX2_trainIn_1 16 rfl rfl)
abbrev cX2_checkToken : ByteArray := prog_10_method_24_code
def yX2_checkToken : MethodName := ⟨RX2, "checkToken", "(II)V"⟩
def dkwX2_checkToken_0 : List UInt8 := [42, 27, 28, 182, 0, 224, 167, 0, 16, 78, 187, 0, 204, 89, 16, 7, 27, 45, 183, 0, 207, 191, 177]
abbrev dktX2_checkToken_0 : List UInt8 := dkwX2_checkToken_0 ++ []
theorem dksX2_checkToken_0 : cX2_checkToken.data.toList.drop 0 = dktX2_checkToken_0 := by decide +kernel
theorem dX2_checkToken_0 : decode cX2_checkToken 0 = .ok (.aload_n 0, 1) := dk_42 (dk_at dksX2_checkToken_0 0 rfl rfl)
theorem dX2_checkToken_1 : decode cX2_checkToken 1 = .ok (.iload_n 1, 1) := dk_27 (dk_at dksX2_checkToken_0 1 rfl rfl)
theorem dX2_checkToken_2 : decode cX2_checkToken 2 = .ok (.iload_n 2, 1) := dk_28 (dk_at dksX2_checkToken_0 2 rfl rfl)
theorem dX2_checkToken_3 : decode cX2_checkToken 3 = .ok (.invokevirtual 224, 3) := dk_182 0 224 (dk_at dksX2_checkToken_0 3 rfl rfl)
theorem dX2_checkToken_6 : decode cX2_checkToken 6 = .ok (.goto 16, 3) := dk_167 0 16 (dk_at dksX2_checkToken_0 6 rfl rfl)
theorem dX2_checkToken_9 : decode cX2_checkToken 9 = .ok (.astore_n 3, 1) := dk_78 (dk_at dksX2_checkToken_0 9 rfl rfl)
theorem dX2_checkToken_10 : decode cX2_checkToken 10 = .ok (.new 204, 3) := dk_187 0 204 (dk_at dksX2_checkToken_0 10 rfl rfl)
theorem dX2_checkToken_13 : decode cX2_checkToken 13 = .ok (.dup, 1) := dk_89 (dk_at dksX2_checkToken_0 13 rfl rfl)
theorem dX2_checkToken_14 : decode cX2_checkToken 14 = .ok (.bipush 7, 2) := dk_16 7 (dk_at dksX2_checkToken_0 14 rfl rfl)
theorem dX2_checkToken_16 : decode cX2_checkToken 16 = .ok (.iload_n 1, 1) := dk_27 (dk_at dksX2_checkToken_0 16 rfl rfl)
theorem dX2_checkToken_17 : decode cX2_checkToken 17 = .ok (.aload_n 3, 1) := dk_45 (dk_at dksX2_checkToken_0 17 rfl rfl)
theorem dX2_checkToken_18 : decode cX2_checkToken 18 = .ok (.invokespecial 207, 3) := dk_183 0 207 (dk_at dksX2_checkToken_0 18 rfl rfl)
theorem dX2_checkToken_21 : decode cX2_checkToken 21 = .ok (.athrow, 1) := dk_191 (dk_at dksX2_checkToken_0 21 rfl rfl)
theorem dX2_checkToken_22 : decode cX2_checkToken 22 = .ok (.return_, 1) := dk_177 (dk_at dksX2_checkToken_0 22 rfl rfl)
abbrev cX2_looksForToken : ByteArray := prog_10_method_23_code
def yX2_looksForToken : MethodName := ⟨RX2, "looksForToken", "(II)V"⟩
def dkwX2_looksForToken_4 : List UInt8 := [154, 0, 7, 4, 167, 0, 4, 3, 182, 0, 217, 184, 0, 192, 177]
abbrev dktX2_looksForToken_4 : List UInt8 := dkwX2_looksForToken_4 ++ []
def dkwX2_looksForToken_3 : List UInt8 := [4, 96, 28, 100, 184, 0, 192, 21, 5, 154, 0, 7, 4, 167, 0, 4, 3, 16, 21, 45, 21, 4]
abbrev dktX2_looksForToken_3 : List UInt8 := dkwX2_looksForToken_3 ++ dktX2_looksForToken_4
def dkwX2_looksForToken_2 : List UInt8 := [54, 5, 21, 5, 154, 0, 14, 45, 180, 0, 221, 154, 0, 7, 4, 167, 0, 4, 3, 16, 20, 5, 27, 104]
abbrev dktX2_looksForToken_2 : List UInt8 := dkwX2_looksForToken_2 ++ dktX2_looksForToken_3
def dkwX2_looksForToken_1 : List UInt8 := [153, 0, 10, 42, 27, 28, 182, 0, 214, 177, 45, 21, 4, 182, 0, 217, 158, 0, 7, 4, 167, 0, 4, 3]
abbrev dktX2_looksForToken_1 : List UInt8 := dkwX2_looksForToken_1 ++ dktX2_looksForToken_2
def dkwX2_looksForToken_0 : List UInt8 := [42, 180, 0, 17, 27, 50, 78, 28, 27, 160, 0, 7, 4, 167, 0, 4, 3, 54, 4, 45, 180, 0, 211]
abbrev dktX2_looksForToken_0 : List UInt8 := dkwX2_looksForToken_0 ++ dktX2_looksForToken_1
theorem dksX2_looksForToken_0 : cX2_looksForToken.data.toList.drop 0 = dktX2_looksForToken_0 := by decide +kernel
theorem dksX2_looksForToken_1 : cX2_looksForToken.data.toList.drop 23 = dktX2_looksForToken_1 := dk_seg dksX2_looksForToken_0 23 rfl rfl
theorem dksX2_looksForToken_2 : cX2_looksForToken.data.toList.drop 47 = dktX2_looksForToken_2 := dk_seg dksX2_looksForToken_1 24 rfl rfl
theorem dksX2_looksForToken_3 : cX2_looksForToken.data.toList.drop 71 = dktX2_looksForToken_3 := dk_seg dksX2_looksForToken_2 24 rfl rfl
theorem dksX2_looksForToken_4 : cX2_looksForToken.data.toList.drop 93 = dktX2_looksForToken_4 := dk_seg dksX2_looksForToken_3 22 rfl rfl
theorem dX2_looksForToken_0 : decode cX2_looksForToken 0 = .ok (.aload_n 0, 1) := dk_42 (dk_at dksX2_looksForToken_0 0 rfl rfl)
theorem dX2_looksForToken_1 : decode cX2_looksForToken 1 = .ok (.getfield 17, 3) := dk_180 0 17 (dk_at dksX2_looksForToken_0 1 rfl rfl)
theorem dX2_looksForToken_4 : decode cX2_looksForToken 4 = .ok (.iload_n 1, 1) := dk_27 (dk_at dksX2_looksForToken_0 4 rfl rfl)
theorem dX2_looksForToken_5 : decode cX2_looksForToken 5 = .ok (.aaload, 1) := dk_50 (dk_at dksX2_looksForToken_0 5 rfl rfl)
theorem dX2_looksForToken_6 : decode cX2_looksForToken 6 = .ok (.astore_n 3, 1) := dk_78 (dk_at dksX2_looksForToken_0 6 rfl rfl)
theorem dX2_looksForToken_7 : decode cX2_looksForToken 7 = .ok (.iload_n 2, 1) := dk_28 (dk_at dksX2_looksForToken_0 7 rfl rfl)
theorem dX2_looksForToken_8 : decode cX2_looksForToken 8 = .ok (.iload_n 1, 1) := dk_27 (dk_at dksX2_looksForToken_0 8 rfl rfl)
theorem dX2_looksForToken_9 : decode cX2_looksForToken 9 = .ok (.if_icmp .ne 7, 3) := dk_160 0 7 (dk_at dksX2_looksForToken_0 9 rfl rfl)
theorem dX2_looksForToken_12 : decode cX2_looksForToken 12 = .ok (.iconst 1, 1) := dk_4 (dk_at dksX2_looksForToken_0 12 rfl rfl)
theorem dX2_looksForToken_13 : decode cX2_looksForToken 13 = .ok (.goto 4, 3) := dk_167 0 4 (dk_at dksX2_looksForToken_0 13 rfl rfl)
theorem dX2_looksForToken_16 : decode cX2_looksForToken 16 = .ok (.iconst 0, 1) := dk_3 (dk_at dksX2_looksForToken_0 16 rfl rfl)
theorem dX2_looksForToken_17 : decode cX2_looksForToken 17 = .ok (.istore 4, 2) := dk_54 4 (dk_at dksX2_looksForToken_0 17 rfl rfl)
theorem dX2_looksForToken_19 : decode cX2_looksForToken 19 = .ok (.aload_n 3, 1) := dk_45 (dk_at dksX2_looksForToken_0 19 rfl rfl)
theorem dX2_looksForToken_20 : decode cX2_looksForToken 20 = .ok (.getfield 211, 3) := dk_180 0 211 (dk_at dksX2_looksForToken_0 20 rfl rfl)
theorem dX2_looksForToken_23 : decode cX2_looksForToken 23 = .ok (.ifCond .eq 10, 3) := dk_153 0 10 (dk_at dksX2_looksForToken_1 0 rfl rfl)
theorem dX2_looksForToken_26 : decode cX2_looksForToken 26 = .ok (.aload_n 0, 1) := dk_42 (dk_at dksX2_looksForToken_1 3 rfl rfl)
theorem dX2_looksForToken_27 : decode cX2_looksForToken 27 = .ok (.iload_n 1, 1) := dk_27 (dk_at dksX2_looksForToken_1 4 rfl rfl)
theorem dX2_looksForToken_28 : decode cX2_looksForToken 28 = .ok (.iload_n 2, 1) := dk_28 (dk_at dksX2_looksForToken_1 5 rfl rfl)
theorem dX2_looksForToken_29 : decode cX2_looksForToken 29 = .ok (.invokevirtual 214, 3) := dk_182 0 214 (dk_at dksX2_looksForToken_1 6 rfl rfl)
theorem dX2_looksForToken_32 : decode cX2_looksForToken 32 = .ok (.return_, 1) := dk_177 (dk_at dksX2_looksForToken_1 9 rfl rfl)
theorem dX2_looksForToken_33 : decode cX2_looksForToken 33 = .ok (.aload_n 3, 1) := dk_45 (dk_at dksX2_looksForToken_1 10 rfl rfl)
theorem dX2_looksForToken_34 : decode cX2_looksForToken 34 = .ok (.iload 4, 2) := dk_21 4 (dk_at dksX2_looksForToken_1 11 rfl rfl)
theorem dX2_looksForToken_36 : decode cX2_looksForToken 36 = .ok (.invokevirtual 217, 3) := dk_182 0 217 (dk_at dksX2_looksForToken_1 13 rfl rfl)
theorem dX2_looksForToken_39 : decode cX2_looksForToken 39 = .ok (.ifCond .le 7, 3) := dk_158 0 7 (dk_at dksX2_looksForToken_1 16 rfl rfl)
theorem dX2_looksForToken_42 : decode cX2_looksForToken 42 = .ok (.iconst 1, 1) := dk_4 (dk_at dksX2_looksForToken_1 19 rfl rfl)
theorem dX2_looksForToken_43 : decode cX2_looksForToken 43 = .ok (.goto 4, 3) := dk_167 0 4 (dk_at dksX2_looksForToken_1 20 rfl rfl)
theorem dX2_looksForToken_46 : decode cX2_looksForToken 46 = .ok (.iconst 0, 1) := dk_3 (dk_at dksX2_looksForToken_1 23 rfl rfl)
theorem dX2_looksForToken_47 : decode cX2_looksForToken 47 = .ok (.istore 5, 2) := dk_54 5 (dk_at dksX2_looksForToken_2 0 rfl rfl)
theorem dX2_looksForToken_49 : decode cX2_looksForToken 49 = .ok (.iload 5, 2) := dk_21 5 (dk_at dksX2_looksForToken_2 2 rfl rfl)
theorem dX2_looksForToken_51 : decode cX2_looksForToken 51 = .ok (.ifCond .ne 14, 3) := dk_154 0 14 (dk_at dksX2_looksForToken_2 4 rfl rfl)
theorem dX2_looksForToken_54 : decode cX2_looksForToken 54 = .ok (.aload_n 3, 1) := dk_45 (dk_at dksX2_looksForToken_2 7 rfl rfl)
theorem dX2_looksForToken_55 : decode cX2_looksForToken 55 = .ok (.getfield 221, 3) := dk_180 0 221 (dk_at dksX2_looksForToken_2 8 rfl rfl)
theorem dX2_looksForToken_58 : decode cX2_looksForToken 58 = .ok (.ifCond .ne 7, 3) := dk_154 0 7 (dk_at dksX2_looksForToken_2 11 rfl rfl)
theorem dX2_looksForToken_61 : decode cX2_looksForToken 61 = .ok (.iconst 1, 1) := dk_4 (dk_at dksX2_looksForToken_2 14 rfl rfl)
theorem dX2_looksForToken_62 : decode cX2_looksForToken 62 = .ok (.goto 4, 3) := dk_167 0 4 (dk_at dksX2_looksForToken_2 15 rfl rfl)
theorem dX2_looksForToken_65 : decode cX2_looksForToken 65 = .ok (.iconst 0, 1) := dk_3 (dk_at dksX2_looksForToken_2 18 rfl rfl)
theorem dX2_looksForToken_66 : decode cX2_looksForToken 66 = .ok (.bipush 20, 2) := dk_16 20 (dk_at dksX2_looksForToken_2 19 rfl rfl)
theorem dX2_looksForToken_68 : decode cX2_looksForToken 68 = .ok (.iconst 2, 1) := dk_5 (dk_at dksX2_looksForToken_2 21 rfl rfl)
theorem dX2_looksForToken_69 : decode cX2_looksForToken 69 = .ok (.iload_n 1, 1) := dk_27 (dk_at dksX2_looksForToken_2 22 rfl rfl)
theorem dX2_looksForToken_70 : decode cX2_looksForToken 70 = .ok (.imul, 1) := dk_104 (dk_at dksX2_looksForToken_2 23 rfl rfl)
theorem dX2_looksForToken_71 : decode cX2_looksForToken 71 = .ok (.iconst 1, 1) := dk_4 (dk_at dksX2_looksForToken_3 0 rfl rfl)
theorem dX2_looksForToken_72 : decode cX2_looksForToken 72 = .ok (.iadd, 1) := dk_96 (dk_at dksX2_looksForToken_3 1 rfl rfl)
theorem dX2_looksForToken_73 : decode cX2_looksForToken 73 = .ok (.iload_n 2, 1) := dk_28 (dk_at dksX2_looksForToken_3 2 rfl rfl)
theorem dX2_looksForToken_74 : decode cX2_looksForToken 74 = .ok (.isub, 1) := dk_100 (dk_at dksX2_looksForToken_3 3 rfl rfl)
theorem dX2_looksForToken_75 : decode cX2_looksForToken 75 = .ok (.invokestatic 192, 3) := dk_184 0 192 (dk_at dksX2_looksForToken_3 4 rfl rfl)
theorem dX2_looksForToken_78 : decode cX2_looksForToken 78 = .ok (.iload 5, 2) := dk_21 5 (dk_at dksX2_looksForToken_3 7 rfl rfl)
theorem dX2_looksForToken_80 : decode cX2_looksForToken 80 = .ok (.ifCond .ne 7, 3) := dk_154 0 7 (dk_at dksX2_looksForToken_3 9 rfl rfl)
theorem dX2_looksForToken_83 : decode cX2_looksForToken 83 = .ok (.iconst 1, 1) := dk_4 (dk_at dksX2_looksForToken_3 12 rfl rfl)
theorem dX2_looksForToken_84 : decode cX2_looksForToken 84 = .ok (.goto 4, 3) := dk_167 0 4 (dk_at dksX2_looksForToken_3 13 rfl rfl)
theorem dX2_looksForToken_87 : decode cX2_looksForToken 87 = .ok (.iconst 0, 1) := dk_3 (dk_at dksX2_looksForToken_3 16 rfl rfl)
theorem dX2_looksForToken_88 : decode cX2_looksForToken 88 = .ok (.bipush 21, 2) := dk_16 21 (dk_at dksX2_looksForToken_3 17 rfl rfl)
theorem dX2_looksForToken_90 : decode cX2_looksForToken 90 = .ok (.aload_n 3, 1) := dk_45 (dk_at dksX2_looksForToken_3 19 rfl rfl)
theorem dX2_looksForToken_91 : decode cX2_looksForToken 91 = .ok (.iload 4, 2) := dk_21 4 (dk_at dksX2_looksForToken_3 20 rfl rfl)
theorem dX2_looksForToken_93 : decode cX2_looksForToken 93 = .ok (.ifCond .ne 7, 3) := dk_154 0 7 (dk_at dksX2_looksForToken_4 0 rfl rfl)
theorem dX2_looksForToken_96 : decode cX2_looksForToken 96 = .ok (.iconst 1, 1) := dk_4 (dk_at dksX2_looksForToken_4 3 rfl rfl)
theorem dX2_looksForToken_97 : decode cX2_looksForToken 97 = .ok (.goto 4, 3) := dk_167 0 4 (dk_at dksX2_looksForToken_4 4 rfl rfl)
theorem dX2_looksForToken_100 : decode cX2_looksForToken 100 = .ok (.iconst 0, 1) := dk_3 (dk_at dksX2_looksForToken_4 7 rfl rfl)
theorem dX2_looksForToken_101 : decode cX2_looksForToken 101 = .ok (.invokevirtual 217, 3) := dk_182 0 217 (dk_at dksX2_looksForToken_4 8 rfl rfl)
theorem dX2_looksForToken_104 : decode cX2_looksForToken 104 = .ok (.invokestatic 192, 3) := dk_184 0 192 (dk_at dksX2_looksForToken_4 11 rfl rfl)
theorem dX2_looksForToken_107 : decode cX2_looksForToken 107 = .ok (.return_, 1) := dk_177 (dk_at dksX2_looksForToken_4 14 rfl rfl)
abbrev cX2_checkReplaced : ByteArray := prog_10_method_22_code
def yX2_checkReplaced : MethodName := ⟨RX2, "checkReplaced", "(II)V"⟩
def dkwX2_checkReplaced_3 : List UInt8 := [3, 16, 22, 45, 180, 0, 122, 184, 0, 192, 177]
abbrev dktX2_checkReplaced_3 : List UInt8 := dkwX2_checkReplaced_3 ++ []
def dkwX2_checkReplaced_2 : List UInt8 := [27, 183, 0, 206, 167, 0, 4, 1, 183, 0, 207, 191, 45, 180, 0, 210, 28, 159, 0, 7, 4, 167, 0, 4]
abbrev dktX2_checkReplaced_2 : List UInt8 := dkwX2_checkReplaced_2 ++ dktX2_checkReplaced_3
def dkwX2_checkReplaced_1 : List UInt8 := [167, 0, 4, 3, 54, 4, 187, 0, 204, 89, 16, 10, 27, 21, 4, 153, 0, 16, 187, 0, 204, 89, 16, 23]
abbrev dktX2_checkReplaced_1 : List UInt8 := dkwX2_checkReplaced_1 ++ dktX2_checkReplaced_2
def dkwX2_checkReplaced_0 : List UInt8 := [42, 27, 182, 0, 199, 78, 45, 199, 0, 53, 42, 27, 186, 0, 203, 0, 0, 182, 0, 174, 199, 0, 7, 4]
abbrev dktX2_checkReplaced_0 : List UInt8 := dkwX2_checkReplaced_0 ++ dktX2_checkReplaced_1
theorem dksX2_checkReplaced_0 : cX2_checkReplaced.data.toList.drop 0 = dktX2_checkReplaced_0 := by decide +kernel
theorem dksX2_checkReplaced_1 : cX2_checkReplaced.data.toList.drop 24 = dktX2_checkReplaced_1 := dk_seg dksX2_checkReplaced_0 24 rfl rfl
theorem dksX2_checkReplaced_2 : cX2_checkReplaced.data.toList.drop 48 = dktX2_checkReplaced_2 := dk_seg dksX2_checkReplaced_1 24 rfl rfl
theorem dksX2_checkReplaced_3 : cX2_checkReplaced.data.toList.drop 72 = dktX2_checkReplaced_3 := dk_seg dksX2_checkReplaced_2 24 rfl rfl
theorem dX2_checkReplaced_0 : decode cX2_checkReplaced 0 = .ok (.aload_n 0, 1) := dk_42 (dk_at dksX2_checkReplaced_0 0 rfl rfl)
theorem dX2_checkReplaced_1 : decode cX2_checkReplaced 1 = .ok (.iload_n 1, 1) := dk_27 (dk_at dksX2_checkReplaced_0 1 rfl rfl)
theorem dX2_checkReplaced_2 : decode cX2_checkReplaced 2 = .ok (.invokevirtual 199, 3) := dk_182 0 199 (dk_at dksX2_checkReplaced_0 2 rfl rfl)
theorem dX2_checkReplaced_5 : decode cX2_checkReplaced 5 = .ok (.astore_n 3, 1) := dk_78 (dk_at dksX2_checkReplaced_0 5 rfl rfl)
theorem dX2_checkReplaced_6 : decode cX2_checkReplaced 6 = .ok (.aload_n 3, 1) := dk_45 (dk_at dksX2_checkReplaced_0 6 rfl rfl)
theorem dX2_checkReplaced_7 : decode cX2_checkReplaced 7 = .ok (.ifnonnull 53, 3) := dk_199 0 53 (dk_at dksX2_checkReplaced_0 7 rfl rfl)
theorem dX2_checkReplaced_10 : decode cX2_checkReplaced 10 = .ok (.aload_n 0, 1) := dk_42 (dk_at dksX2_checkReplaced_0 10 rfl rfl)
theorem dX2_checkReplaced_11 : decode cX2_checkReplaced 11 = .ok (.iload_n 1, 1) := dk_27 (dk_at dksX2_checkReplaced_0 11 rfl rfl)
theorem dX2_checkReplaced_12 : decode cX2_checkReplaced 12 = .ok (.invokedynamic 203, 5) := by decide +kernel
theorem dX2_checkReplaced_17 : decode cX2_checkReplaced 17 = .ok (.invokevirtual 174, 3) := dk_182 0 174 (dk_at dksX2_checkReplaced_0 17 rfl rfl)
theorem dX2_checkReplaced_20 : decode cX2_checkReplaced 20 = .ok (.ifnonnull 7, 3) := dk_199 0 7 (dk_at dksX2_checkReplaced_0 20 rfl rfl)
theorem dX2_checkReplaced_23 : decode cX2_checkReplaced 23 = .ok (.iconst 1, 1) := dk_4 (dk_at dksX2_checkReplaced_0 23 rfl rfl)
theorem dX2_checkReplaced_24 : decode cX2_checkReplaced 24 = .ok (.goto 4, 3) := dk_167 0 4 (dk_at dksX2_checkReplaced_1 0 rfl rfl)
theorem dX2_checkReplaced_27 : decode cX2_checkReplaced 27 = .ok (.iconst 0, 1) := dk_3 (dk_at dksX2_checkReplaced_1 3 rfl rfl)
theorem dX2_checkReplaced_28 : decode cX2_checkReplaced 28 = .ok (.istore 4, 2) := dk_54 4 (dk_at dksX2_checkReplaced_1 4 rfl rfl)
theorem dX2_checkReplaced_30 : decode cX2_checkReplaced 30 = .ok (.new 204, 3) := dk_187 0 204 (dk_at dksX2_checkReplaced_1 6 rfl rfl)
theorem dX2_checkReplaced_33 : decode cX2_checkReplaced 33 = .ok (.dup, 1) := dk_89 (dk_at dksX2_checkReplaced_1 9 rfl rfl)
theorem dX2_checkReplaced_34 : decode cX2_checkReplaced 34 = .ok (.bipush 10, 2) := dk_16 10 (dk_at dksX2_checkReplaced_1 10 rfl rfl)
theorem dX2_checkReplaced_36 : decode cX2_checkReplaced 36 = .ok (.iload_n 1, 1) := dk_27 (dk_at dksX2_checkReplaced_1 12 rfl rfl)
theorem dX2_checkReplaced_37 : decode cX2_checkReplaced 37 = .ok (.iload 4, 2) := dk_21 4 (dk_at dksX2_checkReplaced_1 13 rfl rfl)
theorem dX2_checkReplaced_39 : decode cX2_checkReplaced 39 = .ok (.ifCond .eq 16, 3) := dk_153 0 16 (dk_at dksX2_checkReplaced_1 15 rfl rfl)
theorem dX2_checkReplaced_42 : decode cX2_checkReplaced 42 = .ok (.new 204, 3) := dk_187 0 204 (dk_at dksX2_checkReplaced_1 18 rfl rfl)
theorem dX2_checkReplaced_45 : decode cX2_checkReplaced 45 = .ok (.dup, 1) := dk_89 (dk_at dksX2_checkReplaced_1 21 rfl rfl)
theorem dX2_checkReplaced_46 : decode cX2_checkReplaced 46 = .ok (.bipush 23, 2) := dk_16 23 (dk_at dksX2_checkReplaced_1 22 rfl rfl)
theorem dX2_checkReplaced_48 : decode cX2_checkReplaced 48 = .ok (.iload_n 1, 1) := dk_27 (dk_at dksX2_checkReplaced_2 0 rfl rfl)
theorem dX2_checkReplaced_49 : decode cX2_checkReplaced 49 = .ok (.invokespecial 206, 3) := dk_183 0 206 (dk_at dksX2_checkReplaced_2 1 rfl rfl)
theorem dX2_checkReplaced_52 : decode cX2_checkReplaced 52 = .ok (.goto 4, 3) := dk_167 0 4 (dk_at dksX2_checkReplaced_2 4 rfl rfl)
theorem dX2_checkReplaced_55 : decode cX2_checkReplaced 55 = .ok (.aconst_null, 1) := dk_1 (dk_at dksX2_checkReplaced_2 7 rfl rfl)
theorem dX2_checkReplaced_56 : decode cX2_checkReplaced 56 = .ok (.invokespecial 207, 3) := dk_183 0 207 (dk_at dksX2_checkReplaced_2 8 rfl rfl)
theorem dX2_checkReplaced_59 : decode cX2_checkReplaced 59 = .ok (.athrow, 1) := dk_191 (dk_at dksX2_checkReplaced_2 11 rfl rfl)
theorem dX2_checkReplaced_60 : decode cX2_checkReplaced 60 = .ok (.aload_n 3, 1) := dk_45 (dk_at dksX2_checkReplaced_2 12 rfl rfl)
theorem dX2_checkReplaced_61 : decode cX2_checkReplaced 61 = .ok (.getfield 210, 3) := dk_180 0 210 (dk_at dksX2_checkReplaced_2 13 rfl rfl)
theorem dX2_checkReplaced_64 : decode cX2_checkReplaced 64 = .ok (.iload_n 2, 1) := dk_28 (dk_at dksX2_checkReplaced_2 16 rfl rfl)
theorem dX2_checkReplaced_65 : decode cX2_checkReplaced 65 = .ok (.if_icmp .eq 7, 3) := dk_159 0 7 (dk_at dksX2_checkReplaced_2 17 rfl rfl)
theorem dX2_checkReplaced_68 : decode cX2_checkReplaced 68 = .ok (.iconst 1, 1) := dk_4 (dk_at dksX2_checkReplaced_2 20 rfl rfl)
theorem dX2_checkReplaced_69 : decode cX2_checkReplaced 69 = .ok (.goto 4, 3) := dk_167 0 4 (dk_at dksX2_checkReplaced_2 21 rfl rfl)
theorem dX2_checkReplaced_72 : decode cX2_checkReplaced 72 = .ok (.iconst 0, 1) := dk_3 (dk_at dksX2_checkReplaced_3 0 rfl rfl)
theorem dX2_checkReplaced_73 : decode cX2_checkReplaced 73 = .ok (.bipush 22, 2) := dk_16 22 (dk_at dksX2_checkReplaced_3 1 rfl rfl)
theorem dX2_checkReplaced_75 : decode cX2_checkReplaced 75 = .ok (.aload_n 3, 1) := dk_45 (dk_at dksX2_checkReplaced_3 3 rfl rfl)
theorem dX2_checkReplaced_76 : decode cX2_checkReplaced 76 = .ok (.getfield 122, 3) := dk_180 0 122 (dk_at dksX2_checkReplaced_3 4 rfl rfl)
theorem dX2_checkReplaced_79 : decode cX2_checkReplaced 79 = .ok (.invokestatic 192, 3) := dk_184 0 192 (dk_at dksX2_checkReplaced_3 7 rfl rfl)
theorem dX2_checkReplaced_82 : decode cX2_checkReplaced 82 = .ok (.return_, 1) := dk_177 (dk_at dksX2_checkReplaced_3 10 rfl rfl)
abbrev cX2_pilotmanOf : ByteArray := prog_10_method_12_code
def yX2_pilotmanOf : MethodName := ⟨RX2, "pilotmanOf", "(I)LStaffRailway$Pilotman;"⟩
def dkwX2_pilotmanOf_0 : List UInt8 := [42, 27, 186, 0, 171, 0, 0, 182, 0, 174, 176]
abbrev dktX2_pilotmanOf_0 : List UInt8 := dkwX2_pilotmanOf_0 ++ []
theorem dksX2_pilotmanOf_0 : cX2_pilotmanOf.data.toList.drop 0 = dktX2_pilotmanOf_0 := by decide +kernel
theorem dX2_pilotmanOf_0 : decode cX2_pilotmanOf 0 = .ok (.aload_n 0, 1) := dk_42 (dk_at dksX2_pilotmanOf_0 0 rfl rfl)
theorem dX2_pilotmanOf_1 : decode cX2_pilotmanOf 1 = .ok (.iload_n 1, 1) := dk_27 (dk_at dksX2_pilotmanOf_0 1 rfl rfl)
theorem dX2_pilotmanOf_2 : decode cX2_pilotmanOf 2 = .ok (.invokedynamic 171, 5) := by decide +kernel
theorem dX2_pilotmanOf_7 : decode cX2_pilotmanOf 7 = .ok (.invokevirtual 174, 3) := dk_182 0 174 (dk_at dksX2_pilotmanOf_0 7 rfl rfl)
theorem dX2_pilotmanOf_10 : decode cX2_pilotmanOf 10 = .ok (.areturn, 1) := dk_176 (dk_at dksX2_pilotmanOf_0 10 rfl rfl)
abbrev cX2_lambda_pilotmanOf_2 : ByteArray := prog_10_method_45_code
def yX2_lambda_pilotmanOf_2 : MethodName := ⟨RX2, "lambda$pilotmanOf$2", "(ILStaffRailway$Pilotman;)Z"⟩
def dkwX2_lambda_pilotmanOf_2_0 : List UInt8 := [43, 180, 1, 54, 26, 160, 0, 7, 4, 167, 0, 4, 3, 172]
abbrev dktX2_lambda_pilotmanOf_2_0 : List UInt8 := dkwX2_lambda_pilotmanOf_2_0 ++ []
theorem dksX2_lambda_pilotmanOf_2_0 : cX2_lambda_pilotmanOf_2.data.toList.drop 0 = dktX2_lambda_pilotmanOf_2_0 := by decide +kernel
theorem dX2_lambda_pilotmanOf_2_0 : decode cX2_lambda_pilotmanOf_2 0 = .ok (.aload_n 1, 1) := dk_43 (dk_at dksX2_lambda_pilotmanOf_2_0 0 rfl rfl)
theorem dX2_lambda_pilotmanOf_2_1 : decode cX2_lambda_pilotmanOf_2 1 = .ok (.getfield 310, 3) := dk_180 1 54 (dk_at dksX2_lambda_pilotmanOf_2_0 1 rfl rfl)
theorem dX2_lambda_pilotmanOf_2_4 : decode cX2_lambda_pilotmanOf_2 4 = .ok (.iload_n 0, 1) := dk_26 (dk_at dksX2_lambda_pilotmanOf_2_0 4 rfl rfl)
theorem dX2_lambda_pilotmanOf_2_5 : decode cX2_lambda_pilotmanOf_2 5 = .ok (.if_icmp .ne 7, 3) := dk_160 0 7 (dk_at dksX2_lambda_pilotmanOf_2_0 5 rfl rfl)
theorem dX2_lambda_pilotmanOf_2_8 : decode cX2_lambda_pilotmanOf_2 8 = .ok (.iconst 1, 1) := dk_4 (dk_at dksX2_lambda_pilotmanOf_2_0 8 rfl rfl)
theorem dX2_lambda_pilotmanOf_2_9 : decode cX2_lambda_pilotmanOf_2 9 = .ok (.goto 4, 3) := dk_167 0 4 (dk_at dksX2_lambda_pilotmanOf_2_0 9 rfl rfl)
theorem dX2_lambda_pilotmanOf_2_12 : decode cX2_lambda_pilotmanOf_2 12 = .ok (.iconst 0, 1) := dk_3 (dk_at dksX2_lambda_pilotmanOf_2_0 12 rfl rfl)
theorem dX2_lambda_pilotmanOf_2_13 : decode cX2_lambda_pilotmanOf_2 13 = .ok (.ireturn, 1) := dk_172 (dk_at dksX2_lambda_pilotmanOf_2_0 13 rfl rfl)
abbrev cX2_firstOf : ByteArray := prog_10_method_6_code
def yX2_firstOf : MethodName := ⟨RX2, "firstOf", "(LStaffRailway$OfPilotman;)LStaffRailway$Pilotman;"⟩
def dkwX2_firstOf_1 : List UInt8 := [192, 0, 64, 78, 43, 45, 185, 0, 148, 2, 0, 153, 0, 5, 45, 176, 167, 255, 225, 1, 176]
abbrev dktX2_firstOf_1 : List UInt8 := dkwX2_firstOf_1 ++ []
def dkwX2_firstOf_0 : List UInt8 := [42, 180, 0, 36, 182, 0, 129, 77, 44, 185, 0, 133, 1, 0, 153, 0, 28, 44, 185, 0, 138, 1, 0]
abbrev dktX2_firstOf_0 : List UInt8 := dkwX2_firstOf_0 ++ dktX2_firstOf_1
theorem dksX2_firstOf_0 : cX2_firstOf.data.toList.drop 0 = dktX2_firstOf_0 := by decide +kernel
theorem dksX2_firstOf_1 : cX2_firstOf.data.toList.drop 23 = dktX2_firstOf_1 := dk_seg dksX2_firstOf_0 23 rfl rfl
theorem dX2_firstOf_0 : decode cX2_firstOf 0 = .ok (.aload_n 0, 1) := dk_42 (dk_at dksX2_firstOf_0 0 rfl rfl)
theorem dX2_firstOf_1 : decode cX2_firstOf 1 = .ok (.getfield 36, 3) := dk_180 0 36 (dk_at dksX2_firstOf_0 1 rfl rfl)
theorem dX2_firstOf_4 : decode cX2_firstOf 4 = .ok (.invokevirtual 129, 3) := dk_182 0 129 (dk_at dksX2_firstOf_0 4 rfl rfl)
theorem dX2_firstOf_7 : decode cX2_firstOf 7 = .ok (.astore_n 2, 1) := dk_77 (dk_at dksX2_firstOf_0 7 rfl rfl)
theorem dX2_firstOf_8 : decode cX2_firstOf 8 = .ok (.aload_n 2, 1) := dk_44 (dk_at dksX2_firstOf_0 8 rfl rfl)
theorem dX2_firstOf_9 : decode cX2_firstOf 9 = .ok (.invokeinterface 133 1, 5) := by decide +kernel
theorem dX2_firstOf_14 : decode cX2_firstOf 14 = .ok (.ifCond .eq 28, 3) := dk_153 0 28 (dk_at dksX2_firstOf_0 14 rfl rfl)
theorem dX2_firstOf_17 : decode cX2_firstOf 17 = .ok (.aload_n 2, 1) := dk_44 (dk_at dksX2_firstOf_0 17 rfl rfl)
theorem dX2_firstOf_18 : decode cX2_firstOf 18 = .ok (.invokeinterface 138 1, 5) := by decide +kernel
theorem dX2_firstOf_23 : decode cX2_firstOf 23 = .ok (.checkcast 64, 3) := dk_192 0 64 (dk_at dksX2_firstOf_1 0 rfl rfl)
theorem dX2_firstOf_26 : decode cX2_firstOf 26 = .ok (.astore_n 3, 1) := dk_78 (dk_at dksX2_firstOf_1 3 rfl rfl)
theorem dX2_firstOf_27 : decode cX2_firstOf 27 = .ok (.aload_n 1, 1) := dk_43 (dk_at dksX2_firstOf_1 4 rfl rfl)
theorem dX2_firstOf_28 : decode cX2_firstOf 28 = .ok (.aload_n 3, 1) := dk_45 (dk_at dksX2_firstOf_1 5 rfl rfl)
theorem dX2_firstOf_29 : decode cX2_firstOf 29 = .ok (.invokeinterface 148 2, 5) := by decide +kernel
theorem dX2_firstOf_34 : decode cX2_firstOf 34 = .ok (.ifCond .eq 5, 3) := dk_153 0 5 (dk_at dksX2_firstOf_1 11 rfl rfl)
theorem dX2_firstOf_37 : decode cX2_firstOf 37 = .ok (.aload_n 3, 1) := dk_45 (dk_at dksX2_firstOf_1 14 rfl rfl)
theorem dX2_firstOf_38 : decode cX2_firstOf 38 = .ok (.areturn, 1) := dk_176 (dk_at dksX2_firstOf_1 15 rfl rfl)
theorem dX2_firstOf_39 : decode cX2_firstOf 39 = .ok (.goto (-31), 3) := dk_167 255 225 (dk_at dksX2_firstOf_1 16 rfl rfl)
theorem dX2_firstOf_42 : decode cX2_firstOf 42 = .ok (.aconst_null, 1) := dk_1 (dk_at dksX2_firstOf_1 19 rfl rfl)
theorem dX2_firstOf_43 : decode cX2_firstOf 43 = .ok (.areturn, 1) := dk_176 (dk_at dksX2_firstOf_1 20 rfl rfl)
abbrev cX2_lambda_checkReplaced_3 : ByteArray := prog_10_method_44_code
def yX2_lambda_checkReplaced_3 : MethodName := ⟨RX2, "lambda$checkReplaced$3", "(ILStaffRailway$Pilotman;)Z"⟩
def dkwX2_lambda_checkReplaced_3_0 : List UInt8 := [43, 182, 1, 58, 153, 0, 18, 26, 43, 180, 0, 210, 184, 1, 47, 153, 0, 7, 4, 167, 0, 4, 3, 172]
abbrev dktX2_lambda_checkReplaced_3_0 : List UInt8 := dkwX2_lambda_checkReplaced_3_0 ++ []
theorem dksX2_lambda_checkReplaced_3_0 : cX2_lambda_checkReplaced_3.data.toList.drop 0 = dktX2_lambda_checkReplaced_3_0 := by decide +kernel
theorem dX2_lambda_checkReplaced_3_0 : decode cX2_lambda_checkReplaced_3 0 = .ok (.aload_n 1, 1) := dk_43 (dk_at dksX2_lambda_checkReplaced_3_0 0 rfl rfl)
theorem dX2_lambda_checkReplaced_3_1 : decode cX2_lambda_checkReplaced_3 1 = .ok (.invokevirtual 314, 3) := dk_182 1 58 (dk_at dksX2_lambda_checkReplaced_3_0 1 rfl rfl)
theorem dX2_lambda_checkReplaced_3_4 : decode cX2_lambda_checkReplaced_3 4 = .ok (.ifCond .eq 18, 3) := dk_153 0 18 (dk_at dksX2_lambda_checkReplaced_3_0 4 rfl rfl)
theorem dX2_lambda_checkReplaced_3_7 : decode cX2_lambda_checkReplaced_3 7 = .ok (.iload_n 0, 1) := dk_26 (dk_at dksX2_lambda_checkReplaced_3_0 7 rfl rfl)
theorem dX2_lambda_checkReplaced_3_8 : decode cX2_lambda_checkReplaced_3 8 = .ok (.aload_n 1, 1) := dk_43 (dk_at dksX2_lambda_checkReplaced_3_0 8 rfl rfl)
theorem dX2_lambda_checkReplaced_3_9 : decode cX2_lambda_checkReplaced_3 9 = .ok (.getfield 210, 3) := dk_180 0 210 (dk_at dksX2_lambda_checkReplaced_3_0 9 rfl rfl)
theorem dX2_lambda_checkReplaced_3_12 : decode cX2_lambda_checkReplaced_3 12 = .ok (.invokestatic 303, 3) := dk_184 1 47 (dk_at dksX2_lambda_checkReplaced_3_0 12 rfl rfl)
theorem dX2_lambda_checkReplaced_3_15 : decode cX2_lambda_checkReplaced_3 15 = .ok (.ifCond .eq 7, 3) := dk_153 0 7 (dk_at dksX2_lambda_checkReplaced_3_0 15 rfl rfl)
theorem dX2_lambda_checkReplaced_3_18 : decode cX2_lambda_checkReplaced_3 18 = .ok (.iconst 1, 1) := dk_4 (dk_at dksX2_lambda_checkReplaced_3_0 18 rfl rfl)
theorem dX2_lambda_checkReplaced_3_19 : decode cX2_lambda_checkReplaced_3 19 = .ok (.goto 4, 3) := dk_167 0 4 (dk_at dksX2_lambda_checkReplaced_3_0 19 rfl rfl)
theorem dX2_lambda_checkReplaced_3_22 : decode cX2_lambda_checkReplaced_3 22 = .ok (.iconst 0, 1) := dk_3 (dk_at dksX2_lambda_checkReplaced_3_0 22 rfl rfl)
theorem dX2_lambda_checkReplaced_3_23 : decode cX2_lambda_checkReplaced_3 23 = .ok (.ireturn, 1) := dk_172 (dk_at dksX2_lambda_checkReplaced_3_0 23 rfl rfl)
abbrev cX2_isEnd : ByteArray := prog_10_method_13_code
def yX2_isEnd : MethodName := ⟨RX2, "isEnd", "(II)Z"⟩
def dkwX2_isEnd_0 : List UInt8 := [27, 26, 159, 0, 10, 27, 26, 4, 96, 160, 0, 7, 4, 167, 0, 4, 3, 172]
abbrev dktX2_isEnd_0 : List UInt8 := dkwX2_isEnd_0 ++ []
theorem dksX2_isEnd_0 : cX2_isEnd.data.toList.drop 0 = dktX2_isEnd_0 := by decide +kernel
theorem dX2_isEnd_0 : decode cX2_isEnd 0 = .ok (.iload_n 1, 1) := dk_27 (dk_at dksX2_isEnd_0 0 rfl rfl)
theorem dX2_isEnd_1 : decode cX2_isEnd 1 = .ok (.iload_n 0, 1) := dk_26 (dk_at dksX2_isEnd_0 1 rfl rfl)
theorem dX2_isEnd_2 : decode cX2_isEnd 2 = .ok (.if_icmp .eq 10, 3) := dk_159 0 10 (dk_at dksX2_isEnd_0 2 rfl rfl)
theorem dX2_isEnd_5 : decode cX2_isEnd 5 = .ok (.iload_n 1, 1) := dk_27 (dk_at dksX2_isEnd_0 5 rfl rfl)
theorem dX2_isEnd_6 : decode cX2_isEnd 6 = .ok (.iload_n 0, 1) := dk_26 (dk_at dksX2_isEnd_0 6 rfl rfl)
theorem dX2_isEnd_7 : decode cX2_isEnd 7 = .ok (.iconst 1, 1) := dk_4 (dk_at dksX2_isEnd_0 7 rfl rfl)
theorem dX2_isEnd_8 : decode cX2_isEnd 8 = .ok (.iadd, 1) := dk_96 (dk_at dksX2_isEnd_0 8 rfl rfl)
theorem dX2_isEnd_9 : decode cX2_isEnd 9 = .ok (.if_icmp .ne 7, 3) := dk_160 0 7 (dk_at dksX2_isEnd_0 9 rfl rfl)
theorem dX2_isEnd_12 : decode cX2_isEnd 12 = .ok (.iconst 1, 1) := dk_4 (dk_at dksX2_isEnd_0 12 rfl rfl)
theorem dX2_isEnd_13 : decode cX2_isEnd 13 = .ok (.goto 4, 3) := dk_167 0 4 (dk_at dksX2_isEnd_0 13 rfl rfl)
theorem dX2_isEnd_16 : decode cX2_isEnd 16 = .ok (.iconst 0, 1) := dk_3 (dk_at dksX2_isEnd_0 16 rfl rfl)
theorem dX2_isEnd_17 : decode cX2_isEnd 17 = .ok (.ireturn, 1) := dk_172 (dk_at dksX2_isEnd_0 17 rfl rfl)
abbrev cX2_standing : ByteArray := prog_10_method_8_code
def yX2_standing : MethodName := ⟨RX2, "standing", "(I)I"⟩
def dkwX2_standing_0 : List UInt8 := [42, 27, 186, 0, 159, 0, 0, 182, 0, 162, 172]
abbrev dktX2_standing_0 : List UInt8 := dkwX2_standing_0 ++ []
theorem dksX2_standing_0 : cX2_standing.data.toList.drop 0 = dktX2_standing_0 := by decide +kernel
theorem dX2_standing_0 : decode cX2_standing 0 = .ok (.aload_n 0, 1) := dk_42 (dk_at dksX2_standing_0 0 rfl rfl)
theorem dX2_standing_1 : decode cX2_standing 1 = .ok (.iload_n 1, 1) := dk_27 (dk_at dksX2_standing_0 1 rfl rfl)
theorem dX2_standing_2 : decode cX2_standing 2 = .ok (.invokedynamic 159, 5) := by decide +kernel
theorem dX2_standing_7 : decode cX2_standing 7 = .ok (.invokevirtual 162, 3) := dk_182 0 162 (dk_at dksX2_standing_0 7 rfl rfl)
theorem dX2_standing_10 : decode cX2_standing 10 = .ok (.ireturn, 1) := dk_172 (dk_at dksX2_standing_0 10 rfl rfl)
abbrev cX2_lambda_standing_0 : ByteArray := prog_10_method_47_code
def yX2_lambda_standing_0 : MethodName := ⟨RX2, "lambda$standing$0", "(ILStaffRailway$Train;)Z"⟩
def dkwX2_lambda_standing_0_0 : List UInt8 := [43, 180, 0, 92, 26, 160, 0, 7, 4, 167, 0, 4, 3, 172]
abbrev dktX2_lambda_standing_0_0 : List UInt8 := dkwX2_lambda_standing_0_0 ++ []
theorem dksX2_lambda_standing_0_0 : cX2_lambda_standing_0.data.toList.drop 0 = dktX2_lambda_standing_0_0 := by decide +kernel
theorem dX2_lambda_standing_0_0 : decode cX2_lambda_standing_0 0 = .ok (.aload_n 1, 1) := dk_43 (dk_at dksX2_lambda_standing_0_0 0 rfl rfl)
theorem dX2_lambda_standing_0_1 : decode cX2_lambda_standing_0 1 = .ok (.getfield 92, 3) := dk_180 0 92 (dk_at dksX2_lambda_standing_0_0 1 rfl rfl)
theorem dX2_lambda_standing_0_4 : decode cX2_lambda_standing_0 4 = .ok (.iload_n 0, 1) := dk_26 (dk_at dksX2_lambda_standing_0_0 4 rfl rfl)
theorem dX2_lambda_standing_0_5 : decode cX2_lambda_standing_0 5 = .ok (.if_icmp .ne 7, 3) := dk_160 0 7 (dk_at dksX2_lambda_standing_0_0 5 rfl rfl)
theorem dX2_lambda_standing_0_8 : decode cX2_lambda_standing_0 8 = .ok (.iconst 1, 1) := dk_4 (dk_at dksX2_lambda_standing_0_0 8 rfl rfl)
theorem dX2_lambda_standing_0_9 : decode cX2_lambda_standing_0 9 = .ok (.goto 4, 3) := dk_167 0 4 (dk_at dksX2_lambda_standing_0_0 9 rfl rfl)
theorem dX2_lambda_standing_0_12 : decode cX2_lambda_standing_0 12 = .ok (.iconst 0, 1) := dk_3 (dk_at dksX2_lambda_standing_0_0 12 rfl rfl)
theorem dX2_lambda_standing_0_13 : decode cX2_lambda_standing_0 13 = .ok (.ireturn, 1) := dk_172 (dk_at dksX2_lambda_standing_0_0 13 rfl rfl)
abbrev cX2_count : ByteArray := prog_10_method_4_code
def yX2_count : MethodName := ⟨RX2, "count", "(LStaffRailway$OfTrain;)I"⟩
def dkwX2_count_2 : List UInt8 := [167, 0, 4, 3, 96, 61, 167, 255, 217, 28, 172]
abbrev dktX2_count_2 : List UInt8 := dkwX2_count_2 ++ []
def dkwX2_count_1 : List UInt8 := [185, 0, 138, 1, 0, 192, 0, 73, 58, 4, 28, 43, 25, 4, 185, 0, 142, 2, 0, 153, 0, 7, 4]
abbrev dktX2_count_1 : List UInt8 := dkwX2_count_1 ++ dktX2_count_2
def dkwX2_count_0 : List UInt8 := [3, 61, 42, 180, 0, 32, 182, 0, 129, 78, 45, 185, 0, 133, 1, 0, 153, 0, 36, 45]
abbrev dktX2_count_0 : List UInt8 := dkwX2_count_0 ++ dktX2_count_1
theorem dksX2_count_0 : cX2_count.data.toList.drop 0 = dktX2_count_0 := by decide +kernel
theorem dksX2_count_1 : cX2_count.data.toList.drop 20 = dktX2_count_1 := dk_seg dksX2_count_0 20 rfl rfl
theorem dksX2_count_2 : cX2_count.data.toList.drop 43 = dktX2_count_2 := dk_seg dksX2_count_1 23 rfl rfl
theorem dX2_count_0 : decode cX2_count 0 = .ok (.iconst 0, 1) := dk_3 (dk_at dksX2_count_0 0 rfl rfl)
theorem dX2_count_1 : decode cX2_count 1 = .ok (.istore_n 2, 1) := dk_61 (dk_at dksX2_count_0 1 rfl rfl)
theorem dX2_count_2 : decode cX2_count 2 = .ok (.aload_n 0, 1) := dk_42 (dk_at dksX2_count_0 2 rfl rfl)
theorem dX2_count_3 : decode cX2_count 3 = .ok (.getfield 32, 3) := dk_180 0 32 (dk_at dksX2_count_0 3 rfl rfl)
theorem dX2_count_6 : decode cX2_count 6 = .ok (.invokevirtual 129, 3) := dk_182 0 129 (dk_at dksX2_count_0 6 rfl rfl)
theorem dX2_count_9 : decode cX2_count 9 = .ok (.astore_n 3, 1) := dk_78 (dk_at dksX2_count_0 9 rfl rfl)
theorem dX2_count_10 : decode cX2_count 10 = .ok (.aload_n 3, 1) := dk_45 (dk_at dksX2_count_0 10 rfl rfl)
theorem dX2_count_11 : decode cX2_count 11 = .ok (.invokeinterface 133 1, 5) := by decide +kernel
theorem dX2_count_16 : decode cX2_count 16 = .ok (.ifCond .eq 36, 3) := dk_153 0 36 (dk_at dksX2_count_0 16 rfl rfl)
theorem dX2_count_19 : decode cX2_count 19 = .ok (.aload_n 3, 1) := dk_45 (dk_at dksX2_count_0 19 rfl rfl)
theorem dX2_count_20 : decode cX2_count 20 = .ok (.invokeinterface 138 1, 5) := by decide +kernel
theorem dX2_count_25 : decode cX2_count 25 = .ok (.checkcast 73, 3) := dk_192 0 73 (dk_at dksX2_count_1 5 rfl rfl)
theorem dX2_count_28 : decode cX2_count 28 = .ok (.astore 4, 2) := dk_58 4 (dk_at dksX2_count_1 8 rfl rfl)
theorem dX2_count_30 : decode cX2_count 30 = .ok (.iload_n 2, 1) := dk_28 (dk_at dksX2_count_1 10 rfl rfl)
theorem dX2_count_31 : decode cX2_count 31 = .ok (.aload_n 1, 1) := dk_43 (dk_at dksX2_count_1 11 rfl rfl)
theorem dX2_count_32 : decode cX2_count 32 = .ok (.aload 4, 2) := dk_25 4 (dk_at dksX2_count_1 12 rfl rfl)
theorem dX2_count_34 : decode cX2_count 34 = .ok (.invokeinterface 142 2, 5) := by decide +kernel
theorem dX2_count_39 : decode cX2_count 39 = .ok (.ifCond .eq 7, 3) := dk_153 0 7 (dk_at dksX2_count_1 19 rfl rfl)
theorem dX2_count_42 : decode cX2_count 42 = .ok (.iconst 1, 1) := dk_4 (dk_at dksX2_count_1 22 rfl rfl)
theorem dX2_count_43 : decode cX2_count 43 = .ok (.goto 4, 3) := dk_167 0 4 (dk_at dksX2_count_2 0 rfl rfl)
theorem dX2_count_46 : decode cX2_count 46 = .ok (.iconst 0, 1) := dk_3 (dk_at dksX2_count_2 3 rfl rfl)
theorem dX2_count_47 : decode cX2_count 47 = .ok (.iadd, 1) := dk_96 (dk_at dksX2_count_2 4 rfl rfl)
theorem dX2_count_48 : decode cX2_count 48 = .ok (.istore_n 2, 1) := dk_61 (dk_at dksX2_count_2 5 rfl rfl)
theorem dX2_count_49 : decode cX2_count 49 = .ok (.goto (-39), 3) := dk_167 255 217 (dk_at dksX2_count_2 6 rfl rfl)
theorem dX2_count_52 : decode cX2_count 52 = .ok (.iload_n 2, 1) := dk_28 (dk_at dksX2_count_2 9 rfl rfl)
theorem dX2_count_53 : decode cX2_count 53 = .ok (.ireturn, 1) := dk_172 (dk_at dksX2_count_2 10 rfl rfl)
abbrev cX2_underWayTo : ByteArray := prog_10_method_9_code
def yX2_underWayTo : MethodName := ⟨RX2, "underWayTo", "(I)I"⟩
def dkwX2_underWayTo_0 : List UInt8 := [42, 27, 186, 0, 166, 0, 0, 182, 0, 162, 172]
abbrev dktX2_underWayTo_0 : List UInt8 := dkwX2_underWayTo_0 ++ []
theorem dksX2_underWayTo_0 : cX2_underWayTo.data.toList.drop 0 = dktX2_underWayTo_0 := by decide +kernel
theorem dX2_underWayTo_0 : decode cX2_underWayTo 0 = .ok (.aload_n 0, 1) := dk_42 (dk_at dksX2_underWayTo_0 0 rfl rfl)
theorem dX2_underWayTo_1 : decode cX2_underWayTo 1 = .ok (.iload_n 1, 1) := dk_27 (dk_at dksX2_underWayTo_0 1 rfl rfl)
theorem dX2_underWayTo_2 : decode cX2_underWayTo 2 = .ok (.invokedynamic 166, 5) := by decide +kernel
theorem dX2_underWayTo_7 : decode cX2_underWayTo 7 = .ok (.invokevirtual 162, 3) := dk_182 0 162 (dk_at dksX2_underWayTo_0 7 rfl rfl)
theorem dX2_underWayTo_10 : decode cX2_underWayTo 10 = .ok (.ireturn, 1) := dk_172 (dk_at dksX2_underWayTo_0 10 rfl rfl)
abbrev cX2_lambda_underWayTo_1 : ByteArray := prog_10_method_46_code
def yX2_lambda_underWayTo_1 : MethodName := ⟨RX2, "lambda$underWayTo$1", "(ILStaffRailway$Train;)Z"⟩
def dkwX2_lambda_underWayTo_1_0 : List UInt8 := [43, 182, 0, 101, 153, 0, 15, 43, 180, 0, 108, 26, 160, 0, 7, 4, 167, 0, 4, 3, 172]
abbrev dktX2_lambda_underWayTo_1_0 : List UInt8 := dkwX2_lambda_underWayTo_1_0 ++ []
theorem dksX2_lambda_underWayTo_1_0 : cX2_lambda_underWayTo_1.data.toList.drop 0 = dktX2_lambda_underWayTo_1_0 := by decide +kernel
theorem dX2_lambda_underWayTo_1_0 : decode cX2_lambda_underWayTo_1 0 = .ok (.aload_n 1, 1) := dk_43 (dk_at dksX2_lambda_underWayTo_1_0 0 rfl rfl)
theorem dX2_lambda_underWayTo_1_1 : decode cX2_lambda_underWayTo_1 1 = .ok (.invokevirtual 101, 3) := dk_182 0 101 (dk_at dksX2_lambda_underWayTo_1_0 1 rfl rfl)
theorem dX2_lambda_underWayTo_1_4 : decode cX2_lambda_underWayTo_1 4 = .ok (.ifCond .eq 15, 3) := dk_153 0 15 (dk_at dksX2_lambda_underWayTo_1_0 4 rfl rfl)
theorem dX2_lambda_underWayTo_1_7 : decode cX2_lambda_underWayTo_1 7 = .ok (.aload_n 1, 1) := dk_43 (dk_at dksX2_lambda_underWayTo_1_0 7 rfl rfl)
theorem dX2_lambda_underWayTo_1_8 : decode cX2_lambda_underWayTo_1 8 = .ok (.getfield 108, 3) := dk_180 0 108 (dk_at dksX2_lambda_underWayTo_1_0 8 rfl rfl)
theorem dX2_lambda_underWayTo_1_11 : decode cX2_lambda_underWayTo_1 11 = .ok (.iload_n 0, 1) := dk_26 (dk_at dksX2_lambda_underWayTo_1_0 11 rfl rfl)
theorem dX2_lambda_underWayTo_1_12 : decode cX2_lambda_underWayTo_1 12 = .ok (.if_icmp .ne 7, 3) := dk_160 0 7 (dk_at dksX2_lambda_underWayTo_1_0 12 rfl rfl)
theorem dX2_lambda_underWayTo_1_15 : decode cX2_lambda_underWayTo_1 15 = .ok (.iconst 1, 1) := dk_4 (dk_at dksX2_lambda_underWayTo_1_0 15 rfl rfl)
theorem dX2_lambda_underWayTo_1_16 : decode cX2_lambda_underWayTo_1 16 = .ok (.goto 4, 3) := dk_167 0 4 (dk_at dksX2_lambda_underWayTo_1_0 16 rfl rfl)
theorem dX2_lambda_underWayTo_1_19 : decode cX2_lambda_underWayTo_1 19 = .ok (.iconst 0, 1) := dk_3 (dk_at dksX2_lambda_underWayTo_1_0 19 rfl rfl)
theorem dX2_lambda_underWayTo_1_20 : decode cX2_lambda_underWayTo_1 20 = .ok (.ireturn, 1) := dk_172 (dk_at dksX2_lambda_underWayTo_1_0 20 rfl rfl)
abbrev cX2_copy : ByteArray := prog_10_method_2_code
def yX2_copy : MethodName := ⟨RX2, "copy", "()LStaffRailway$Line;"⟩
def dkwX2_copy_8 : List UInt8 := [42, 180, 0, 89, 181, 0, 89, 43, 176]
abbrev dktX2_copy_8 : List UInt8 := dkwX2_copy_8 ++ []
def dkwX2_copy_7 : List UInt8 := [42, 180, 0, 79, 181, 0, 79, 43, 42, 180, 0, 83, 181, 0, 83, 43, 42, 180, 0, 86, 181, 0, 86, 43]
abbrev dktX2_copy_7 : List UInt8 := dkwX2_copy_7 ++ dktX2_copy_8
def dkwX2_copy_6 : List UInt8 := [180, 0, 32, 28, 182, 0, 60, 192, 0, 73, 182, 0, 75, 182, 0, 69, 87, 132, 2, 1, 167, 255, 219, 43]
abbrev dktX2_copy_6 : List UInt8 := dkwX2_copy_6 ++ dktX2_copy_7
def dkwX2_copy_5 : List UInt8 := [167, 255, 220, 3, 61, 28, 42, 180, 0, 32, 182, 0, 56, 162, 0, 32, 43, 180, 0, 32, 43, 42]
abbrev dktX2_copy_5 : List UInt8 := dkwX2_copy_5 ++ dktX2_copy_6
def dkwX2_copy_4 : List UInt8 := [180, 0, 36, 42, 180, 0, 36, 28, 182, 0, 60, 192, 0, 64, 182, 0, 66, 182, 0, 69, 87, 132, 2, 1]
abbrev dktX2_copy_4 : List UInt8 := dkwX2_copy_4 ++ dktX2_copy_5
def dkwX2_copy_3 : List UInt8 := [182, 0, 52, 83, 132, 2, 1, 167, 255, 233, 3, 61, 28, 42, 180, 0, 36, 182, 0, 56, 162, 0, 31, 43]
abbrev dktX2_copy_3 : List UInt8 := dkwX2_copy_3 ++ dktX2_copy_4
def dkwX2_copy_2 : List UInt8 := [132, 2, 1, 167, 255, 232, 3, 61, 28, 8, 162, 0, 24, 43, 180, 0, 17, 28, 42, 180, 0, 17, 28, 50]
abbrev dktX2_copy_2 : List UInt8 := dkwX2_copy_2 ++ dktX2_copy_3
def dkwX2_copy_1 : List UInt8 := [61, 28, 16, 6, 162, 0, 24, 43, 180, 0, 23, 28, 50, 42, 180, 0, 23, 28, 50, 182, 0, 48]
abbrev dktX2_copy_1 : List UInt8 := dkwX2_copy_1 ++ dktX2_copy_2
def dkwX2_copy_0 : List UInt8 := [187, 0, 10, 89, 183, 0, 41, 76, 42, 180, 0, 9, 3, 43, 180, 0, 9, 3, 16, 6, 184, 0, 42, 3]
abbrev dktX2_copy_0 : List UInt8 := dkwX2_copy_0 ++ dktX2_copy_1
theorem dksX2_copy_0 : cX2_copy.data.toList.drop 0 = dktX2_copy_0 := by decide +kernel
theorem dksX2_copy_1 : cX2_copy.data.toList.drop 24 = dktX2_copy_1 := dk_seg dksX2_copy_0 24 rfl rfl
theorem dksX2_copy_2 : cX2_copy.data.toList.drop 46 = dktX2_copy_2 := dk_seg dksX2_copy_1 22 rfl rfl
theorem dksX2_copy_3 : cX2_copy.data.toList.drop 70 = dktX2_copy_3 := dk_seg dksX2_copy_2 24 rfl rfl
theorem dksX2_copy_4 : cX2_copy.data.toList.drop 94 = dktX2_copy_4 := dk_seg dksX2_copy_3 24 rfl rfl
theorem dksX2_copy_5 : cX2_copy.data.toList.drop 118 = dktX2_copy_5 := dk_seg dksX2_copy_4 24 rfl rfl
theorem dksX2_copy_6 : cX2_copy.data.toList.drop 140 = dktX2_copy_6 := dk_seg dksX2_copy_5 22 rfl rfl
theorem dksX2_copy_7 : cX2_copy.data.toList.drop 164 = dktX2_copy_7 := dk_seg dksX2_copy_6 24 rfl rfl
theorem dksX2_copy_8 : cX2_copy.data.toList.drop 188 = dktX2_copy_8 := dk_seg dksX2_copy_7 24 rfl rfl
theorem dX2_copy_0 : decode cX2_copy 0 = .ok (.new 10, 3) := dk_187 0 10 (dk_at dksX2_copy_0 0 rfl rfl)
theorem dX2_copy_3 : decode cX2_copy 3 = .ok (.dup, 1) := dk_89 (dk_at dksX2_copy_0 3 rfl rfl)
theorem dX2_copy_4 : decode cX2_copy 4 = .ok (.invokespecial 41, 3) := dk_183 0 41 (dk_at dksX2_copy_0 4 rfl rfl)
theorem dX2_copy_7 : decode cX2_copy 7 = .ok (.astore_n 1, 1) := dk_76 (dk_at dksX2_copy_0 7 rfl rfl)
theorem dX2_copy_8 : decode cX2_copy 8 = .ok (.aload_n 0, 1) := dk_42 (dk_at dksX2_copy_0 8 rfl rfl)
theorem dX2_copy_9 : decode cX2_copy 9 = .ok (.getfield 9, 3) := dk_180 0 9 (dk_at dksX2_copy_0 9 rfl rfl)
theorem dX2_copy_12 : decode cX2_copy 12 = .ok (.iconst 0, 1) := dk_3 (dk_at dksX2_copy_0 12 rfl rfl)
theorem dX2_copy_13 : decode cX2_copy 13 = .ok (.aload_n 1, 1) := dk_43 (dk_at dksX2_copy_0 13 rfl rfl)
theorem dX2_copy_14 : decode cX2_copy 14 = .ok (.getfield 9, 3) := dk_180 0 9 (dk_at dksX2_copy_0 14 rfl rfl)
theorem dX2_copy_17 : decode cX2_copy 17 = .ok (.iconst 0, 1) := dk_3 (dk_at dksX2_copy_0 17 rfl rfl)
theorem dX2_copy_18 : decode cX2_copy 18 = .ok (.bipush 6, 2) := dk_16 6 (dk_at dksX2_copy_0 18 rfl rfl)
theorem dX2_copy_20 : decode cX2_copy 20 = .ok (.invokestatic 42, 3) := dk_184 0 42 (dk_at dksX2_copy_0 20 rfl rfl)
theorem dX2_copy_23 : decode cX2_copy 23 = .ok (.iconst 0, 1) := dk_3 (dk_at dksX2_copy_0 23 rfl rfl)
theorem dX2_copy_24 : decode cX2_copy 24 = .ok (.istore_n 2, 1) := dk_61 (dk_at dksX2_copy_1 0 rfl rfl)
theorem dX2_copy_25 : decode cX2_copy 25 = .ok (.iload_n 2, 1) := dk_28 (dk_at dksX2_copy_1 1 rfl rfl)
theorem dX2_copy_26 : decode cX2_copy 26 = .ok (.bipush 6, 2) := dk_16 6 (dk_at dksX2_copy_1 2 rfl rfl)
theorem dX2_copy_28 : decode cX2_copy 28 = .ok (.if_icmp .ge 24, 3) := dk_162 0 24 (dk_at dksX2_copy_1 4 rfl rfl)
theorem dX2_copy_31 : decode cX2_copy 31 = .ok (.aload_n 1, 1) := dk_43 (dk_at dksX2_copy_1 7 rfl rfl)
theorem dX2_copy_32 : decode cX2_copy 32 = .ok (.getfield 23, 3) := dk_180 0 23 (dk_at dksX2_copy_1 8 rfl rfl)
theorem dX2_copy_35 : decode cX2_copy 35 = .ok (.iload_n 2, 1) := dk_28 (dk_at dksX2_copy_1 11 rfl rfl)
theorem dX2_copy_36 : decode cX2_copy 36 = .ok (.aaload, 1) := dk_50 (dk_at dksX2_copy_1 12 rfl rfl)
theorem dX2_copy_37 : decode cX2_copy 37 = .ok (.aload_n 0, 1) := dk_42 (dk_at dksX2_copy_1 13 rfl rfl)
theorem dX2_copy_38 : decode cX2_copy 38 = .ok (.getfield 23, 3) := dk_180 0 23 (dk_at dksX2_copy_1 14 rfl rfl)
theorem dX2_copy_41 : decode cX2_copy 41 = .ok (.iload_n 2, 1) := dk_28 (dk_at dksX2_copy_1 17 rfl rfl)
theorem dX2_copy_42 : decode cX2_copy 42 = .ok (.aaload, 1) := dk_50 (dk_at dksX2_copy_1 18 rfl rfl)
theorem dX2_copy_43 : decode cX2_copy 43 = .ok (.invokevirtual 48, 3) := dk_182 0 48 (dk_at dksX2_copy_1 19 rfl rfl)
theorem dX2_copy_46 : decode cX2_copy 46 = .ok (.iinc 2 1, 3) := dk_132 2 1 (dk_at dksX2_copy_2 0 rfl rfl)
theorem dX2_copy_49 : decode cX2_copy 49 = .ok (.goto (-24), 3) := dk_167 255 232 (dk_at dksX2_copy_2 3 rfl rfl)
theorem dX2_copy_52 : decode cX2_copy 52 = .ok (.iconst 0, 1) := dk_3 (dk_at dksX2_copy_2 6 rfl rfl)
theorem dX2_copy_53 : decode cX2_copy 53 = .ok (.istore_n 2, 1) := dk_61 (dk_at dksX2_copy_2 7 rfl rfl)
theorem dX2_copy_54 : decode cX2_copy 54 = .ok (.iload_n 2, 1) := dk_28 (dk_at dksX2_copy_2 8 rfl rfl)
theorem dX2_copy_55 : decode cX2_copy 55 = .ok (.iconst 5, 1) := dk_8 (dk_at dksX2_copy_2 9 rfl rfl)
theorem dX2_copy_56 : decode cX2_copy 56 = .ok (.if_icmp .ge 24, 3) := dk_162 0 24 (dk_at dksX2_copy_2 10 rfl rfl)
theorem dX2_copy_59 : decode cX2_copy 59 = .ok (.aload_n 1, 1) := dk_43 (dk_at dksX2_copy_2 13 rfl rfl)
theorem dX2_copy_60 : decode cX2_copy 60 = .ok (.getfield 17, 3) := dk_180 0 17 (dk_at dksX2_copy_2 14 rfl rfl)
theorem dX2_copy_63 : decode cX2_copy 63 = .ok (.iload_n 2, 1) := dk_28 (dk_at dksX2_copy_2 17 rfl rfl)
theorem dX2_copy_64 : decode cX2_copy 64 = .ok (.aload_n 0, 1) := dk_42 (dk_at dksX2_copy_2 18 rfl rfl)
theorem dX2_copy_65 : decode cX2_copy 65 = .ok (.getfield 17, 3) := dk_180 0 17 (dk_at dksX2_copy_2 19 rfl rfl)
theorem dX2_copy_68 : decode cX2_copy 68 = .ok (.iload_n 2, 1) := dk_28 (dk_at dksX2_copy_2 22 rfl rfl)
theorem dX2_copy_69 : decode cX2_copy 69 = .ok (.aaload, 1) := dk_50 (dk_at dksX2_copy_2 23 rfl rfl)
theorem dX2_copy_70 : decode cX2_copy 70 = .ok (.invokevirtual 52, 3) := dk_182 0 52 (dk_at dksX2_copy_3 0 rfl rfl)
theorem dX2_copy_73 : decode cX2_copy 73 = .ok (.aastore, 1) := dk_83 (dk_at dksX2_copy_3 3 rfl rfl)
theorem dX2_copy_74 : decode cX2_copy 74 = .ok (.iinc 2 1, 3) := dk_132 2 1 (dk_at dksX2_copy_3 4 rfl rfl)
theorem dX2_copy_77 : decode cX2_copy 77 = .ok (.goto (-23), 3) := dk_167 255 233 (dk_at dksX2_copy_3 7 rfl rfl)
theorem dX2_copy_80 : decode cX2_copy 80 = .ok (.iconst 0, 1) := dk_3 (dk_at dksX2_copy_3 10 rfl rfl)
theorem dX2_copy_81 : decode cX2_copy 81 = .ok (.istore_n 2, 1) := dk_61 (dk_at dksX2_copy_3 11 rfl rfl)
theorem dX2_copy_82 : decode cX2_copy 82 = .ok (.iload_n 2, 1) := dk_28 (dk_at dksX2_copy_3 12 rfl rfl)
theorem dX2_copy_83 : decode cX2_copy 83 = .ok (.aload_n 0, 1) := dk_42 (dk_at dksX2_copy_3 13 rfl rfl)
theorem dX2_copy_84 : decode cX2_copy 84 = .ok (.getfield 36, 3) := dk_180 0 36 (dk_at dksX2_copy_3 14 rfl rfl)
theorem dX2_copy_87 : decode cX2_copy 87 = .ok (.invokevirtual 56, 3) := dk_182 0 56 (dk_at dksX2_copy_3 17 rfl rfl)
theorem dX2_copy_90 : decode cX2_copy 90 = .ok (.if_icmp .ge 31, 3) := dk_162 0 31 (dk_at dksX2_copy_3 20 rfl rfl)
theorem dX2_copy_93 : decode cX2_copy 93 = .ok (.aload_n 1, 1) := dk_43 (dk_at dksX2_copy_3 23 rfl rfl)
theorem dX2_copy_94 : decode cX2_copy 94 = .ok (.getfield 36, 3) := dk_180 0 36 (dk_at dksX2_copy_4 0 rfl rfl)
theorem dX2_copy_97 : decode cX2_copy 97 = .ok (.aload_n 0, 1) := dk_42 (dk_at dksX2_copy_4 3 rfl rfl)
theorem dX2_copy_98 : decode cX2_copy 98 = .ok (.getfield 36, 3) := dk_180 0 36 (dk_at dksX2_copy_4 4 rfl rfl)
theorem dX2_copy_101 : decode cX2_copy 101 = .ok (.iload_n 2, 1) := dk_28 (dk_at dksX2_copy_4 7 rfl rfl)
theorem dX2_copy_102 : decode cX2_copy 102 = .ok (.invokevirtual 60, 3) := dk_182 0 60 (dk_at dksX2_copy_4 8 rfl rfl)
theorem dX2_copy_105 : decode cX2_copy 105 = .ok (.checkcast 64, 3) := dk_192 0 64 (dk_at dksX2_copy_4 11 rfl rfl)
theorem dX2_copy_108 : decode cX2_copy 108 = .ok (.invokevirtual 66, 3) := dk_182 0 66 (dk_at dksX2_copy_4 14 rfl rfl)
theorem dX2_copy_111 : decode cX2_copy 111 = .ok (.invokevirtual 69, 3) := dk_182 0 69 (dk_at dksX2_copy_4 17 rfl rfl)
theorem dX2_copy_114 : decode cX2_copy 114 = .ok (.pop, 1) := dk_87 (dk_at dksX2_copy_4 20 rfl rfl)
theorem dX2_copy_115 : decode cX2_copy 115 = .ok (.iinc 2 1, 3) := dk_132 2 1 (dk_at dksX2_copy_4 21 rfl rfl)
theorem dX2_copy_118 : decode cX2_copy 118 = .ok (.goto (-36), 3) := dk_167 255 220 (dk_at dksX2_copy_5 0 rfl rfl)
theorem dX2_copy_121 : decode cX2_copy 121 = .ok (.iconst 0, 1) := dk_3 (dk_at dksX2_copy_5 3 rfl rfl)
theorem dX2_copy_122 : decode cX2_copy 122 = .ok (.istore_n 2, 1) := dk_61 (dk_at dksX2_copy_5 4 rfl rfl)
theorem dX2_copy_123 : decode cX2_copy 123 = .ok (.iload_n 2, 1) := dk_28 (dk_at dksX2_copy_5 5 rfl rfl)
theorem dX2_copy_124 : decode cX2_copy 124 = .ok (.aload_n 0, 1) := dk_42 (dk_at dksX2_copy_5 6 rfl rfl)
theorem dX2_copy_125 : decode cX2_copy 125 = .ok (.getfield 32, 3) := dk_180 0 32 (dk_at dksX2_copy_5 7 rfl rfl)
theorem dX2_copy_128 : decode cX2_copy 128 = .ok (.invokevirtual 56, 3) := dk_182 0 56 (dk_at dksX2_copy_5 10 rfl rfl)
theorem dX2_copy_131 : decode cX2_copy 131 = .ok (.if_icmp .ge 32, 3) := dk_162 0 32 (dk_at dksX2_copy_5 13 rfl rfl)
theorem dX2_copy_134 : decode cX2_copy 134 = .ok (.aload_n 1, 1) := dk_43 (dk_at dksX2_copy_5 16 rfl rfl)
theorem dX2_copy_135 : decode cX2_copy 135 = .ok (.getfield 32, 3) := dk_180 0 32 (dk_at dksX2_copy_5 17 rfl rfl)
theorem dX2_copy_138 : decode cX2_copy 138 = .ok (.aload_n 1, 1) := dk_43 (dk_at dksX2_copy_5 20 rfl rfl)
theorem dX2_copy_139 : decode cX2_copy 139 = .ok (.aload_n 0, 1) := dk_42 (dk_at dksX2_copy_5 21 rfl rfl)
theorem dX2_copy_140 : decode cX2_copy 140 = .ok (.getfield 32, 3) := dk_180 0 32 (dk_at dksX2_copy_6 0 rfl rfl)
theorem dX2_copy_143 : decode cX2_copy 143 = .ok (.iload_n 2, 1) := dk_28 (dk_at dksX2_copy_6 3 rfl rfl)
theorem dX2_copy_144 : decode cX2_copy 144 = .ok (.invokevirtual 60, 3) := dk_182 0 60 (dk_at dksX2_copy_6 4 rfl rfl)
theorem dX2_copy_147 : decode cX2_copy 147 = .ok (.checkcast 73, 3) := dk_192 0 73 (dk_at dksX2_copy_6 7 rfl rfl)
theorem dX2_copy_150 : decode cX2_copy 150 = .ok (.invokevirtual 75, 3) := dk_182 0 75 (dk_at dksX2_copy_6 10 rfl rfl)
theorem dX2_copy_153 : decode cX2_copy 153 = .ok (.invokevirtual 69, 3) := dk_182 0 69 (dk_at dksX2_copy_6 13 rfl rfl)
theorem dX2_copy_156 : decode cX2_copy 156 = .ok (.pop, 1) := dk_87 (dk_at dksX2_copy_6 16 rfl rfl)
theorem dX2_copy_157 : decode cX2_copy 157 = .ok (.iinc 2 1, 3) := dk_132 2 1 (dk_at dksX2_copy_6 17 rfl rfl)
theorem dX2_copy_160 : decode cX2_copy 160 = .ok (.goto (-37), 3) := dk_167 255 219 (dk_at dksX2_copy_6 20 rfl rfl)
theorem dX2_copy_163 : decode cX2_copy 163 = .ok (.aload_n 1, 1) := dk_43 (dk_at dksX2_copy_6 23 rfl rfl)
theorem dX2_copy_164 : decode cX2_copy 164 = .ok (.aload_n 0, 1) := dk_42 (dk_at dksX2_copy_7 0 rfl rfl)
theorem dX2_copy_165 : decode cX2_copy 165 = .ok (.getfield 79, 3) := dk_180 0 79 (dk_at dksX2_copy_7 1 rfl rfl)
theorem dX2_copy_168 : decode cX2_copy 168 = .ok (.putfield 79, 3) := dk_181 0 79 (dk_at dksX2_copy_7 4 rfl rfl)
theorem dX2_copy_171 : decode cX2_copy 171 = .ok (.aload_n 1, 1) := dk_43 (dk_at dksX2_copy_7 7 rfl rfl)
theorem dX2_copy_172 : decode cX2_copy 172 = .ok (.aload_n 0, 1) := dk_42 (dk_at dksX2_copy_7 8 rfl rfl)
theorem dX2_copy_173 : decode cX2_copy 173 = .ok (.getfield 83, 3) := dk_180 0 83 (dk_at dksX2_copy_7 9 rfl rfl)
theorem dX2_copy_176 : decode cX2_copy 176 = .ok (.putfield 83, 3) := dk_181 0 83 (dk_at dksX2_copy_7 12 rfl rfl)
theorem dX2_copy_179 : decode cX2_copy 179 = .ok (.aload_n 1, 1) := dk_43 (dk_at dksX2_copy_7 15 rfl rfl)
theorem dX2_copy_180 : decode cX2_copy 180 = .ok (.aload_n 0, 1) := dk_42 (dk_at dksX2_copy_7 16 rfl rfl)
theorem dX2_copy_181 : decode cX2_copy 181 = .ok (.getfield 86, 3) := dk_180 0 86 (dk_at dksX2_copy_7 17 rfl rfl)
theorem dX2_copy_184 : decode cX2_copy 184 = .ok (.putfield 86, 3) := dk_181 0 86 (dk_at dksX2_copy_7 20 rfl rfl)
theorem dX2_copy_187 : decode cX2_copy 187 = .ok (.aload_n 1, 1) := dk_43 (dk_at dksX2_copy_7 23 rfl rfl)
theorem dX2_copy_188 : decode cX2_copy 188 = .ok (.aload_n 0, 1) := dk_42 (dk_at dksX2_copy_8 0 rfl rfl)
theorem dX2_copy_189 : decode cX2_copy 189 = .ok (.getfield 89, 3) := dk_180 0 89 (dk_at dksX2_copy_8 1 rfl rfl)
theorem dX2_copy_192 : decode cX2_copy 192 = .ok (.putfield 89, 3) := dk_181 0 89 (dk_at dksX2_copy_8 4 rfl rfl)
theorem dX2_copy_195 : decode cX2_copy 195 = .ok (.aload_n 1, 1) := dk_43 (dk_at dksX2_copy_8 7 rfl rfl)
theorem dX2_copy_196 : decode cX2_copy 196 = .ok (.areturn, 1) := dk_176 (dk_at dksX2_copy_8 8 rfl rfl)
abbrev cX2_like : ByteArray := prog_10_method_3_code
def yX2_like : MethodName := ⟨RX2, "like", "(LStaffRailway$Train;)LStaffRailway$Train;"⟩
def dkwX2_like_3 : List UInt8 := [43, 180, 0, 125, 181, 0, 125, 44, 176]
abbrev dktX2_like_3 : List UInt8 := dkwX2_like_3 ++ []
def dkwX2_like_2 : List UInt8 := [167, 0, 20, 42, 180, 0, 36, 43, 180, 0, 118, 180, 0, 122, 182, 0, 60, 192, 0, 64, 181, 0, 118, 44]
abbrev dktX2_like_2 : List UInt8 := dkwX2_like_2 ++ dktX2_like_3
def dkwX2_like_1 : List UInt8 := [43, 180, 0, 105, 43, 180, 0, 108, 43, 180, 0, 111, 182, 0, 114, 44, 43, 180, 0, 118, 199, 0, 7, 1]
abbrev dktX2_like_1 : List UInt8 := dkwX2_like_1 ++ dktX2_like_2
def dkwX2_like_0 : List UInt8 := [187, 0, 73, 89, 43, 180, 0, 92, 43, 180, 0, 95, 183, 0, 98, 77, 43, 182, 0, 101, 153, 0, 59, 44]
abbrev dktX2_like_0 : List UInt8 := dkwX2_like_0 ++ dktX2_like_1
theorem dksX2_like_0 : cX2_like.data.toList.drop 0 = dktX2_like_0 := by decide +kernel
theorem dksX2_like_1 : cX2_like.data.toList.drop 24 = dktX2_like_1 := dk_seg dksX2_like_0 24 rfl rfl
theorem dksX2_like_2 : cX2_like.data.toList.drop 48 = dktX2_like_2 := dk_seg dksX2_like_1 24 rfl rfl
theorem dksX2_like_3 : cX2_like.data.toList.drop 72 = dktX2_like_3 := dk_seg dksX2_like_2 24 rfl rfl
theorem dX2_like_0 : decode cX2_like 0 = .ok (.new 73, 3) := dk_187 0 73 (dk_at dksX2_like_0 0 rfl rfl)
theorem dX2_like_3 : decode cX2_like 3 = .ok (.dup, 1) := dk_89 (dk_at dksX2_like_0 3 rfl rfl)
theorem dX2_like_4 : decode cX2_like 4 = .ok (.aload_n 1, 1) := dk_43 (dk_at dksX2_like_0 4 rfl rfl)
theorem dX2_like_5 : decode cX2_like 5 = .ok (.getfield 92, 3) := dk_180 0 92 (dk_at dksX2_like_0 5 rfl rfl)
theorem dX2_like_8 : decode cX2_like 8 = .ok (.aload_n 1, 1) := dk_43 (dk_at dksX2_like_0 8 rfl rfl)
theorem dX2_like_9 : decode cX2_like 9 = .ok (.getfield 95, 3) := dk_180 0 95 (dk_at dksX2_like_0 9 rfl rfl)
theorem dX2_like_12 : decode cX2_like 12 = .ok (.invokespecial 98, 3) := dk_183 0 98 (dk_at dksX2_like_0 12 rfl rfl)
theorem dX2_like_15 : decode cX2_like 15 = .ok (.astore_n 2, 1) := dk_77 (dk_at dksX2_like_0 15 rfl rfl)
theorem dX2_like_16 : decode cX2_like 16 = .ok (.aload_n 1, 1) := dk_43 (dk_at dksX2_like_0 16 rfl rfl)
theorem dX2_like_17 : decode cX2_like 17 = .ok (.invokevirtual 101, 3) := dk_182 0 101 (dk_at dksX2_like_0 17 rfl rfl)
theorem dX2_like_20 : decode cX2_like 20 = .ok (.ifCond .eq 59, 3) := dk_153 0 59 (dk_at dksX2_like_0 20 rfl rfl)
theorem dX2_like_23 : decode cX2_like 23 = .ok (.aload_n 2, 1) := dk_44 (dk_at dksX2_like_0 23 rfl rfl)
theorem dX2_like_24 : decode cX2_like 24 = .ok (.aload_n 1, 1) := dk_43 (dk_at dksX2_like_1 0 rfl rfl)
theorem dX2_like_25 : decode cX2_like 25 = .ok (.getfield 105, 3) := dk_180 0 105 (dk_at dksX2_like_1 1 rfl rfl)
theorem dX2_like_28 : decode cX2_like 28 = .ok (.aload_n 1, 1) := dk_43 (dk_at dksX2_like_1 4 rfl rfl)
theorem dX2_like_29 : decode cX2_like 29 = .ok (.getfield 108, 3) := dk_180 0 108 (dk_at dksX2_like_1 5 rfl rfl)
theorem dX2_like_32 : decode cX2_like 32 = .ok (.aload_n 1, 1) := dk_43 (dk_at dksX2_like_1 8 rfl rfl)
theorem dX2_like_33 : decode cX2_like 33 = .ok (.getfield 111, 3) := dk_180 0 111 (dk_at dksX2_like_1 9 rfl rfl)
theorem dX2_like_36 : decode cX2_like 36 = .ok (.invokevirtual 114, 3) := dk_182 0 114 (dk_at dksX2_like_1 12 rfl rfl)
theorem dX2_like_39 : decode cX2_like 39 = .ok (.aload_n 2, 1) := dk_44 (dk_at dksX2_like_1 15 rfl rfl)
theorem dX2_like_40 : decode cX2_like 40 = .ok (.aload_n 1, 1) := dk_43 (dk_at dksX2_like_1 16 rfl rfl)
theorem dX2_like_41 : decode cX2_like 41 = .ok (.getfield 118, 3) := dk_180 0 118 (dk_at dksX2_like_1 17 rfl rfl)
theorem dX2_like_44 : decode cX2_like 44 = .ok (.ifnonnull 7, 3) := dk_199 0 7 (dk_at dksX2_like_1 20 rfl rfl)
theorem dX2_like_47 : decode cX2_like 47 = .ok (.aconst_null, 1) := dk_1 (dk_at dksX2_like_1 23 rfl rfl)
theorem dX2_like_48 : decode cX2_like 48 = .ok (.goto 20, 3) := dk_167 0 20 (dk_at dksX2_like_2 0 rfl rfl)
theorem dX2_like_51 : decode cX2_like 51 = .ok (.aload_n 0, 1) := dk_42 (dk_at dksX2_like_2 3 rfl rfl)
theorem dX2_like_52 : decode cX2_like 52 = .ok (.getfield 36, 3) := dk_180 0 36 (dk_at dksX2_like_2 4 rfl rfl)
theorem dX2_like_55 : decode cX2_like 55 = .ok (.aload_n 1, 1) := dk_43 (dk_at dksX2_like_2 7 rfl rfl)
theorem dX2_like_56 : decode cX2_like 56 = .ok (.getfield 118, 3) := dk_180 0 118 (dk_at dksX2_like_2 8 rfl rfl)
theorem dX2_like_59 : decode cX2_like 59 = .ok (.getfield 122, 3) := dk_180 0 122 (dk_at dksX2_like_2 11 rfl rfl)
theorem dX2_like_62 : decode cX2_like 62 = .ok (.invokevirtual 60, 3) := dk_182 0 60 (dk_at dksX2_like_2 14 rfl rfl)
theorem dX2_like_65 : decode cX2_like 65 = .ok (.checkcast 64, 3) := dk_192 0 64 (dk_at dksX2_like_2 17 rfl rfl)
theorem dX2_like_68 : decode cX2_like 68 = .ok (.putfield 118, 3) := dk_181 0 118 (dk_at dksX2_like_2 20 rfl rfl)
theorem dX2_like_71 : decode cX2_like 71 = .ok (.aload_n 2, 1) := dk_44 (dk_at dksX2_like_2 23 rfl rfl)
theorem dX2_like_72 : decode cX2_like 72 = .ok (.aload_n 1, 1) := dk_43 (dk_at dksX2_like_3 0 rfl rfl)
theorem dX2_like_73 : decode cX2_like 73 = .ok (.getfield 125, 3) := dk_180 0 125 (dk_at dksX2_like_3 1 rfl rfl)
theorem dX2_like_76 : decode cX2_like 76 = .ok (.putfield 125, 3) := dk_181 0 125 (dk_at dksX2_like_3 4 rfl rfl)
theorem dX2_like_79 : decode cX2_like 79 = .ok (.aload_n 2, 1) := dk_44 (dk_at dksX2_like_3 7 rfl rfl)
theorem dX2_like_80 : decode cX2_like 80 = .ok (.areturn, 1) := dk_176 (dk_at dksX2_like_3 8 rfl rfl)
abbrev cX2_countPilotmen : ByteArray := prog_10_method_5_code
def yX2_countPilotmen : MethodName := ⟨RX2, "countPilotmen", "(LStaffRailway$OfPilotman;)I"⟩
def dkwX2_countPilotmen_2 : List UInt8 := [167, 0, 4, 3, 96, 61, 167, 255, 217, 28, 172]
abbrev dktX2_countPilotmen_2 : List UInt8 := dkwX2_countPilotmen_2 ++ []
def dkwX2_countPilotmen_1 : List UInt8 := [185, 0, 138, 1, 0, 192, 0, 64, 58, 4, 28, 43, 25, 4, 185, 0, 148, 2, 0, 153, 0, 7, 4]
abbrev dktX2_countPilotmen_1 : List UInt8 := dkwX2_countPilotmen_1 ++ dktX2_countPilotmen_2
def dkwX2_countPilotmen_0 : List UInt8 := [3, 61, 42, 180, 0, 36, 182, 0, 129, 78, 45, 185, 0, 133, 1, 0, 153, 0, 36, 45]
abbrev dktX2_countPilotmen_0 : List UInt8 := dkwX2_countPilotmen_0 ++ dktX2_countPilotmen_1
theorem dksX2_countPilotmen_0 : cX2_countPilotmen.data.toList.drop 0 = dktX2_countPilotmen_0 := by decide +kernel
theorem dksX2_countPilotmen_1 : cX2_countPilotmen.data.toList.drop 20 = dktX2_countPilotmen_1 := dk_seg dksX2_countPilotmen_0 20 rfl rfl
theorem dksX2_countPilotmen_2 : cX2_countPilotmen.data.toList.drop 43 = dktX2_countPilotmen_2 := dk_seg dksX2_countPilotmen_1 23 rfl rfl
theorem dX2_countPilotmen_0 : decode cX2_countPilotmen 0 = .ok (.iconst 0, 1) := dk_3 (dk_at dksX2_countPilotmen_0 0 rfl rfl)
theorem dX2_countPilotmen_1 : decode cX2_countPilotmen 1 = .ok (.istore_n 2, 1) := dk_61 (dk_at dksX2_countPilotmen_0 1 rfl rfl)
theorem dX2_countPilotmen_2 : decode cX2_countPilotmen 2 = .ok (.aload_n 0, 1) := dk_42 (dk_at dksX2_countPilotmen_0 2 rfl rfl)
theorem dX2_countPilotmen_3 : decode cX2_countPilotmen 3 = .ok (.getfield 36, 3) := dk_180 0 36 (dk_at dksX2_countPilotmen_0 3 rfl rfl)
theorem dX2_countPilotmen_6 : decode cX2_countPilotmen 6 = .ok (.invokevirtual 129, 3) := dk_182 0 129 (dk_at dksX2_countPilotmen_0 6 rfl rfl)
theorem dX2_countPilotmen_9 : decode cX2_countPilotmen 9 = .ok (.astore_n 3, 1) := dk_78 (dk_at dksX2_countPilotmen_0 9 rfl rfl)
theorem dX2_countPilotmen_10 : decode cX2_countPilotmen 10 = .ok (.aload_n 3, 1) := dk_45 (dk_at dksX2_countPilotmen_0 10 rfl rfl)
theorem dX2_countPilotmen_11 : decode cX2_countPilotmen 11 = .ok (.invokeinterface 133 1, 5) := by decide +kernel
theorem dX2_countPilotmen_16 : decode cX2_countPilotmen 16 = .ok (.ifCond .eq 36, 3) := dk_153 0 36 (dk_at dksX2_countPilotmen_0 16 rfl rfl)
theorem dX2_countPilotmen_19 : decode cX2_countPilotmen 19 = .ok (.aload_n 3, 1) := dk_45 (dk_at dksX2_countPilotmen_0 19 rfl rfl)
theorem dX2_countPilotmen_20 : decode cX2_countPilotmen 20 = .ok (.invokeinterface 138 1, 5) := by decide +kernel
theorem dX2_countPilotmen_25 : decode cX2_countPilotmen 25 = .ok (.checkcast 64, 3) := dk_192 0 64 (dk_at dksX2_countPilotmen_1 5 rfl rfl)
theorem dX2_countPilotmen_28 : decode cX2_countPilotmen 28 = .ok (.astore 4, 2) := dk_58 4 (dk_at dksX2_countPilotmen_1 8 rfl rfl)
theorem dX2_countPilotmen_30 : decode cX2_countPilotmen 30 = .ok (.iload_n 2, 1) := dk_28 (dk_at dksX2_countPilotmen_1 10 rfl rfl)
theorem dX2_countPilotmen_31 : decode cX2_countPilotmen 31 = .ok (.aload_n 1, 1) := dk_43 (dk_at dksX2_countPilotmen_1 11 rfl rfl)
theorem dX2_countPilotmen_32 : decode cX2_countPilotmen 32 = .ok (.aload 4, 2) := dk_25 4 (dk_at dksX2_countPilotmen_1 12 rfl rfl)
theorem dX2_countPilotmen_34 : decode cX2_countPilotmen 34 = .ok (.invokeinterface 148 2, 5) := by decide +kernel
theorem dX2_countPilotmen_39 : decode cX2_countPilotmen 39 = .ok (.ifCond .eq 7, 3) := dk_153 0 7 (dk_at dksX2_countPilotmen_1 19 rfl rfl)
theorem dX2_countPilotmen_42 : decode cX2_countPilotmen 42 = .ok (.iconst 1, 1) := dk_4 (dk_at dksX2_countPilotmen_1 22 rfl rfl)
theorem dX2_countPilotmen_43 : decode cX2_countPilotmen 43 = .ok (.goto 4, 3) := dk_167 0 4 (dk_at dksX2_countPilotmen_2 0 rfl rfl)
theorem dX2_countPilotmen_46 : decode cX2_countPilotmen 46 = .ok (.iconst 0, 1) := dk_3 (dk_at dksX2_countPilotmen_2 3 rfl rfl)
theorem dX2_countPilotmen_47 : decode cX2_countPilotmen 47 = .ok (.iadd, 1) := dk_96 (dk_at dksX2_countPilotmen_2 4 rfl rfl)
theorem dX2_countPilotmen_48 : decode cX2_countPilotmen 48 = .ok (.istore_n 2, 1) := dk_61 (dk_at dksX2_countPilotmen_2 5 rfl rfl)
theorem dX2_countPilotmen_49 : decode cX2_countPilotmen 49 = .ok (.goto (-39), 3) := dk_167 255 217 (dk_at dksX2_countPilotmen_2 6 rfl rfl)
theorem dX2_countPilotmen_52 : decode cX2_countPilotmen 52 = .ok (.iload_n 2, 1) := dk_28 (dk_at dksX2_countPilotmen_2 9 rfl rfl)
theorem dX2_countPilotmen_53 : decode cX2_countPilotmen 53 = .ok (.ireturn, 1) := dk_172 (dk_at dksX2_countPilotmen_2 10 rfl rfl)
abbrev cX2_addsTrain : ByteArray := prog_10_method_37_code
def yX2_addsTrain : MethodName := ⟨RX2, "addsTrain", "(II)I"⟩
def dkwX2_addsTrain_2 : List UInt8 := [187, 0, 73, 89, 27, 28, 183, 0, 98, 182, 0, 69, 87, 42, 180, 0, 32, 182, 0, 56, 4, 100, 172]
abbrev dktX2_addsTrain_2 : List UInt8 := dkwX2_addsTrain_2 ++ []
def dkwX2_addsTrain_1 : List UInt8 := [27, 182, 1, 26, 154, 0, 7, 4, 167, 0, 4, 3, 16, 8, 27, 184, 0, 192, 42, 180, 0, 32]
abbrev dktX2_addsTrain_1 : List UInt8 := dkwX2_addsTrain_1 ++ dktX2_addsTrain_2
def dkwX2_addsTrain_0 : List UInt8 := [42, 180, 0, 32, 182, 0, 56, 16, 6, 160, 0, 7, 4, 167, 0, 4, 3, 5, 16, 6, 184, 0, 192, 42]
abbrev dktX2_addsTrain_0 : List UInt8 := dkwX2_addsTrain_0 ++ dktX2_addsTrain_1
theorem dksX2_addsTrain_0 : cX2_addsTrain.data.toList.drop 0 = dktX2_addsTrain_0 := by decide +kernel
theorem dksX2_addsTrain_1 : cX2_addsTrain.data.toList.drop 24 = dktX2_addsTrain_1 := dk_seg dksX2_addsTrain_0 24 rfl rfl
theorem dksX2_addsTrain_2 : cX2_addsTrain.data.toList.drop 46 = dktX2_addsTrain_2 := dk_seg dksX2_addsTrain_1 22 rfl rfl
theorem dX2_addsTrain_0 : decode cX2_addsTrain 0 = .ok (.aload_n 0, 1) := dk_42 (dk_at dksX2_addsTrain_0 0 rfl rfl)
theorem dX2_addsTrain_1 : decode cX2_addsTrain 1 = .ok (.getfield 32, 3) := dk_180 0 32 (dk_at dksX2_addsTrain_0 1 rfl rfl)
theorem dX2_addsTrain_4 : decode cX2_addsTrain 4 = .ok (.invokevirtual 56, 3) := dk_182 0 56 (dk_at dksX2_addsTrain_0 4 rfl rfl)
theorem dX2_addsTrain_7 : decode cX2_addsTrain 7 = .ok (.bipush 6, 2) := dk_16 6 (dk_at dksX2_addsTrain_0 7 rfl rfl)
theorem dX2_addsTrain_9 : decode cX2_addsTrain 9 = .ok (.if_icmp .ne 7, 3) := dk_160 0 7 (dk_at dksX2_addsTrain_0 9 rfl rfl)
theorem dX2_addsTrain_12 : decode cX2_addsTrain 12 = .ok (.iconst 1, 1) := dk_4 (dk_at dksX2_addsTrain_0 12 rfl rfl)
theorem dX2_addsTrain_13 : decode cX2_addsTrain 13 = .ok (.goto 4, 3) := dk_167 0 4 (dk_at dksX2_addsTrain_0 13 rfl rfl)
theorem dX2_addsTrain_16 : decode cX2_addsTrain 16 = .ok (.iconst 0, 1) := dk_3 (dk_at dksX2_addsTrain_0 16 rfl rfl)
theorem dX2_addsTrain_17 : decode cX2_addsTrain 17 = .ok (.iconst 2, 1) := dk_5 (dk_at dksX2_addsTrain_0 17 rfl rfl)
theorem dX2_addsTrain_18 : decode cX2_addsTrain 18 = .ok (.bipush 6, 2) := dk_16 6 (dk_at dksX2_addsTrain_0 18 rfl rfl)
theorem dX2_addsTrain_20 : decode cX2_addsTrain 20 = .ok (.invokestatic 192, 3) := dk_184 0 192 (dk_at dksX2_addsTrain_0 20 rfl rfl)
theorem dX2_addsTrain_23 : decode cX2_addsTrain 23 = .ok (.aload_n 0, 1) := dk_42 (dk_at dksX2_addsTrain_0 23 rfl rfl)
theorem dX2_addsTrain_24 : decode cX2_addsTrain 24 = .ok (.iload_n 1, 1) := dk_27 (dk_at dksX2_addsTrain_1 0 rfl rfl)
theorem dX2_addsTrain_25 : decode cX2_addsTrain 25 = .ok (.invokevirtual 282, 3) := dk_182 1 26 (dk_at dksX2_addsTrain_1 1 rfl rfl)
theorem dX2_addsTrain_28 : decode cX2_addsTrain 28 = .ok (.ifCond .ne 7, 3) := dk_154 0 7 (dk_at dksX2_addsTrain_1 4 rfl rfl)
theorem dX2_addsTrain_31 : decode cX2_addsTrain 31 = .ok (.iconst 1, 1) := dk_4 (dk_at dksX2_addsTrain_1 7 rfl rfl)
theorem dX2_addsTrain_32 : decode cX2_addsTrain 32 = .ok (.goto 4, 3) := dk_167 0 4 (dk_at dksX2_addsTrain_1 8 rfl rfl)
theorem dX2_addsTrain_35 : decode cX2_addsTrain 35 = .ok (.iconst 0, 1) := dk_3 (dk_at dksX2_addsTrain_1 11 rfl rfl)
theorem dX2_addsTrain_36 : decode cX2_addsTrain 36 = .ok (.bipush 8, 2) := dk_16 8 (dk_at dksX2_addsTrain_1 12 rfl rfl)
theorem dX2_addsTrain_38 : decode cX2_addsTrain 38 = .ok (.iload_n 1, 1) := dk_27 (dk_at dksX2_addsTrain_1 14 rfl rfl)
theorem dX2_addsTrain_39 : decode cX2_addsTrain 39 = .ok (.invokestatic 192, 3) := dk_184 0 192 (dk_at dksX2_addsTrain_1 15 rfl rfl)
theorem dX2_addsTrain_42 : decode cX2_addsTrain 42 = .ok (.aload_n 0, 1) := dk_42 (dk_at dksX2_addsTrain_1 18 rfl rfl)
theorem dX2_addsTrain_43 : decode cX2_addsTrain 43 = .ok (.getfield 32, 3) := dk_180 0 32 (dk_at dksX2_addsTrain_1 19 rfl rfl)
theorem dX2_addsTrain_46 : decode cX2_addsTrain 46 = .ok (.new 73, 3) := dk_187 0 73 (dk_at dksX2_addsTrain_2 0 rfl rfl)
theorem dX2_addsTrain_49 : decode cX2_addsTrain 49 = .ok (.dup, 1) := dk_89 (dk_at dksX2_addsTrain_2 3 rfl rfl)
theorem dX2_addsTrain_50 : decode cX2_addsTrain 50 = .ok (.iload_n 1, 1) := dk_27 (dk_at dksX2_addsTrain_2 4 rfl rfl)
theorem dX2_addsTrain_51 : decode cX2_addsTrain 51 = .ok (.iload_n 2, 1) := dk_28 (dk_at dksX2_addsTrain_2 5 rfl rfl)
theorem dX2_addsTrain_52 : decode cX2_addsTrain 52 = .ok (.invokespecial 98, 3) := dk_183 0 98 (dk_at dksX2_addsTrain_2 6 rfl rfl)
theorem dX2_addsTrain_55 : decode cX2_addsTrain 55 = .ok (.invokevirtual 69, 3) := dk_182 0 69 (dk_at dksX2_addsTrain_2 9 rfl rfl)
theorem dX2_addsTrain_58 : decode cX2_addsTrain 58 = .ok (.pop, 1) := dk_87 (dk_at dksX2_addsTrain_2 12 rfl rfl)
theorem dX2_addsTrain_59 : decode cX2_addsTrain 59 = .ok (.aload_n 0, 1) := dk_42 (dk_at dksX2_addsTrain_2 13 rfl rfl)
theorem dX2_addsTrain_60 : decode cX2_addsTrain 60 = .ok (.getfield 32, 3) := dk_180 0 32 (dk_at dksX2_addsTrain_2 14 rfl rfl)
theorem dX2_addsTrain_63 : decode cX2_addsTrain 63 = .ok (.invokevirtual 56, 3) := dk_182 0 56 (dk_at dksX2_addsTrain_2 17 rfl rfl)
theorem dX2_addsTrain_66 : decode cX2_addsTrain 66 = .ok (.iconst 1, 1) := dk_4 (dk_at dksX2_addsTrain_2 20 rfl rfl)
theorem dX2_addsTrain_67 : decode cX2_addsTrain 67 = .ok (.isub, 1) := dk_100 (dk_at dksX2_addsTrain_2 21 rfl rfl)
theorem dX2_addsTrain_68 : decode cX2_addsTrain 68 = .ok (.ireturn, 1) := dk_172 (dk_at dksX2_addsTrain_2 22 rfl rfl)
abbrev cX2_isTrackFree : ByteArray := prog_10_method_10_code
def yX2_isTrackFree : MethodName := ⟨RX2, "isTrackFree", "(I)Z"⟩
def dkwX2_isTrackFree_0 : List UInt8 := [42, 27, 182, 0, 167, 42, 180, 0, 9, 27, 46, 162, 0, 7, 4, 167, 0, 4, 3, 172]
abbrev dktX2_isTrackFree_0 : List UInt8 := dkwX2_isTrackFree_0 ++ []
theorem dksX2_isTrackFree_0 : cX2_isTrackFree.data.toList.drop 0 = dktX2_isTrackFree_0 := by decide +kernel
theorem dX2_isTrackFree_0 : decode cX2_isTrackFree 0 = .ok (.aload_n 0, 1) := dk_42 (dk_at dksX2_isTrackFree_0 0 rfl rfl)
theorem dX2_isTrackFree_1 : decode cX2_isTrackFree 1 = .ok (.iload_n 1, 1) := dk_27 (dk_at dksX2_isTrackFree_0 1 rfl rfl)
theorem dX2_isTrackFree_2 : decode cX2_isTrackFree 2 = .ok (.invokevirtual 167, 3) := dk_182 0 167 (dk_at dksX2_isTrackFree_0 2 rfl rfl)
theorem dX2_isTrackFree_5 : decode cX2_isTrackFree 5 = .ok (.aload_n 0, 1) := dk_42 (dk_at dksX2_isTrackFree_0 5 rfl rfl)
theorem dX2_isTrackFree_6 : decode cX2_isTrackFree 6 = .ok (.getfield 9, 3) := dk_180 0 9 (dk_at dksX2_isTrackFree_0 6 rfl rfl)
theorem dX2_isTrackFree_9 : decode cX2_isTrackFree 9 = .ok (.iload_n 1, 1) := dk_27 (dk_at dksX2_isTrackFree_0 9 rfl rfl)
theorem dX2_isTrackFree_10 : decode cX2_isTrackFree 10 = .ok (.iaload, 1) := dk_46 (dk_at dksX2_isTrackFree_0 10 rfl rfl)
theorem dX2_isTrackFree_11 : decode cX2_isTrackFree 11 = .ok (.if_icmp .ge 7, 3) := dk_162 0 7 (dk_at dksX2_isTrackFree_0 11 rfl rfl)
theorem dX2_isTrackFree_14 : decode cX2_isTrackFree 14 = .ok (.iconst 1, 1) := dk_4 (dk_at dksX2_isTrackFree_0 14 rfl rfl)
theorem dX2_isTrackFree_15 : decode cX2_isTrackFree 15 = .ok (.goto 4, 3) := dk_167 0 4 (dk_at dksX2_isTrackFree_0 15 rfl rfl)
theorem dX2_isTrackFree_18 : decode cX2_isTrackFree 18 = .ok (.iconst 0, 1) := dk_3 (dk_at dksX2_isTrackFree_0 18 rfl rfl)
theorem dX2_isTrackFree_19 : decode cX2_isTrackFree 19 = .ok (.ireturn, 1) := dk_172 (dk_at dksX2_isTrackFree_0 19 rfl rfl)
abbrev cX2_removes : ByteArray := prog_10_method_38_code
def yX2_removes : MethodName := ⟨RX2, "removes", "(I)I"⟩
def dkwX2_removes_1 : List UInt8 := [180, 0, 32, 182, 0, 56, 172]
abbrev dktX2_removes_1 : List UInt8 := dkwX2_removes_1 ++ []
def dkwX2_removes_0 : List UInt8 := [42, 27, 182, 0, 249, 42, 27, 182, 0, 255, 42, 180, 0, 32, 27, 182, 1, 61, 192, 0, 73, 77, 42]
abbrev dktX2_removes_0 : List UInt8 := dkwX2_removes_0 ++ dktX2_removes_1
theorem dksX2_removes_0 : cX2_removes.data.toList.drop 0 = dktX2_removes_0 := by decide +kernel
theorem dksX2_removes_1 : cX2_removes.data.toList.drop 23 = dktX2_removes_1 := dk_seg dksX2_removes_0 23 rfl rfl
theorem dX2_removes_0 : decode cX2_removes 0 = .ok (.aload_n 0, 1) := dk_42 (dk_at dksX2_removes_0 0 rfl rfl)
theorem dX2_removes_1 : decode cX2_removes 1 = .ok (.iload_n 1, 1) := dk_27 (dk_at dksX2_removes_0 1 rfl rfl)
theorem dX2_removes_2 : decode cX2_removes 2 = .ok (.invokevirtual 249, 3) := dk_182 0 249 (dk_at dksX2_removes_0 2 rfl rfl)
theorem dX2_removes_5 : decode cX2_removes 5 = .ok (.aload_n 0, 1) := dk_42 (dk_at dksX2_removes_0 5 rfl rfl)
theorem dX2_removes_6 : decode cX2_removes 6 = .ok (.iload_n 1, 1) := dk_27 (dk_at dksX2_removes_0 6 rfl rfl)
theorem dX2_removes_7 : decode cX2_removes 7 = .ok (.invokevirtual 255, 3) := dk_182 0 255 (dk_at dksX2_removes_0 7 rfl rfl)
theorem dX2_removes_10 : decode cX2_removes 10 = .ok (.aload_n 0, 1) := dk_42 (dk_at dksX2_removes_0 10 rfl rfl)
theorem dX2_removes_11 : decode cX2_removes 11 = .ok (.getfield 32, 3) := dk_180 0 32 (dk_at dksX2_removes_0 11 rfl rfl)
theorem dX2_removes_14 : decode cX2_removes 14 = .ok (.iload_n 1, 1) := dk_27 (dk_at dksX2_removes_0 14 rfl rfl)
theorem dX2_removes_15 : decode cX2_removes 15 = .ok (.invokevirtual 317, 3) := dk_182 1 61 (dk_at dksX2_removes_0 15 rfl rfl)
theorem dX2_removes_18 : decode cX2_removes 18 = .ok (.checkcast 73, 3) := dk_192 0 73 (dk_at dksX2_removes_0 18 rfl rfl)
theorem dX2_removes_21 : decode cX2_removes 21 = .ok (.astore_n 2, 1) := dk_77 (dk_at dksX2_removes_0 21 rfl rfl)
theorem dX2_removes_22 : decode cX2_removes 22 = .ok (.aload_n 0, 1) := dk_42 (dk_at dksX2_removes_0 22 rfl rfl)
theorem dX2_removes_23 : decode cX2_removes 23 = .ok (.getfield 32, 3) := dk_180 0 32 (dk_at dksX2_removes_1 0 rfl rfl)
theorem dX2_removes_26 : decode cX2_removes 26 = .ok (.invokevirtual 56, 3) := dk_182 0 56 (dk_at dksX2_removes_1 3 rfl rfl)
theorem dX2_removes_29 : decode cX2_removes 29 = .ok (.ireturn, 1) := dk_172 (dk_at dksX2_removes_1 6 rfl rfl)
abbrev cX2_checkTrain : ByteArray := prog_10_method_18_code
def yX2_checkTrain : MethodName := ⟨RX2, "checkTrain", "(I)V"⟩
def dkwX2_checkTrain_1 : List UInt8 := [184, 0, 192, 177]
abbrev dktX2_checkTrain_1 : List UInt8 := dkwX2_checkTrain_1 ++ []
def dkwX2_checkTrain_0 : List UInt8 := [27, 3, 42, 180, 0, 32, 182, 0, 56, 4, 100, 184, 0, 188, 154, 0, 7, 4, 167, 0, 4, 3, 4, 27]
abbrev dktX2_checkTrain_0 : List UInt8 := dkwX2_checkTrain_0 ++ dktX2_checkTrain_1
theorem dksX2_checkTrain_0 : cX2_checkTrain.data.toList.drop 0 = dktX2_checkTrain_0 := by decide +kernel
theorem dksX2_checkTrain_1 : cX2_checkTrain.data.toList.drop 24 = dktX2_checkTrain_1 := dk_seg dksX2_checkTrain_0 24 rfl rfl
theorem dX2_checkTrain_0 : decode cX2_checkTrain 0 = .ok (.iload_n 1, 1) := dk_27 (dk_at dksX2_checkTrain_0 0 rfl rfl)
theorem dX2_checkTrain_1 : decode cX2_checkTrain 1 = .ok (.iconst 0, 1) := dk_3 (dk_at dksX2_checkTrain_0 1 rfl rfl)
theorem dX2_checkTrain_2 : decode cX2_checkTrain 2 = .ok (.aload_n 0, 1) := dk_42 (dk_at dksX2_checkTrain_0 2 rfl rfl)
theorem dX2_checkTrain_3 : decode cX2_checkTrain 3 = .ok (.getfield 32, 3) := dk_180 0 32 (dk_at dksX2_checkTrain_0 3 rfl rfl)
theorem dX2_checkTrain_6 : decode cX2_checkTrain 6 = .ok (.invokevirtual 56, 3) := dk_182 0 56 (dk_at dksX2_checkTrain_0 6 rfl rfl)
theorem dX2_checkTrain_9 : decode cX2_checkTrain 9 = .ok (.iconst 1, 1) := dk_4 (dk_at dksX2_checkTrain_0 9 rfl rfl)
theorem dX2_checkTrain_10 : decode cX2_checkTrain 10 = .ok (.isub, 1) := dk_100 (dk_at dksX2_checkTrain_0 10 rfl rfl)
theorem dX2_checkTrain_11 : decode cX2_checkTrain 11 = .ok (.invokestatic 188, 3) := dk_184 0 188 (dk_at dksX2_checkTrain_0 11 rfl rfl)
theorem dX2_checkTrain_14 : decode cX2_checkTrain 14 = .ok (.ifCond .ne 7, 3) := dk_154 0 7 (dk_at dksX2_checkTrain_0 14 rfl rfl)
theorem dX2_checkTrain_17 : decode cX2_checkTrain 17 = .ok (.iconst 1, 1) := dk_4 (dk_at dksX2_checkTrain_0 17 rfl rfl)
theorem dX2_checkTrain_18 : decode cX2_checkTrain 18 = .ok (.goto 4, 3) := dk_167 0 4 (dk_at dksX2_checkTrain_0 18 rfl rfl)
theorem dX2_checkTrain_21 : decode cX2_checkTrain 21 = .ok (.iconst 0, 1) := dk_3 (dk_at dksX2_checkTrain_0 21 rfl rfl)
theorem dX2_checkTrain_22 : decode cX2_checkTrain 22 = .ok (.iconst 1, 1) := dk_4 (dk_at dksX2_checkTrain_0 22 rfl rfl)
theorem dX2_checkTrain_23 : decode cX2_checkTrain 23 = .ok (.iload_n 1, 1) := dk_27 (dk_at dksX2_checkTrain_0 23 rfl rfl)
theorem dX2_checkTrain_24 : decode cX2_checkTrain 24 = .ok (.invokestatic 192, 3) := dk_184 0 192 (dk_at dksX2_checkTrain_1 0 rfl rfl)
theorem dX2_checkTrain_27 : decode cX2_checkTrain 27 = .ok (.return_, 1) := dk_177 (dk_at dksX2_checkTrain_1 3 rfl rfl)
abbrev cX2_checkStands : ByteArray := prog_10_method_20_code
def yX2_checkStands : MethodName := ⟨RX2, "checkStands", "(I)V"⟩
def dkwX2_checkStands_1 : List UInt8 := [192, 0, 73, 180, 0, 105, 184, 0, 192, 177]
abbrev dktX2_checkStands_1 : List UInt8 := dkwX2_checkStands_1 ++ []
def dkwX2_checkStands_0 : List UInt8 := [42, 180, 0, 32, 27, 182, 0, 60, 192, 0, 73, 182, 0, 101, 6, 42, 180, 0, 32, 27, 182, 0, 60]
abbrev dktX2_checkStands_0 : List UInt8 := dkwX2_checkStands_0 ++ dktX2_checkStands_1
theorem dksX2_checkStands_0 : cX2_checkStands.data.toList.drop 0 = dktX2_checkStands_0 := by decide +kernel
theorem dksX2_checkStands_1 : cX2_checkStands.data.toList.drop 23 = dktX2_checkStands_1 := dk_seg dksX2_checkStands_0 23 rfl rfl
theorem dX2_checkStands_0 : decode cX2_checkStands 0 = .ok (.aload_n 0, 1) := dk_42 (dk_at dksX2_checkStands_0 0 rfl rfl)
theorem dX2_checkStands_1 : decode cX2_checkStands 1 = .ok (.getfield 32, 3) := dk_180 0 32 (dk_at dksX2_checkStands_0 1 rfl rfl)
theorem dX2_checkStands_4 : decode cX2_checkStands 4 = .ok (.iload_n 1, 1) := dk_27 (dk_at dksX2_checkStands_0 4 rfl rfl)
theorem dX2_checkStands_5 : decode cX2_checkStands 5 = .ok (.invokevirtual 60, 3) := dk_182 0 60 (dk_at dksX2_checkStands_0 5 rfl rfl)
theorem dX2_checkStands_8 : decode cX2_checkStands 8 = .ok (.checkcast 73, 3) := dk_192 0 73 (dk_at dksX2_checkStands_0 8 rfl rfl)
theorem dX2_checkStands_11 : decode cX2_checkStands 11 = .ok (.invokevirtual 101, 3) := dk_182 0 101 (dk_at dksX2_checkStands_0 11 rfl rfl)
theorem dX2_checkStands_14 : decode cX2_checkStands 14 = .ok (.iconst 3, 1) := dk_6 (dk_at dksX2_checkStands_0 14 rfl rfl)
theorem dX2_checkStands_15 : decode cX2_checkStands 15 = .ok (.aload_n 0, 1) := dk_42 (dk_at dksX2_checkStands_0 15 rfl rfl)
theorem dX2_checkStands_16 : decode cX2_checkStands 16 = .ok (.getfield 32, 3) := dk_180 0 32 (dk_at dksX2_checkStands_0 16 rfl rfl)
theorem dX2_checkStands_19 : decode cX2_checkStands 19 = .ok (.iload_n 1, 1) := dk_27 (dk_at dksX2_checkStands_0 19 rfl rfl)
theorem dX2_checkStands_20 : decode cX2_checkStands 20 = .ok (.invokevirtual 60, 3) := dk_182 0 60 (dk_at dksX2_checkStands_0 20 rfl rfl)
theorem dX2_checkStands_23 : decode cX2_checkStands 23 = .ok (.checkcast 73, 3) := dk_192 0 73 (dk_at dksX2_checkStands_1 0 rfl rfl)
theorem dX2_checkStands_26 : decode cX2_checkStands 26 = .ok (.getfield 105, 3) := dk_180 0 105 (dk_at dksX2_checkStands_1 3 rfl rfl)
theorem dX2_checkStands_29 : decode cX2_checkStands 29 = .ok (.invokestatic 192, 3) := dk_184 0 192 (dk_at dksX2_checkStands_1 6 rfl rfl)
theorem dX2_checkStands_32 : decode cX2_checkStands 32 = .ok (.return_, 1) := dk_177 (dk_at dksX2_checkStands_1 9 rfl rfl)
abbrev cX2_divides : ByteArray := prog_10_method_39_code
def yX2_divides : MethodName := ⟨RX2, "divides", "(II)I"⟩
def dkwX2_divides_3 : List UInt8 := [28, 182, 1, 64, 54, 4, 45, 89, 180, 0, 95, 28, 100, 181, 0, 95, 21, 4, 172]
abbrev dktX2_divides_3 : List UInt8 := dkwX2_divides_3 ++ []
def dkwX2_divides_2 : List UInt8 := [161, 0, 7, 4, 167, 0, 4, 3, 16, 17, 45, 180, 0, 95, 28, 100, 184, 0, 192, 42, 45, 180, 0, 92]
abbrev dktX2_divides_2 : List UInt8 := dkwX2_divides_2 ++ dktX2_divides_3
def dkwX2_divides_1 : List UInt8 := [16, 30, 184, 0, 188, 154, 0, 7, 4, 167, 0, 4, 3, 16, 17, 28, 184, 0, 192, 28, 45, 180, 0, 95]
abbrev dktX2_divides_1 : List UInt8 := dkwX2_divides_1 ++ dktX2_divides_2
def dkwX2_divides_0 : List UInt8 := [42, 27, 182, 0, 249, 42, 27, 182, 0, 255, 42, 180, 0, 32, 27, 182, 0, 60, 192, 0, 73, 78, 28, 4]
abbrev dktX2_divides_0 : List UInt8 := dkwX2_divides_0 ++ dktX2_divides_1
theorem dksX2_divides_0 : cX2_divides.data.toList.drop 0 = dktX2_divides_0 := by decide +kernel
theorem dksX2_divides_1 : cX2_divides.data.toList.drop 24 = dktX2_divides_1 := dk_seg dksX2_divides_0 24 rfl rfl
theorem dksX2_divides_2 : cX2_divides.data.toList.drop 48 = dktX2_divides_2 := dk_seg dksX2_divides_1 24 rfl rfl
theorem dksX2_divides_3 : cX2_divides.data.toList.drop 72 = dktX2_divides_3 := dk_seg dksX2_divides_2 24 rfl rfl
theorem dX2_divides_0 : decode cX2_divides 0 = .ok (.aload_n 0, 1) := dk_42 (dk_at dksX2_divides_0 0 rfl rfl)
theorem dX2_divides_1 : decode cX2_divides 1 = .ok (.iload_n 1, 1) := dk_27 (dk_at dksX2_divides_0 1 rfl rfl)
theorem dX2_divides_2 : decode cX2_divides 2 = .ok (.invokevirtual 249, 3) := dk_182 0 249 (dk_at dksX2_divides_0 2 rfl rfl)
theorem dX2_divides_5 : decode cX2_divides 5 = .ok (.aload_n 0, 1) := dk_42 (dk_at dksX2_divides_0 5 rfl rfl)
theorem dX2_divides_6 : decode cX2_divides 6 = .ok (.iload_n 1, 1) := dk_27 (dk_at dksX2_divides_0 6 rfl rfl)
theorem dX2_divides_7 : decode cX2_divides 7 = .ok (.invokevirtual 255, 3) := dk_182 0 255 (dk_at dksX2_divides_0 7 rfl rfl)
theorem dX2_divides_10 : decode cX2_divides 10 = .ok (.aload_n 0, 1) := dk_42 (dk_at dksX2_divides_0 10 rfl rfl)
theorem dX2_divides_11 : decode cX2_divides 11 = .ok (.getfield 32, 3) := dk_180 0 32 (dk_at dksX2_divides_0 11 rfl rfl)
theorem dX2_divides_14 : decode cX2_divides 14 = .ok (.iload_n 1, 1) := dk_27 (dk_at dksX2_divides_0 14 rfl rfl)
theorem dX2_divides_15 : decode cX2_divides 15 = .ok (.invokevirtual 60, 3) := dk_182 0 60 (dk_at dksX2_divides_0 15 rfl rfl)
theorem dX2_divides_18 : decode cX2_divides 18 = .ok (.checkcast 73, 3) := dk_192 0 73 (dk_at dksX2_divides_0 18 rfl rfl)
theorem dX2_divides_21 : decode cX2_divides 21 = .ok (.astore_n 3, 1) := dk_78 (dk_at dksX2_divides_0 21 rfl rfl)
theorem dX2_divides_22 : decode cX2_divides 22 = .ok (.iload_n 2, 1) := dk_28 (dk_at dksX2_divides_0 22 rfl rfl)
theorem dX2_divides_23 : decode cX2_divides 23 = .ok (.iconst 1, 1) := dk_4 (dk_at dksX2_divides_0 23 rfl rfl)
theorem dX2_divides_24 : decode cX2_divides 24 = .ok (.bipush 30, 2) := dk_16 30 (dk_at dksX2_divides_1 0 rfl rfl)
theorem dX2_divides_26 : decode cX2_divides 26 = .ok (.invokestatic 188, 3) := dk_184 0 188 (dk_at dksX2_divides_1 2 rfl rfl)
theorem dX2_divides_29 : decode cX2_divides 29 = .ok (.ifCond .ne 7, 3) := dk_154 0 7 (dk_at dksX2_divides_1 5 rfl rfl)
theorem dX2_divides_32 : decode cX2_divides 32 = .ok (.iconst 1, 1) := dk_4 (dk_at dksX2_divides_1 8 rfl rfl)
theorem dX2_divides_33 : decode cX2_divides 33 = .ok (.goto 4, 3) := dk_167 0 4 (dk_at dksX2_divides_1 9 rfl rfl)
theorem dX2_divides_36 : decode cX2_divides 36 = .ok (.iconst 0, 1) := dk_3 (dk_at dksX2_divides_1 12 rfl rfl)
theorem dX2_divides_37 : decode cX2_divides 37 = .ok (.bipush 17, 2) := dk_16 17 (dk_at dksX2_divides_1 13 rfl rfl)
theorem dX2_divides_39 : decode cX2_divides 39 = .ok (.iload_n 2, 1) := dk_28 (dk_at dksX2_divides_1 15 rfl rfl)
theorem dX2_divides_40 : decode cX2_divides 40 = .ok (.invokestatic 192, 3) := dk_184 0 192 (dk_at dksX2_divides_1 16 rfl rfl)
theorem dX2_divides_43 : decode cX2_divides 43 = .ok (.iload_n 2, 1) := dk_28 (dk_at dksX2_divides_1 19 rfl rfl)
theorem dX2_divides_44 : decode cX2_divides 44 = .ok (.aload_n 3, 1) := dk_45 (dk_at dksX2_divides_1 20 rfl rfl)
theorem dX2_divides_45 : decode cX2_divides 45 = .ok (.getfield 95, 3) := dk_180 0 95 (dk_at dksX2_divides_1 21 rfl rfl)
theorem dX2_divides_48 : decode cX2_divides 48 = .ok (.if_icmp .lt 7, 3) := dk_161 0 7 (dk_at dksX2_divides_2 0 rfl rfl)
theorem dX2_divides_51 : decode cX2_divides 51 = .ok (.iconst 1, 1) := dk_4 (dk_at dksX2_divides_2 3 rfl rfl)
theorem dX2_divides_52 : decode cX2_divides 52 = .ok (.goto 4, 3) := dk_167 0 4 (dk_at dksX2_divides_2 4 rfl rfl)
theorem dX2_divides_55 : decode cX2_divides 55 = .ok (.iconst 0, 1) := dk_3 (dk_at dksX2_divides_2 7 rfl rfl)
theorem dX2_divides_56 : decode cX2_divides 56 = .ok (.bipush 17, 2) := dk_16 17 (dk_at dksX2_divides_2 8 rfl rfl)
theorem dX2_divides_58 : decode cX2_divides 58 = .ok (.aload_n 3, 1) := dk_45 (dk_at dksX2_divides_2 10 rfl rfl)
theorem dX2_divides_59 : decode cX2_divides 59 = .ok (.getfield 95, 3) := dk_180 0 95 (dk_at dksX2_divides_2 11 rfl rfl)
theorem dX2_divides_62 : decode cX2_divides 62 = .ok (.iload_n 2, 1) := dk_28 (dk_at dksX2_divides_2 14 rfl rfl)
theorem dX2_divides_63 : decode cX2_divides 63 = .ok (.isub, 1) := dk_100 (dk_at dksX2_divides_2 15 rfl rfl)
theorem dX2_divides_64 : decode cX2_divides 64 = .ok (.invokestatic 192, 3) := dk_184 0 192 (dk_at dksX2_divides_2 16 rfl rfl)
theorem dX2_divides_67 : decode cX2_divides 67 = .ok (.aload_n 0, 1) := dk_42 (dk_at dksX2_divides_2 19 rfl rfl)
theorem dX2_divides_68 : decode cX2_divides 68 = .ok (.aload_n 3, 1) := dk_45 (dk_at dksX2_divides_2 20 rfl rfl)
theorem dX2_divides_69 : decode cX2_divides 69 = .ok (.getfield 92, 3) := dk_180 0 92 (dk_at dksX2_divides_2 21 rfl rfl)
theorem dX2_divides_72 : decode cX2_divides 72 = .ok (.iload_n 2, 1) := dk_28 (dk_at dksX2_divides_3 0 rfl rfl)
theorem dX2_divides_73 : decode cX2_divides 73 = .ok (.invokevirtual 320, 3) := dk_182 1 64 (dk_at dksX2_divides_3 1 rfl rfl)
theorem dX2_divides_76 : decode cX2_divides 76 = .ok (.istore 4, 2) := dk_54 4 (dk_at dksX2_divides_3 4 rfl rfl)
theorem dX2_divides_78 : decode cX2_divides 78 = .ok (.aload_n 3, 1) := dk_45 (dk_at dksX2_divides_3 6 rfl rfl)
theorem dX2_divides_79 : decode cX2_divides 79 = .ok (.dup, 1) := dk_89 (dk_at dksX2_divides_3 7 rfl rfl)
theorem dX2_divides_80 : decode cX2_divides 80 = .ok (.getfield 95, 3) := dk_180 0 95 (dk_at dksX2_divides_3 8 rfl rfl)
theorem dX2_divides_83 : decode cX2_divides 83 = .ok (.iload_n 2, 1) := dk_28 (dk_at dksX2_divides_3 11 rfl rfl)
theorem dX2_divides_84 : decode cX2_divides 84 = .ok (.isub, 1) := dk_100 (dk_at dksX2_divides_3 12 rfl rfl)
theorem dX2_divides_85 : decode cX2_divides 85 = .ok (.putfield 95, 3) := dk_181 0 95 (dk_at dksX2_divides_3 13 rfl rfl)
theorem dX2_divides_88 : decode cX2_divides 88 = .ok (.iload 4, 2) := dk_21 4 (dk_at dksX2_divides_3 16 rfl rfl)
theorem dX2_divides_90 : decode cX2_divides 90 = .ok (.ireturn, 1) := dk_172 (dk_at dksX2_divides_3 18 rfl rfl)
abbrev cX2_couples : ByteArray := prog_10_method_41_code
def yX2_couples : MethodName := ⟨RX2, "couples", "(II)I"⟩
def dkwX2_couples_5 : List UInt8 := [181, 0, 95, 42, 180, 0, 32, 28, 182, 1, 61, 192, 0, 73, 58, 5, 45, 180, 0, 95, 172]
abbrev dktX2_couples_5 : List UInt8 := dkwX2_couples_5 ++ []
def dkwX2_couples_4 : List UInt8 := [180, 0, 95, 25, 4, 180, 0, 95, 96, 184, 0, 192, 45, 89, 180, 0, 95, 25, 4, 180, 0, 95, 96]
abbrev dktX2_couples_4 : List UInt8 := dkwX2_couples_4 ++ dktX2_couples_5
def dkwX2_couples_3 : List UInt8 := [180, 0, 95, 25, 4, 180, 0, 95, 96, 16, 30, 164, 0, 7, 4, 167, 0, 4, 3, 16, 17, 45]
abbrev dktX2_couples_3 : List UInt8 := dkwX2_couples_3 ++ dktX2_couples_4
def dkwX2_couples_2 : List UInt8 := [180, 0, 92, 159, 0, 7, 4, 167, 0, 4, 3, 16, 16, 25, 4, 180, 0, 92, 184, 0, 192, 45]
abbrev dktX2_couples_2 : List UInt8 := dkwX2_couples_2 ++ dktX2_couples_3
def dkwX2_couples_1 : List UInt8 := [192, 0, 73, 78, 42, 180, 0, 32, 28, 182, 0, 60, 192, 0, 73, 58, 4, 45, 180, 0, 92, 25, 4]
abbrev dktX2_couples_1 : List UInt8 := dkwX2_couples_1 ++ dktX2_couples_2
def dkwX2_couples_0 : List UInt8 := [42, 27, 28, 182, 1, 67, 42, 27, 182, 0, 255, 42, 28, 182, 0, 255, 42, 180, 0, 32, 27, 182, 0, 60]
abbrev dktX2_couples_0 : List UInt8 := dkwX2_couples_0 ++ dktX2_couples_1
theorem dksX2_couples_0 : cX2_couples.data.toList.drop 0 = dktX2_couples_0 := by decide +kernel
theorem dksX2_couples_1 : cX2_couples.data.toList.drop 24 = dktX2_couples_1 := dk_seg dksX2_couples_0 24 rfl rfl
theorem dksX2_couples_2 : cX2_couples.data.toList.drop 47 = dktX2_couples_2 := dk_seg dksX2_couples_1 23 rfl rfl
theorem dksX2_couples_3 : cX2_couples.data.toList.drop 69 = dktX2_couples_3 := dk_seg dksX2_couples_2 22 rfl rfl
theorem dksX2_couples_4 : cX2_couples.data.toList.drop 91 = dktX2_couples_4 := dk_seg dksX2_couples_3 22 rfl rfl
theorem dksX2_couples_5 : cX2_couples.data.toList.drop 114 = dktX2_couples_5 := dk_seg dksX2_couples_4 23 rfl rfl
theorem dX2_couples_0 : decode cX2_couples 0 = .ok (.aload_n 0, 1) := dk_42 (dk_at dksX2_couples_0 0 rfl rfl)
theorem dX2_couples_1 : decode cX2_couples 1 = .ok (.iload_n 1, 1) := dk_27 (dk_at dksX2_couples_0 1 rfl rfl)
theorem dX2_couples_2 : decode cX2_couples 2 = .ok (.iload_n 2, 1) := dk_28 (dk_at dksX2_couples_0 2 rfl rfl)
theorem dX2_couples_3 : decode cX2_couples 3 = .ok (.invokevirtual 323, 3) := dk_182 1 67 (dk_at dksX2_couples_0 3 rfl rfl)
theorem dX2_couples_6 : decode cX2_couples 6 = .ok (.aload_n 0, 1) := dk_42 (dk_at dksX2_couples_0 6 rfl rfl)
theorem dX2_couples_7 : decode cX2_couples 7 = .ok (.iload_n 1, 1) := dk_27 (dk_at dksX2_couples_0 7 rfl rfl)
theorem dX2_couples_8 : decode cX2_couples 8 = .ok (.invokevirtual 255, 3) := dk_182 0 255 (dk_at dksX2_couples_0 8 rfl rfl)
theorem dX2_couples_11 : decode cX2_couples 11 = .ok (.aload_n 0, 1) := dk_42 (dk_at dksX2_couples_0 11 rfl rfl)
theorem dX2_couples_12 : decode cX2_couples 12 = .ok (.iload_n 2, 1) := dk_28 (dk_at dksX2_couples_0 12 rfl rfl)
theorem dX2_couples_13 : decode cX2_couples 13 = .ok (.invokevirtual 255, 3) := dk_182 0 255 (dk_at dksX2_couples_0 13 rfl rfl)
theorem dX2_couples_16 : decode cX2_couples 16 = .ok (.aload_n 0, 1) := dk_42 (dk_at dksX2_couples_0 16 rfl rfl)
theorem dX2_couples_17 : decode cX2_couples 17 = .ok (.getfield 32, 3) := dk_180 0 32 (dk_at dksX2_couples_0 17 rfl rfl)
theorem dX2_couples_20 : decode cX2_couples 20 = .ok (.iload_n 1, 1) := dk_27 (dk_at dksX2_couples_0 20 rfl rfl)
theorem dX2_couples_21 : decode cX2_couples 21 = .ok (.invokevirtual 60, 3) := dk_182 0 60 (dk_at dksX2_couples_0 21 rfl rfl)
theorem dX2_couples_24 : decode cX2_couples 24 = .ok (.checkcast 73, 3) := dk_192 0 73 (dk_at dksX2_couples_1 0 rfl rfl)
theorem dX2_couples_27 : decode cX2_couples 27 = .ok (.astore_n 3, 1) := dk_78 (dk_at dksX2_couples_1 3 rfl rfl)
theorem dX2_couples_28 : decode cX2_couples 28 = .ok (.aload_n 0, 1) := dk_42 (dk_at dksX2_couples_1 4 rfl rfl)
theorem dX2_couples_29 : decode cX2_couples 29 = .ok (.getfield 32, 3) := dk_180 0 32 (dk_at dksX2_couples_1 5 rfl rfl)
theorem dX2_couples_32 : decode cX2_couples 32 = .ok (.iload_n 2, 1) := dk_28 (dk_at dksX2_couples_1 8 rfl rfl)
theorem dX2_couples_33 : decode cX2_couples 33 = .ok (.invokevirtual 60, 3) := dk_182 0 60 (dk_at dksX2_couples_1 9 rfl rfl)
theorem dX2_couples_36 : decode cX2_couples 36 = .ok (.checkcast 73, 3) := dk_192 0 73 (dk_at dksX2_couples_1 12 rfl rfl)
theorem dX2_couples_39 : decode cX2_couples 39 = .ok (.astore 4, 2) := dk_58 4 (dk_at dksX2_couples_1 15 rfl rfl)
theorem dX2_couples_41 : decode cX2_couples 41 = .ok (.aload_n 3, 1) := dk_45 (dk_at dksX2_couples_1 17 rfl rfl)
theorem dX2_couples_42 : decode cX2_couples 42 = .ok (.getfield 92, 3) := dk_180 0 92 (dk_at dksX2_couples_1 18 rfl rfl)
theorem dX2_couples_45 : decode cX2_couples 45 = .ok (.aload 4, 2) := dk_25 4 (dk_at dksX2_couples_1 21 rfl rfl)
theorem dX2_couples_47 : decode cX2_couples 47 = .ok (.getfield 92, 3) := dk_180 0 92 (dk_at dksX2_couples_2 0 rfl rfl)
theorem dX2_couples_50 : decode cX2_couples 50 = .ok (.if_icmp .eq 7, 3) := dk_159 0 7 (dk_at dksX2_couples_2 3 rfl rfl)
theorem dX2_couples_53 : decode cX2_couples 53 = .ok (.iconst 1, 1) := dk_4 (dk_at dksX2_couples_2 6 rfl rfl)
theorem dX2_couples_54 : decode cX2_couples 54 = .ok (.goto 4, 3) := dk_167 0 4 (dk_at dksX2_couples_2 7 rfl rfl)
theorem dX2_couples_57 : decode cX2_couples 57 = .ok (.iconst 0, 1) := dk_3 (dk_at dksX2_couples_2 10 rfl rfl)
theorem dX2_couples_58 : decode cX2_couples 58 = .ok (.bipush 16, 2) := dk_16 16 (dk_at dksX2_couples_2 11 rfl rfl)
theorem dX2_couples_60 : decode cX2_couples 60 = .ok (.aload 4, 2) := dk_25 4 (dk_at dksX2_couples_2 13 rfl rfl)
theorem dX2_couples_62 : decode cX2_couples 62 = .ok (.getfield 92, 3) := dk_180 0 92 (dk_at dksX2_couples_2 15 rfl rfl)
theorem dX2_couples_65 : decode cX2_couples 65 = .ok (.invokestatic 192, 3) := dk_184 0 192 (dk_at dksX2_couples_2 18 rfl rfl)
theorem dX2_couples_68 : decode cX2_couples 68 = .ok (.aload_n 3, 1) := dk_45 (dk_at dksX2_couples_2 21 rfl rfl)
theorem dX2_couples_69 : decode cX2_couples 69 = .ok (.getfield 95, 3) := dk_180 0 95 (dk_at dksX2_couples_3 0 rfl rfl)
theorem dX2_couples_72 : decode cX2_couples 72 = .ok (.aload 4, 2) := dk_25 4 (dk_at dksX2_couples_3 3 rfl rfl)
theorem dX2_couples_74 : decode cX2_couples 74 = .ok (.getfield 95, 3) := dk_180 0 95 (dk_at dksX2_couples_3 5 rfl rfl)
theorem dX2_couples_77 : decode cX2_couples 77 = .ok (.iadd, 1) := dk_96 (dk_at dksX2_couples_3 8 rfl rfl)
theorem dX2_couples_78 : decode cX2_couples 78 = .ok (.bipush 30, 2) := dk_16 30 (dk_at dksX2_couples_3 9 rfl rfl)
theorem dX2_couples_80 : decode cX2_couples 80 = .ok (.if_icmp .le 7, 3) := dk_164 0 7 (dk_at dksX2_couples_3 11 rfl rfl)
theorem dX2_couples_83 : decode cX2_couples 83 = .ok (.iconst 1, 1) := dk_4 (dk_at dksX2_couples_3 14 rfl rfl)
theorem dX2_couples_84 : decode cX2_couples 84 = .ok (.goto 4, 3) := dk_167 0 4 (dk_at dksX2_couples_3 15 rfl rfl)
theorem dX2_couples_87 : decode cX2_couples 87 = .ok (.iconst 0, 1) := dk_3 (dk_at dksX2_couples_3 18 rfl rfl)
theorem dX2_couples_88 : decode cX2_couples 88 = .ok (.bipush 17, 2) := dk_16 17 (dk_at dksX2_couples_3 19 rfl rfl)
theorem dX2_couples_90 : decode cX2_couples 90 = .ok (.aload_n 3, 1) := dk_45 (dk_at dksX2_couples_3 21 rfl rfl)
theorem dX2_couples_91 : decode cX2_couples 91 = .ok (.getfield 95, 3) := dk_180 0 95 (dk_at dksX2_couples_4 0 rfl rfl)
theorem dX2_couples_94 : decode cX2_couples 94 = .ok (.aload 4, 2) := dk_25 4 (dk_at dksX2_couples_4 3 rfl rfl)
theorem dX2_couples_96 : decode cX2_couples 96 = .ok (.getfield 95, 3) := dk_180 0 95 (dk_at dksX2_couples_4 5 rfl rfl)
theorem dX2_couples_99 : decode cX2_couples 99 = .ok (.iadd, 1) := dk_96 (dk_at dksX2_couples_4 8 rfl rfl)
theorem dX2_couples_100 : decode cX2_couples 100 = .ok (.invokestatic 192, 3) := dk_184 0 192 (dk_at dksX2_couples_4 9 rfl rfl)
theorem dX2_couples_103 : decode cX2_couples 103 = .ok (.aload_n 3, 1) := dk_45 (dk_at dksX2_couples_4 12 rfl rfl)
theorem dX2_couples_104 : decode cX2_couples 104 = .ok (.dup, 1) := dk_89 (dk_at dksX2_couples_4 13 rfl rfl)
theorem dX2_couples_105 : decode cX2_couples 105 = .ok (.getfield 95, 3) := dk_180 0 95 (dk_at dksX2_couples_4 14 rfl rfl)
theorem dX2_couples_108 : decode cX2_couples 108 = .ok (.aload 4, 2) := dk_25 4 (dk_at dksX2_couples_4 17 rfl rfl)
theorem dX2_couples_110 : decode cX2_couples 110 = .ok (.getfield 95, 3) := dk_180 0 95 (dk_at dksX2_couples_4 19 rfl rfl)
theorem dX2_couples_113 : decode cX2_couples 113 = .ok (.iadd, 1) := dk_96 (dk_at dksX2_couples_4 22 rfl rfl)
theorem dX2_couples_114 : decode cX2_couples 114 = .ok (.putfield 95, 3) := dk_181 0 95 (dk_at dksX2_couples_5 0 rfl rfl)
theorem dX2_couples_117 : decode cX2_couples 117 = .ok (.aload_n 0, 1) := dk_42 (dk_at dksX2_couples_5 3 rfl rfl)
theorem dX2_couples_118 : decode cX2_couples 118 = .ok (.getfield 32, 3) := dk_180 0 32 (dk_at dksX2_couples_5 4 rfl rfl)
theorem dX2_couples_121 : decode cX2_couples 121 = .ok (.iload_n 2, 1) := dk_28 (dk_at dksX2_couples_5 7 rfl rfl)
theorem dX2_couples_122 : decode cX2_couples 122 = .ok (.invokevirtual 317, 3) := dk_182 1 61 (dk_at dksX2_couples_5 8 rfl rfl)
theorem dX2_couples_125 : decode cX2_couples 125 = .ok (.checkcast 73, 3) := dk_192 0 73 (dk_at dksX2_couples_5 11 rfl rfl)
theorem dX2_couples_128 : decode cX2_couples 128 = .ok (.astore 5, 2) := dk_58 5 (dk_at dksX2_couples_5 14 rfl rfl)
theorem dX2_couples_130 : decode cX2_couples 130 = .ok (.aload_n 3, 1) := dk_45 (dk_at dksX2_couples_5 16 rfl rfl)
theorem dX2_couples_131 : decode cX2_couples 131 = .ok (.getfield 95, 3) := dk_180 0 95 (dk_at dksX2_couples_5 17 rfl rfl)
theorem dX2_couples_134 : decode cX2_couples 134 = .ok (.ireturn, 1) := dk_172 (dk_at dksX2_couples_5 20 rfl rfl)
abbrev cX2_checkTwo : ByteArray := prog_10_method_40_code
def yX2_checkTwo : MethodName := ⟨RX2, "checkTwo", "(II)V"⟩
def dkwX2_checkTwo_0 : List UInt8 := [42, 27, 182, 0, 249, 42, 28, 182, 0, 249, 177]
abbrev dktX2_checkTwo_0 : List UInt8 := dkwX2_checkTwo_0 ++ []
theorem dksX2_checkTwo_0 : cX2_checkTwo.data.toList.drop 0 = dktX2_checkTwo_0 := by decide +kernel
theorem dX2_checkTwo_0 : decode cX2_checkTwo 0 = .ok (.aload_n 0, 1) := dk_42 (dk_at dksX2_checkTwo_0 0 rfl rfl)
theorem dX2_checkTwo_1 : decode cX2_checkTwo 1 = .ok (.iload_n 1, 1) := dk_27 (dk_at dksX2_checkTwo_0 1 rfl rfl)
theorem dX2_checkTwo_2 : decode cX2_checkTwo 2 = .ok (.invokevirtual 249, 3) := dk_182 0 249 (dk_at dksX2_checkTwo_0 2 rfl rfl)
theorem dX2_checkTwo_5 : decode cX2_checkTwo 5 = .ok (.aload_n 0, 1) := dk_42 (dk_at dksX2_checkTwo_0 5 rfl rfl)
theorem dX2_checkTwo_6 : decode cX2_checkTwo 6 = .ok (.iload_n 2, 1) := dk_28 (dk_at dksX2_checkTwo_0 6 rfl rfl)
theorem dX2_checkTwo_7 : decode cX2_checkTwo 7 = .ok (.invokevirtual 249, 3) := dk_182 0 249 (dk_at dksX2_checkTwo_0 7 rfl rfl)
theorem dX2_checkTwo_10 : decode cX2_checkTwo 10 = .ok (.return_, 1) := dk_177 (dk_at dksX2_checkTwo_0 10 rfl rfl)
abbrev cX2_sends : ByteArray := prog_10_method_27_code
def yX2_sends : MethodName := ⟨RX2, "sends", "(II)I"⟩
def dkwX2_sends_6 : List UInt8 := [182, 1, 16, 45, 180, 0, 111, 172]
abbrev dktX2_sends_6 : List UInt8 := dkwX2_sends_6 ++ []
def dkwX2_sends_5 : List UInt8 := [167, 0, 26, 45, 4, 181, 0, 125, 25, 6, 21, 4, 21, 5, 160, 0, 7, 4, 167, 0, 4, 3, 2]
abbrev dktX2_sends_5 : List UInt8 := dkwX2_sends_5 ++ dktX2_sends_6
def dkwX2_sends_4 : List UInt8 := [180, 0, 211, 153, 0, 24, 45, 42, 21, 5, 182, 0, 199, 181, 0, 118, 45, 180, 0, 118, 2, 181, 0, 210]
abbrev dktX2_sends_4 : List UInt8 := dkwX2_sends_4 ++ dktX2_sends_5
def dkwX2_sends_3 : List UInt8 := [25, 6, 45, 180, 0, 95, 182, 1, 13, 153, 0, 7, 3, 167, 0, 4, 4, 96, 181, 0, 86, 25, 6]
abbrev dktX2_sends_3 : List UInt8 := dkwX2_sends_3 ++ dktX2_sends_4
def dkwX2_sends_2 : List UInt8 := [182, 0, 186, 45, 21, 5, 28, 25, 6, 45, 180, 0, 95, 182, 1, 11, 182, 0, 114, 42, 89, 180, 0, 86]
abbrev dktX2_sends_2 : List UInt8 := dkwX2_sends_2 ++ dktX2_sends_3
def dkwX2_sends_1 : List UInt8 := [21, 4, 28, 184, 0, 227, 54, 5, 42, 180, 0, 17, 21, 5, 50, 58, 6, 42, 21, 4, 3, 27]
abbrev dktX2_sends_1 : List UInt8 := dkwX2_sends_1 ++ dktX2_sends_2
def dkwX2_sends_0 : List UInt8 := [42, 27, 28, 182, 1, 8, 42, 180, 0, 32, 27, 182, 0, 60, 192, 0, 73, 78, 45, 180, 0, 92, 54, 4]
abbrev dktX2_sends_0 : List UInt8 := dkwX2_sends_0 ++ dktX2_sends_1
theorem dksX2_sends_0 : cX2_sends.data.toList.drop 0 = dktX2_sends_0 := by decide +kernel
theorem dksX2_sends_1 : cX2_sends.data.toList.drop 24 = dktX2_sends_1 := dk_seg dksX2_sends_0 24 rfl rfl
theorem dksX2_sends_2 : cX2_sends.data.toList.drop 46 = dktX2_sends_2 := dk_seg dksX2_sends_1 22 rfl rfl
theorem dksX2_sends_3 : cX2_sends.data.toList.drop 70 = dktX2_sends_3 := dk_seg dksX2_sends_2 24 rfl rfl
theorem dksX2_sends_4 : cX2_sends.data.toList.drop 93 = dktX2_sends_4 := dk_seg dksX2_sends_3 23 rfl rfl
theorem dksX2_sends_5 : cX2_sends.data.toList.drop 117 = dktX2_sends_5 := dk_seg dksX2_sends_4 24 rfl rfl
theorem dksX2_sends_6 : cX2_sends.data.toList.drop 140 = dktX2_sends_6 := dk_seg dksX2_sends_5 23 rfl rfl
theorem dX2_sends_0 : decode cX2_sends 0 = .ok (.aload_n 0, 1) := dk_42 (dk_at dksX2_sends_0 0 rfl rfl)
theorem dX2_sends_1 : decode cX2_sends 1 = .ok (.iload_n 1, 1) := dk_27 (dk_at dksX2_sends_0 1 rfl rfl)
theorem dX2_sends_2 : decode cX2_sends 2 = .ok (.iload_n 2, 1) := dk_28 (dk_at dksX2_sends_0 2 rfl rfl)
theorem dX2_sends_3 : decode cX2_sends 3 = .ok (.invokevirtual 264, 3) := dk_182 1 8 (dk_at dksX2_sends_0 3 rfl rfl)
theorem dX2_sends_6 : decode cX2_sends 6 = .ok (.aload_n 0, 1) := dk_42 (dk_at dksX2_sends_0 6 rfl rfl)
theorem dX2_sends_7 : decode cX2_sends 7 = .ok (.getfield 32, 3) := dk_180 0 32 (dk_at dksX2_sends_0 7 rfl rfl)
theorem dX2_sends_10 : decode cX2_sends 10 = .ok (.iload_n 1, 1) := dk_27 (dk_at dksX2_sends_0 10 rfl rfl)
theorem dX2_sends_11 : decode cX2_sends 11 = .ok (.invokevirtual 60, 3) := dk_182 0 60 (dk_at dksX2_sends_0 11 rfl rfl)
theorem dX2_sends_14 : decode cX2_sends 14 = .ok (.checkcast 73, 3) := dk_192 0 73 (dk_at dksX2_sends_0 14 rfl rfl)
theorem dX2_sends_17 : decode cX2_sends 17 = .ok (.astore_n 3, 1) := dk_78 (dk_at dksX2_sends_0 17 rfl rfl)
theorem dX2_sends_18 : decode cX2_sends 18 = .ok (.aload_n 3, 1) := dk_45 (dk_at dksX2_sends_0 18 rfl rfl)
theorem dX2_sends_19 : decode cX2_sends 19 = .ok (.getfield 92, 3) := dk_180 0 92 (dk_at dksX2_sends_0 19 rfl rfl)
theorem dX2_sends_22 : decode cX2_sends 22 = .ok (.istore 4, 2) := dk_54 4 (dk_at dksX2_sends_0 22 rfl rfl)
theorem dX2_sends_24 : decode cX2_sends 24 = .ok (.iload 4, 2) := dk_21 4 (dk_at dksX2_sends_1 0 rfl rfl)
theorem dX2_sends_26 : decode cX2_sends 26 = .ok (.iload_n 2, 1) := dk_28 (dk_at dksX2_sends_1 2 rfl rfl)
theorem dX2_sends_27 : decode cX2_sends 27 = .ok (.invokestatic 227, 3) := dk_184 0 227 (dk_at dksX2_sends_1 3 rfl rfl)
theorem dX2_sends_30 : decode cX2_sends 30 = .ok (.istore 5, 2) := dk_54 5 (dk_at dksX2_sends_1 6 rfl rfl)
theorem dX2_sends_32 : decode cX2_sends 32 = .ok (.aload_n 0, 1) := dk_42 (dk_at dksX2_sends_1 8 rfl rfl)
theorem dX2_sends_33 : decode cX2_sends 33 = .ok (.getfield 17, 3) := dk_180 0 17 (dk_at dksX2_sends_1 9 rfl rfl)
theorem dX2_sends_36 : decode cX2_sends 36 = .ok (.iload 5, 2) := dk_21 5 (dk_at dksX2_sends_1 12 rfl rfl)
theorem dX2_sends_38 : decode cX2_sends 38 = .ok (.aaload, 1) := dk_50 (dk_at dksX2_sends_1 14 rfl rfl)
theorem dX2_sends_39 : decode cX2_sends 39 = .ok (.astore 6, 2) := dk_58 6 (dk_at dksX2_sends_1 15 rfl rfl)
theorem dX2_sends_41 : decode cX2_sends 41 = .ok (.aload_n 0, 1) := dk_42 (dk_at dksX2_sends_1 17 rfl rfl)
theorem dX2_sends_42 : decode cX2_sends 42 = .ok (.iload 4, 2) := dk_21 4 (dk_at dksX2_sends_1 18 rfl rfl)
theorem dX2_sends_44 : decode cX2_sends 44 = .ok (.iconst 0, 1) := dk_3 (dk_at dksX2_sends_1 20 rfl rfl)
theorem dX2_sends_45 : decode cX2_sends 45 = .ok (.iload_n 1, 1) := dk_27 (dk_at dksX2_sends_1 21 rfl rfl)
theorem dX2_sends_46 : decode cX2_sends 46 = .ok (.invokevirtual 186, 3) := dk_182 0 186 (dk_at dksX2_sends_2 0 rfl rfl)
theorem dX2_sends_49 : decode cX2_sends 49 = .ok (.aload_n 3, 1) := dk_45 (dk_at dksX2_sends_2 3 rfl rfl)
theorem dX2_sends_50 : decode cX2_sends 50 = .ok (.iload 5, 2) := dk_21 5 (dk_at dksX2_sends_2 4 rfl rfl)
theorem dX2_sends_52 : decode cX2_sends 52 = .ok (.iload_n 2, 1) := dk_28 (dk_at dksX2_sends_2 6 rfl rfl)
theorem dX2_sends_53 : decode cX2_sends 53 = .ok (.aload 6, 2) := dk_25 6 (dk_at dksX2_sends_2 7 rfl rfl)
theorem dX2_sends_55 : decode cX2_sends 55 = .ok (.aload_n 3, 1) := dk_45 (dk_at dksX2_sends_2 9 rfl rfl)
theorem dX2_sends_56 : decode cX2_sends 56 = .ok (.getfield 95, 3) := dk_180 0 95 (dk_at dksX2_sends_2 10 rfl rfl)
theorem dX2_sends_59 : decode cX2_sends 59 = .ok (.invokevirtual 267, 3) := dk_182 1 11 (dk_at dksX2_sends_2 13 rfl rfl)
theorem dX2_sends_62 : decode cX2_sends 62 = .ok (.invokevirtual 114, 3) := dk_182 0 114 (dk_at dksX2_sends_2 16 rfl rfl)
theorem dX2_sends_65 : decode cX2_sends 65 = .ok (.aload_n 0, 1) := dk_42 (dk_at dksX2_sends_2 19 rfl rfl)
theorem dX2_sends_66 : decode cX2_sends 66 = .ok (.dup, 1) := dk_89 (dk_at dksX2_sends_2 20 rfl rfl)
theorem dX2_sends_67 : decode cX2_sends 67 = .ok (.getfield 86, 3) := dk_180 0 86 (dk_at dksX2_sends_2 21 rfl rfl)
theorem dX2_sends_70 : decode cX2_sends 70 = .ok (.aload 6, 2) := dk_25 6 (dk_at dksX2_sends_3 0 rfl rfl)
theorem dX2_sends_72 : decode cX2_sends 72 = .ok (.aload_n 3, 1) := dk_45 (dk_at dksX2_sends_3 2 rfl rfl)
theorem dX2_sends_73 : decode cX2_sends 73 = .ok (.getfield 95, 3) := dk_180 0 95 (dk_at dksX2_sends_3 3 rfl rfl)
theorem dX2_sends_76 : decode cX2_sends 76 = .ok (.invokevirtual 269, 3) := dk_182 1 13 (dk_at dksX2_sends_3 6 rfl rfl)
theorem dX2_sends_79 : decode cX2_sends 79 = .ok (.ifCond .eq 7, 3) := dk_153 0 7 (dk_at dksX2_sends_3 9 rfl rfl)
theorem dX2_sends_82 : decode cX2_sends 82 = .ok (.iconst 0, 1) := dk_3 (dk_at dksX2_sends_3 12 rfl rfl)
theorem dX2_sends_83 : decode cX2_sends 83 = .ok (.goto 4, 3) := dk_167 0 4 (dk_at dksX2_sends_3 13 rfl rfl)
theorem dX2_sends_86 : decode cX2_sends 86 = .ok (.iconst 1, 1) := dk_4 (dk_at dksX2_sends_3 16 rfl rfl)
theorem dX2_sends_87 : decode cX2_sends 87 = .ok (.iadd, 1) := dk_96 (dk_at dksX2_sends_3 17 rfl rfl)
theorem dX2_sends_88 : decode cX2_sends 88 = .ok (.putfield 86, 3) := dk_181 0 86 (dk_at dksX2_sends_3 18 rfl rfl)
theorem dX2_sends_91 : decode cX2_sends 91 = .ok (.aload 6, 2) := dk_25 6 (dk_at dksX2_sends_3 21 rfl rfl)
theorem dX2_sends_93 : decode cX2_sends 93 = .ok (.getfield 211, 3) := dk_180 0 211 (dk_at dksX2_sends_4 0 rfl rfl)
theorem dX2_sends_96 : decode cX2_sends 96 = .ok (.ifCond .eq 24, 3) := dk_153 0 24 (dk_at dksX2_sends_4 3 rfl rfl)
theorem dX2_sends_99 : decode cX2_sends 99 = .ok (.aload_n 3, 1) := dk_45 (dk_at dksX2_sends_4 6 rfl rfl)
theorem dX2_sends_100 : decode cX2_sends 100 = .ok (.aload_n 0, 1) := dk_42 (dk_at dksX2_sends_4 7 rfl rfl)
theorem dX2_sends_101 : decode cX2_sends 101 = .ok (.iload 5, 2) := dk_21 5 (dk_at dksX2_sends_4 8 rfl rfl)
theorem dX2_sends_103 : decode cX2_sends 103 = .ok (.invokevirtual 199, 3) := dk_182 0 199 (dk_at dksX2_sends_4 10 rfl rfl)
theorem dX2_sends_106 : decode cX2_sends 106 = .ok (.putfield 118, 3) := dk_181 0 118 (dk_at dksX2_sends_4 13 rfl rfl)
theorem dX2_sends_109 : decode cX2_sends 109 = .ok (.aload_n 3, 1) := dk_45 (dk_at dksX2_sends_4 16 rfl rfl)
theorem dX2_sends_110 : decode cX2_sends 110 = .ok (.getfield 118, 3) := dk_180 0 118 (dk_at dksX2_sends_4 17 rfl rfl)
theorem dX2_sends_113 : decode cX2_sends 113 = .ok (.iconst (-1), 1) := dk_2 (dk_at dksX2_sends_4 20 rfl rfl)
theorem dX2_sends_114 : decode cX2_sends 114 = .ok (.putfield 210, 3) := dk_181 0 210 (dk_at dksX2_sends_4 21 rfl rfl)
theorem dX2_sends_117 : decode cX2_sends 117 = .ok (.goto 26, 3) := dk_167 0 26 (dk_at dksX2_sends_5 0 rfl rfl)
theorem dX2_sends_120 : decode cX2_sends 120 = .ok (.aload_n 3, 1) := dk_45 (dk_at dksX2_sends_5 3 rfl rfl)
theorem dX2_sends_121 : decode cX2_sends 121 = .ok (.iconst 1, 1) := dk_4 (dk_at dksX2_sends_5 4 rfl rfl)
theorem dX2_sends_122 : decode cX2_sends 122 = .ok (.putfield 125, 3) := dk_181 0 125 (dk_at dksX2_sends_5 5 rfl rfl)
theorem dX2_sends_125 : decode cX2_sends 125 = .ok (.aload 6, 2) := dk_25 6 (dk_at dksX2_sends_5 8 rfl rfl)
theorem dX2_sends_127 : decode cX2_sends 127 = .ok (.iload 4, 2) := dk_21 4 (dk_at dksX2_sends_5 10 rfl rfl)
theorem dX2_sends_129 : decode cX2_sends 129 = .ok (.iload 5, 2) := dk_21 5 (dk_at dksX2_sends_5 12 rfl rfl)
theorem dX2_sends_131 : decode cX2_sends 131 = .ok (.if_icmp .ne 7, 3) := dk_160 0 7 (dk_at dksX2_sends_5 14 rfl rfl)
theorem dX2_sends_134 : decode cX2_sends 134 = .ok (.iconst 1, 1) := dk_4 (dk_at dksX2_sends_5 17 rfl rfl)
theorem dX2_sends_135 : decode cX2_sends 135 = .ok (.goto 4, 3) := dk_167 0 4 (dk_at dksX2_sends_5 18 rfl rfl)
theorem dX2_sends_138 : decode cX2_sends 138 = .ok (.iconst 0, 1) := dk_3 (dk_at dksX2_sends_5 21 rfl rfl)
theorem dX2_sends_139 : decode cX2_sends 139 = .ok (.iconst (-1), 1) := dk_2 (dk_at dksX2_sends_5 22 rfl rfl)
theorem dX2_sends_140 : decode cX2_sends 140 = .ok (.invokevirtual 272, 3) := dk_182 1 16 (dk_at dksX2_sends_6 0 rfl rfl)
theorem dX2_sends_143 : decode cX2_sends 143 = .ok (.aload_n 3, 1) := dk_45 (dk_at dksX2_sends_6 3 rfl rfl)
theorem dX2_sends_144 : decode cX2_sends 144 = .ok (.getfield 111, 3) := dk_180 0 111 (dk_at dksX2_sends_6 4 rfl rfl)
theorem dX2_sends_147 : decode cX2_sends 147 = .ok (.ireturn, 1) := dk_172 (dk_at dksX2_sends_6 7 rfl rfl)
abbrev cX2_checkSend : ByteArray := prog_10_method_26_code
def yX2_checkSend : MethodName := ⟨RX2, "checkSend", "(II)V"⟩
def dkwX2_checkSend_2 : List UInt8 := [180, 0, 92, 184, 0, 192, 42, 45, 180, 0, 92, 28, 45, 180, 0, 95, 182, 1, 5, 177]
abbrev dktX2_checkSend_2 : List UInt8 := dkwX2_checkSend_2 ++ []
def dkwX2_checkSend_1 : List UInt8 := [192, 0, 73, 78, 45, 180, 0, 92, 28, 100, 184, 1, 2, 4, 159, 0, 7, 4, 167, 0, 4, 3, 8, 45]
abbrev dktX2_checkSend_1 : List UInt8 := dkwX2_checkSend_1 ++ dktX2_checkSend_2
def dkwX2_checkSend_0 : List UInt8 := [42, 27, 182, 0, 249, 28, 184, 0, 252, 42, 27, 182, 0, 255, 42, 180, 0, 32, 27, 182, 0, 60]
abbrev dktX2_checkSend_0 : List UInt8 := dkwX2_checkSend_0 ++ dktX2_checkSend_1
theorem dksX2_checkSend_0 : cX2_checkSend.data.toList.drop 0 = dktX2_checkSend_0 := by decide +kernel
theorem dksX2_checkSend_1 : cX2_checkSend.data.toList.drop 22 = dktX2_checkSend_1 := dk_seg dksX2_checkSend_0 22 rfl rfl
theorem dksX2_checkSend_2 : cX2_checkSend.data.toList.drop 46 = dktX2_checkSend_2 := dk_seg dksX2_checkSend_1 24 rfl rfl
theorem dX2_checkSend_0 : decode cX2_checkSend 0 = .ok (.aload_n 0, 1) := dk_42 (dk_at dksX2_checkSend_0 0 rfl rfl)
theorem dX2_checkSend_1 : decode cX2_checkSend 1 = .ok (.iload_n 1, 1) := dk_27 (dk_at dksX2_checkSend_0 1 rfl rfl)
theorem dX2_checkSend_2 : decode cX2_checkSend 2 = .ok (.invokevirtual 249, 3) := dk_182 0 249 (dk_at dksX2_checkSend_0 2 rfl rfl)
theorem dX2_checkSend_5 : decode cX2_checkSend 5 = .ok (.iload_n 2, 1) := dk_28 (dk_at dksX2_checkSend_0 5 rfl rfl)
theorem dX2_checkSend_6 : decode cX2_checkSend 6 = .ok (.invokestatic 252, 3) := dk_184 0 252 (dk_at dksX2_checkSend_0 6 rfl rfl)
theorem dX2_checkSend_9 : decode cX2_checkSend 9 = .ok (.aload_n 0, 1) := dk_42 (dk_at dksX2_checkSend_0 9 rfl rfl)
theorem dX2_checkSend_10 : decode cX2_checkSend 10 = .ok (.iload_n 1, 1) := dk_27 (dk_at dksX2_checkSend_0 10 rfl rfl)
theorem dX2_checkSend_11 : decode cX2_checkSend 11 = .ok (.invokevirtual 255, 3) := dk_182 0 255 (dk_at dksX2_checkSend_0 11 rfl rfl)
theorem dX2_checkSend_14 : decode cX2_checkSend 14 = .ok (.aload_n 0, 1) := dk_42 (dk_at dksX2_checkSend_0 14 rfl rfl)
theorem dX2_checkSend_15 : decode cX2_checkSend 15 = .ok (.getfield 32, 3) := dk_180 0 32 (dk_at dksX2_checkSend_0 15 rfl rfl)
theorem dX2_checkSend_18 : decode cX2_checkSend 18 = .ok (.iload_n 1, 1) := dk_27 (dk_at dksX2_checkSend_0 18 rfl rfl)
theorem dX2_checkSend_19 : decode cX2_checkSend 19 = .ok (.invokevirtual 60, 3) := dk_182 0 60 (dk_at dksX2_checkSend_0 19 rfl rfl)
theorem dX2_checkSend_22 : decode cX2_checkSend 22 = .ok (.checkcast 73, 3) := dk_192 0 73 (dk_at dksX2_checkSend_1 0 rfl rfl)
theorem dX2_checkSend_25 : decode cX2_checkSend 25 = .ok (.astore_n 3, 1) := dk_78 (dk_at dksX2_checkSend_1 3 rfl rfl)
theorem dX2_checkSend_26 : decode cX2_checkSend 26 = .ok (.aload_n 3, 1) := dk_45 (dk_at dksX2_checkSend_1 4 rfl rfl)
theorem dX2_checkSend_27 : decode cX2_checkSend 27 = .ok (.getfield 92, 3) := dk_180 0 92 (dk_at dksX2_checkSend_1 5 rfl rfl)
theorem dX2_checkSend_30 : decode cX2_checkSend 30 = .ok (.iload_n 2, 1) := dk_28 (dk_at dksX2_checkSend_1 8 rfl rfl)
theorem dX2_checkSend_31 : decode cX2_checkSend 31 = .ok (.isub, 1) := dk_100 (dk_at dksX2_checkSend_1 9 rfl rfl)
theorem dX2_checkSend_32 : decode cX2_checkSend 32 = .ok (.invokestatic 258, 3) := dk_184 1 2 (dk_at dksX2_checkSend_1 10 rfl rfl)
theorem dX2_checkSend_35 : decode cX2_checkSend 35 = .ok (.iconst 1, 1) := dk_4 (dk_at dksX2_checkSend_1 13 rfl rfl)
theorem dX2_checkSend_36 : decode cX2_checkSend 36 = .ok (.if_icmp .eq 7, 3) := dk_159 0 7 (dk_at dksX2_checkSend_1 14 rfl rfl)
theorem dX2_checkSend_39 : decode cX2_checkSend 39 = .ok (.iconst 1, 1) := dk_4 (dk_at dksX2_checkSend_1 17 rfl rfl)
theorem dX2_checkSend_40 : decode cX2_checkSend 40 = .ok (.goto 4, 3) := dk_167 0 4 (dk_at dksX2_checkSend_1 18 rfl rfl)
theorem dX2_checkSend_43 : decode cX2_checkSend 43 = .ok (.iconst 0, 1) := dk_3 (dk_at dksX2_checkSend_1 21 rfl rfl)
theorem dX2_checkSend_44 : decode cX2_checkSend 44 = .ok (.iconst 5, 1) := dk_8 (dk_at dksX2_checkSend_1 22 rfl rfl)
theorem dX2_checkSend_45 : decode cX2_checkSend 45 = .ok (.aload_n 3, 1) := dk_45 (dk_at dksX2_checkSend_1 23 rfl rfl)
theorem dX2_checkSend_46 : decode cX2_checkSend 46 = .ok (.getfield 92, 3) := dk_180 0 92 (dk_at dksX2_checkSend_2 0 rfl rfl)
theorem dX2_checkSend_49 : decode cX2_checkSend 49 = .ok (.invokestatic 192, 3) := dk_184 0 192 (dk_at dksX2_checkSend_2 3 rfl rfl)
theorem dX2_checkSend_52 : decode cX2_checkSend 52 = .ok (.aload_n 0, 1) := dk_42 (dk_at dksX2_checkSend_2 6 rfl rfl)
theorem dX2_checkSend_53 : decode cX2_checkSend 53 = .ok (.aload_n 3, 1) := dk_45 (dk_at dksX2_checkSend_2 7 rfl rfl)
theorem dX2_checkSend_54 : decode cX2_checkSend 54 = .ok (.getfield 92, 3) := dk_180 0 92 (dk_at dksX2_checkSend_2 8 rfl rfl)
theorem dX2_checkSend_57 : decode cX2_checkSend 57 = .ok (.iload_n 2, 1) := dk_28 (dk_at dksX2_checkSend_2 11 rfl rfl)
theorem dX2_checkSend_58 : decode cX2_checkSend 58 = .ok (.aload_n 3, 1) := dk_45 (dk_at dksX2_checkSend_2 12 rfl rfl)
theorem dX2_checkSend_59 : decode cX2_checkSend 59 = .ok (.getfield 95, 3) := dk_180 0 95 (dk_at dksX2_checkSend_2 13 rfl rfl)
theorem dX2_checkSend_62 : decode cX2_checkSend 62 = .ok (.invokevirtual 261, 3) := dk_182 1 5 (dk_at dksX2_checkSend_2 16 rfl rfl)
theorem dX2_checkSend_65 : decode cX2_checkSend 65 = .ok (.return_, 1) := dk_177 (dk_at dksX2_checkSend_2 19 rfl rfl)
abbrev cX2_checkStation : ByteArray := prog_10_method_16_code
def yX2_checkStation : MethodName := ⟨RX2, "checkStation", "(I)V"⟩
def dkwX2_checkStation_0 : List UInt8 := [26, 3, 8, 184, 0, 188, 154, 0, 7, 4, 167, 0, 4, 3, 4, 26, 184, 0, 192, 177]
abbrev dktX2_checkStation_0 : List UInt8 := dkwX2_checkStation_0 ++ []
theorem dksX2_checkStation_0 : cX2_checkStation.data.toList.drop 0 = dktX2_checkStation_0 := by decide +kernel
theorem dX2_checkStation_0 : decode cX2_checkStation 0 = .ok (.iload_n 0, 1) := dk_26 (dk_at dksX2_checkStation_0 0 rfl rfl)
theorem dX2_checkStation_1 : decode cX2_checkStation 1 = .ok (.iconst 0, 1) := dk_3 (dk_at dksX2_checkStation_0 1 rfl rfl)
theorem dX2_checkStation_2 : decode cX2_checkStation 2 = .ok (.iconst 5, 1) := dk_8 (dk_at dksX2_checkStation_0 2 rfl rfl)
theorem dX2_checkStation_3 : decode cX2_checkStation 3 = .ok (.invokestatic 188, 3) := dk_184 0 188 (dk_at dksX2_checkStation_0 3 rfl rfl)
theorem dX2_checkStation_6 : decode cX2_checkStation 6 = .ok (.ifCond .ne 7, 3) := dk_154 0 7 (dk_at dksX2_checkStation_0 6 rfl rfl)
theorem dX2_checkStation_9 : decode cX2_checkStation 9 = .ok (.iconst 1, 1) := dk_4 (dk_at dksX2_checkStation_0 9 rfl rfl)
theorem dX2_checkStation_10 : decode cX2_checkStation 10 = .ok (.goto 4, 3) := dk_167 0 4 (dk_at dksX2_checkStation_0 10 rfl rfl)
theorem dX2_checkStation_13 : decode cX2_checkStation 13 = .ok (.iconst 0, 1) := dk_3 (dk_at dksX2_checkStation_0 13 rfl rfl)
theorem dX2_checkStation_14 : decode cX2_checkStation 14 = .ok (.iconst 1, 1) := dk_4 (dk_at dksX2_checkStation_0 14 rfl rfl)
theorem dX2_checkStation_15 : decode cX2_checkStation 15 = .ok (.iload_n 0, 1) := dk_26 (dk_at dksX2_checkStation_0 15 rfl rfl)
theorem dX2_checkStation_16 : decode cX2_checkStation 16 = .ok (.invokestatic 192, 3) := dk_184 0 192 (dk_at dksX2_checkStation_0 16 rfl rfl)
theorem dX2_checkStation_19 : decode cX2_checkStation 19 = .ok (.return_, 1) := dk_177 (dk_at dksX2_checkStation_0 19 rfl rfl)
abbrev cX2_writes : ByteArray := prog_10_method_14_code
def yX2_writes : MethodName := ⟨RX2, "writes", "(III)V"⟩
def dkwX2_writes_0 : List UInt8 := [42, 180, 0, 23, 27, 50, 187, 0, 178, 89, 42, 180, 0, 79, 28, 29, 183, 0, 180, 182, 0, 182, 177]
abbrev dktX2_writes_0 : List UInt8 := dkwX2_writes_0 ++ []
theorem dksX2_writes_0 : cX2_writes.data.toList.drop 0 = dktX2_writes_0 := by decide +kernel
theorem dX2_writes_0 : decode cX2_writes 0 = .ok (.aload_n 0, 1) := dk_42 (dk_at dksX2_writes_0 0 rfl rfl)
theorem dX2_writes_1 : decode cX2_writes 1 = .ok (.getfield 23, 3) := dk_180 0 23 (dk_at dksX2_writes_0 1 rfl rfl)
theorem dX2_writes_4 : decode cX2_writes 4 = .ok (.iload_n 1, 1) := dk_27 (dk_at dksX2_writes_0 4 rfl rfl)
theorem dX2_writes_5 : decode cX2_writes 5 = .ok (.aaload, 1) := dk_50 (dk_at dksX2_writes_0 5 rfl rfl)
theorem dX2_writes_6 : decode cX2_writes 6 = .ok (.new 178, 3) := dk_187 0 178 (dk_at dksX2_writes_0 6 rfl rfl)
theorem dX2_writes_9 : decode cX2_writes 9 = .ok (.dup, 1) := dk_89 (dk_at dksX2_writes_0 9 rfl rfl)
theorem dX2_writes_10 : decode cX2_writes 10 = .ok (.aload_n 0, 1) := dk_42 (dk_at dksX2_writes_0 10 rfl rfl)
theorem dX2_writes_11 : decode cX2_writes 11 = .ok (.getfield 79, 3) := dk_180 0 79 (dk_at dksX2_writes_0 11 rfl rfl)
theorem dX2_writes_14 : decode cX2_writes 14 = .ok (.iload_n 2, 1) := dk_28 (dk_at dksX2_writes_0 14 rfl rfl)
theorem dX2_writes_15 : decode cX2_writes 15 = .ok (.iload_n 3, 1) := dk_29 (dk_at dksX2_writes_0 15 rfl rfl)
theorem dX2_writes_16 : decode cX2_writes 16 = .ok (.invokespecial 180, 3) := dk_183 0 180 (dk_at dksX2_writes_0 16 rfl rfl)
theorem dX2_writes_19 : decode cX2_writes 19 = .ok (.invokevirtual 182, 3) := dk_182 0 182 (dk_at dksX2_writes_0 19 rfl rfl)
theorem dX2_writes_22 : decode cX2_writes 22 = .ok (.return_, 1) := dk_177 (dk_at dksX2_writes_0 22 rfl rfl)
abbrev cX2_passes : ByteArray := prog_10_method_31_code
def yX2_passes : MethodName := ⟨RX2, "passes", "(I)I"⟩
def dkwX2_passes_0 : List UInt8 := [3, 61, 3, 62, 29, 27, 162, 0, 16, 28, 42, 182, 1, 35, 96, 61, 132, 3, 1, 167, 255, 241, 28, 172]
abbrev dktX2_passes_0 : List UInt8 := dkwX2_passes_0 ++ []
theorem dksX2_passes_0 : cX2_passes.data.toList.drop 0 = dktX2_passes_0 := by decide +kernel
theorem dX2_passes_0 : decode cX2_passes 0 = .ok (.iconst 0, 1) := dk_3 (dk_at dksX2_passes_0 0 rfl rfl)
theorem dX2_passes_1 : decode cX2_passes 1 = .ok (.istore_n 2, 1) := dk_61 (dk_at dksX2_passes_0 1 rfl rfl)
theorem dX2_passes_2 : decode cX2_passes 2 = .ok (.iconst 0, 1) := dk_3 (dk_at dksX2_passes_0 2 rfl rfl)
theorem dX2_passes_3 : decode cX2_passes 3 = .ok (.istore_n 3, 1) := dk_62 (dk_at dksX2_passes_0 3 rfl rfl)
theorem dX2_passes_4 : decode cX2_passes 4 = .ok (.iload_n 3, 1) := dk_29 (dk_at dksX2_passes_0 4 rfl rfl)
theorem dX2_passes_5 : decode cX2_passes 5 = .ok (.iload_n 1, 1) := dk_27 (dk_at dksX2_passes_0 5 rfl rfl)
theorem dX2_passes_6 : decode cX2_passes 6 = .ok (.if_icmp .ge 16, 3) := dk_162 0 16 (dk_at dksX2_passes_0 6 rfl rfl)
theorem dX2_passes_9 : decode cX2_passes 9 = .ok (.iload_n 2, 1) := dk_28 (dk_at dksX2_passes_0 9 rfl rfl)
theorem dX2_passes_10 : decode cX2_passes 10 = .ok (.aload_n 0, 1) := dk_42 (dk_at dksX2_passes_0 10 rfl rfl)
theorem dX2_passes_11 : decode cX2_passes 11 = .ok (.invokevirtual 291, 3) := dk_182 1 35 (dk_at dksX2_passes_0 11 rfl rfl)
theorem dX2_passes_14 : decode cX2_passes 14 = .ok (.iadd, 1) := dk_96 (dk_at dksX2_passes_0 14 rfl rfl)
theorem dX2_passes_15 : decode cX2_passes 15 = .ok (.istore_n 2, 1) := dk_61 (dk_at dksX2_passes_0 15 rfl rfl)
theorem dX2_passes_16 : decode cX2_passes 16 = .ok (.iinc 3 1, 3) := dk_132 3 1 (dk_at dksX2_passes_0 16 rfl rfl)
theorem dX2_passes_19 : decode cX2_passes 19 = .ok (.goto (-15), 3) := dk_167 255 241 (dk_at dksX2_passes_0 19 rfl rfl)
theorem dX2_passes_22 : decode cX2_passes 22 = .ok (.iload_n 2, 1) := dk_28 (dk_at dksX2_passes_0 22 rfl rfl)
theorem dX2_passes_23 : decode cX2_passes 23 = .ok (.ireturn, 1) := dk_172 (dk_at dksX2_passes_0 23 rfl rfl)
abbrev cX2_minuteGoes : ByteArray := prog_10_method_30_code
def yX2_minuteGoes : MethodName := ⟨RX2, "minuteGoes", "()I"⟩
def dkwX2_minuteGoes_2 : List UInt8 := [167, 255, 226, 27, 172]
abbrev dktX2_minuteGoes_2 : List UInt8 := dkwX2_minuteGoes_2 ++ []
def dkwX2_minuteGoes_1 : List UInt8 := [162, 0, 25, 27, 42, 28, 182, 1, 32, 153, 0, 7, 4, 167, 0, 4, 3, 96, 60, 132, 2, 1]
abbrev dktX2_minuteGoes_1 : List UInt8 := dkwX2_minuteGoes_1 ++ dktX2_minuteGoes_2
def dkwX2_minuteGoes_0 : List UInt8 := [3, 60, 42, 89, 180, 0, 79, 4, 96, 181, 0, 79, 3, 61, 28, 42, 180, 0, 32, 182, 0, 56]
abbrev dktX2_minuteGoes_0 : List UInt8 := dkwX2_minuteGoes_0 ++ dktX2_minuteGoes_1
theorem dksX2_minuteGoes_0 : cX2_minuteGoes.data.toList.drop 0 = dktX2_minuteGoes_0 := by decide +kernel
theorem dksX2_minuteGoes_1 : cX2_minuteGoes.data.toList.drop 22 = dktX2_minuteGoes_1 := dk_seg dksX2_minuteGoes_0 22 rfl rfl
theorem dksX2_minuteGoes_2 : cX2_minuteGoes.data.toList.drop 44 = dktX2_minuteGoes_2 := dk_seg dksX2_minuteGoes_1 22 rfl rfl
theorem dX2_minuteGoes_0 : decode cX2_minuteGoes 0 = .ok (.iconst 0, 1) := dk_3 (dk_at dksX2_minuteGoes_0 0 rfl rfl)
theorem dX2_minuteGoes_1 : decode cX2_minuteGoes 1 = .ok (.istore_n 1, 1) := dk_60 (dk_at dksX2_minuteGoes_0 1 rfl rfl)
theorem dX2_minuteGoes_2 : decode cX2_minuteGoes 2 = .ok (.aload_n 0, 1) := dk_42 (dk_at dksX2_minuteGoes_0 2 rfl rfl)
theorem dX2_minuteGoes_3 : decode cX2_minuteGoes 3 = .ok (.dup, 1) := dk_89 (dk_at dksX2_minuteGoes_0 3 rfl rfl)
theorem dX2_minuteGoes_4 : decode cX2_minuteGoes 4 = .ok (.getfield 79, 3) := dk_180 0 79 (dk_at dksX2_minuteGoes_0 4 rfl rfl)
theorem dX2_minuteGoes_7 : decode cX2_minuteGoes 7 = .ok (.iconst 1, 1) := dk_4 (dk_at dksX2_minuteGoes_0 7 rfl rfl)
theorem dX2_minuteGoes_8 : decode cX2_minuteGoes 8 = .ok (.iadd, 1) := dk_96 (dk_at dksX2_minuteGoes_0 8 rfl rfl)
theorem dX2_minuteGoes_9 : decode cX2_minuteGoes 9 = .ok (.putfield 79, 3) := dk_181 0 79 (dk_at dksX2_minuteGoes_0 9 rfl rfl)
theorem dX2_minuteGoes_12 : decode cX2_minuteGoes 12 = .ok (.iconst 0, 1) := dk_3 (dk_at dksX2_minuteGoes_0 12 rfl rfl)
theorem dX2_minuteGoes_13 : decode cX2_minuteGoes 13 = .ok (.istore_n 2, 1) := dk_61 (dk_at dksX2_minuteGoes_0 13 rfl rfl)
theorem dX2_minuteGoes_14 : decode cX2_minuteGoes 14 = .ok (.iload_n 2, 1) := dk_28 (dk_at dksX2_minuteGoes_0 14 rfl rfl)
theorem dX2_minuteGoes_15 : decode cX2_minuteGoes 15 = .ok (.aload_n 0, 1) := dk_42 (dk_at dksX2_minuteGoes_0 15 rfl rfl)
theorem dX2_minuteGoes_16 : decode cX2_minuteGoes 16 = .ok (.getfield 32, 3) := dk_180 0 32 (dk_at dksX2_minuteGoes_0 16 rfl rfl)
theorem dX2_minuteGoes_19 : decode cX2_minuteGoes 19 = .ok (.invokevirtual 56, 3) := dk_182 0 56 (dk_at dksX2_minuteGoes_0 19 rfl rfl)
theorem dX2_minuteGoes_22 : decode cX2_minuteGoes 22 = .ok (.if_icmp .ge 25, 3) := dk_162 0 25 (dk_at dksX2_minuteGoes_1 0 rfl rfl)
theorem dX2_minuteGoes_25 : decode cX2_minuteGoes 25 = .ok (.iload_n 1, 1) := dk_27 (dk_at dksX2_minuteGoes_1 3 rfl rfl)
theorem dX2_minuteGoes_26 : decode cX2_minuteGoes 26 = .ok (.aload_n 0, 1) := dk_42 (dk_at dksX2_minuteGoes_1 4 rfl rfl)
theorem dX2_minuteGoes_27 : decode cX2_minuteGoes 27 = .ok (.iload_n 2, 1) := dk_28 (dk_at dksX2_minuteGoes_1 5 rfl rfl)
theorem dX2_minuteGoes_28 : decode cX2_minuteGoes 28 = .ok (.invokevirtual 288, 3) := dk_182 1 32 (dk_at dksX2_minuteGoes_1 6 rfl rfl)
theorem dX2_minuteGoes_31 : decode cX2_minuteGoes 31 = .ok (.ifCond .eq 7, 3) := dk_153 0 7 (dk_at dksX2_minuteGoes_1 9 rfl rfl)
theorem dX2_minuteGoes_34 : decode cX2_minuteGoes 34 = .ok (.iconst 1, 1) := dk_4 (dk_at dksX2_minuteGoes_1 12 rfl rfl)
theorem dX2_minuteGoes_35 : decode cX2_minuteGoes 35 = .ok (.goto 4, 3) := dk_167 0 4 (dk_at dksX2_minuteGoes_1 13 rfl rfl)
theorem dX2_minuteGoes_38 : decode cX2_minuteGoes 38 = .ok (.iconst 0, 1) := dk_3 (dk_at dksX2_minuteGoes_1 16 rfl rfl)
theorem dX2_minuteGoes_39 : decode cX2_minuteGoes 39 = .ok (.iadd, 1) := dk_96 (dk_at dksX2_minuteGoes_1 17 rfl rfl)
theorem dX2_minuteGoes_40 : decode cX2_minuteGoes 40 = .ok (.istore_n 1, 1) := dk_60 (dk_at dksX2_minuteGoes_1 18 rfl rfl)
theorem dX2_minuteGoes_41 : decode cX2_minuteGoes 41 = .ok (.iinc 2 1, 3) := dk_132 2 1 (dk_at dksX2_minuteGoes_1 19 rfl rfl)
theorem dX2_minuteGoes_44 : decode cX2_minuteGoes 44 = .ok (.goto (-30), 3) := dk_167 255 226 (dk_at dksX2_minuteGoes_2 0 rfl rfl)
theorem dX2_minuteGoes_47 : decode cX2_minuteGoes 47 = .ok (.iload_n 1, 1) := dk_27 (dk_at dksX2_minuteGoes_2 3 rfl rfl)
theorem dX2_minuteGoes_48 : decode cX2_minuteGoes 48 = .ok (.ireturn, 1) := dk_172 (dk_at dksX2_minuteGoes_2 4 rfl rfl)
abbrev cX2_goesOn : ByteArray := prog_10_method_29_code
def yX2_goesOn : MethodName := ⟨RX2, "goesOn", "(I)Z"⟩
def dkwX2_goesOn_2 : List UInt8 := [182, 1, 26, 154, 0, 5, 3, 172, 42, 27, 182, 1, 29, 4, 172]
abbrev dktX2_goesOn_2 : List UInt8 := dkwX2_goesOn_2 ++ []
def dkwX2_goesOn_1 : List UInt8 := [180, 0, 111, 4, 100, 184, 1, 23, 181, 0, 111, 44, 180, 0, 111, 157, 0, 14, 42, 44, 180, 0, 108]
abbrev dktX2_goesOn_1 : List UInt8 := dkwX2_goesOn_1 ++ dktX2_goesOn_2
def dkwX2_goesOn_0 : List UInt8 := [42, 180, 0, 32, 27, 182, 0, 60, 192, 0, 73, 77, 44, 182, 0, 101, 154, 0, 5, 3, 172, 44, 3, 44]
abbrev dktX2_goesOn_0 : List UInt8 := dkwX2_goesOn_0 ++ dktX2_goesOn_1
theorem dksX2_goesOn_0 : cX2_goesOn.data.toList.drop 0 = dktX2_goesOn_0 := by decide +kernel
theorem dksX2_goesOn_1 : cX2_goesOn.data.toList.drop 24 = dktX2_goesOn_1 := dk_seg dksX2_goesOn_0 24 rfl rfl
theorem dksX2_goesOn_2 : cX2_goesOn.data.toList.drop 47 = dktX2_goesOn_2 := dk_seg dksX2_goesOn_1 23 rfl rfl
theorem dX2_goesOn_0 : decode cX2_goesOn 0 = .ok (.aload_n 0, 1) := dk_42 (dk_at dksX2_goesOn_0 0 rfl rfl)
theorem dX2_goesOn_1 : decode cX2_goesOn 1 = .ok (.getfield 32, 3) := dk_180 0 32 (dk_at dksX2_goesOn_0 1 rfl rfl)
theorem dX2_goesOn_4 : decode cX2_goesOn 4 = .ok (.iload_n 1, 1) := dk_27 (dk_at dksX2_goesOn_0 4 rfl rfl)
theorem dX2_goesOn_5 : decode cX2_goesOn 5 = .ok (.invokevirtual 60, 3) := dk_182 0 60 (dk_at dksX2_goesOn_0 5 rfl rfl)
theorem dX2_goesOn_8 : decode cX2_goesOn 8 = .ok (.checkcast 73, 3) := dk_192 0 73 (dk_at dksX2_goesOn_0 8 rfl rfl)
theorem dX2_goesOn_11 : decode cX2_goesOn 11 = .ok (.astore_n 2, 1) := dk_77 (dk_at dksX2_goesOn_0 11 rfl rfl)
theorem dX2_goesOn_12 : decode cX2_goesOn 12 = .ok (.aload_n 2, 1) := dk_44 (dk_at dksX2_goesOn_0 12 rfl rfl)
theorem dX2_goesOn_13 : decode cX2_goesOn 13 = .ok (.invokevirtual 101, 3) := dk_182 0 101 (dk_at dksX2_goesOn_0 13 rfl rfl)
theorem dX2_goesOn_16 : decode cX2_goesOn 16 = .ok (.ifCond .ne 5, 3) := dk_154 0 5 (dk_at dksX2_goesOn_0 16 rfl rfl)
theorem dX2_goesOn_19 : decode cX2_goesOn 19 = .ok (.iconst 0, 1) := dk_3 (dk_at dksX2_goesOn_0 19 rfl rfl)
theorem dX2_goesOn_20 : decode cX2_goesOn 20 = .ok (.ireturn, 1) := dk_172 (dk_at dksX2_goesOn_0 20 rfl rfl)
theorem dX2_goesOn_21 : decode cX2_goesOn 21 = .ok (.aload_n 2, 1) := dk_44 (dk_at dksX2_goesOn_0 21 rfl rfl)
theorem dX2_goesOn_22 : decode cX2_goesOn 22 = .ok (.iconst 0, 1) := dk_3 (dk_at dksX2_goesOn_0 22 rfl rfl)
theorem dX2_goesOn_23 : decode cX2_goesOn 23 = .ok (.aload_n 2, 1) := dk_44 (dk_at dksX2_goesOn_0 23 rfl rfl)
theorem dX2_goesOn_24 : decode cX2_goesOn 24 = .ok (.getfield 111, 3) := dk_180 0 111 (dk_at dksX2_goesOn_1 0 rfl rfl)
theorem dX2_goesOn_27 : decode cX2_goesOn 27 = .ok (.iconst 1, 1) := dk_4 (dk_at dksX2_goesOn_1 3 rfl rfl)
theorem dX2_goesOn_28 : decode cX2_goesOn 28 = .ok (.isub, 1) := dk_100 (dk_at dksX2_goesOn_1 4 rfl rfl)
theorem dX2_goesOn_29 : decode cX2_goesOn 29 = .ok (.invokestatic 279, 3) := dk_184 1 23 (dk_at dksX2_goesOn_1 5 rfl rfl)
theorem dX2_goesOn_32 : decode cX2_goesOn 32 = .ok (.putfield 111, 3) := dk_181 0 111 (dk_at dksX2_goesOn_1 8 rfl rfl)
theorem dX2_goesOn_35 : decode cX2_goesOn 35 = .ok (.aload_n 2, 1) := dk_44 (dk_at dksX2_goesOn_1 11 rfl rfl)
theorem dX2_goesOn_36 : decode cX2_goesOn 36 = .ok (.getfield 111, 3) := dk_180 0 111 (dk_at dksX2_goesOn_1 12 rfl rfl)
theorem dX2_goesOn_39 : decode cX2_goesOn 39 = .ok (.ifCond .gt 14, 3) := dk_157 0 14 (dk_at dksX2_goesOn_1 15 rfl rfl)
theorem dX2_goesOn_42 : decode cX2_goesOn 42 = .ok (.aload_n 0, 1) := dk_42 (dk_at dksX2_goesOn_1 18 rfl rfl)
theorem dX2_goesOn_43 : decode cX2_goesOn 43 = .ok (.aload_n 2, 1) := dk_44 (dk_at dksX2_goesOn_1 19 rfl rfl)
theorem dX2_goesOn_44 : decode cX2_goesOn 44 = .ok (.getfield 108, 3) := dk_180 0 108 (dk_at dksX2_goesOn_1 20 rfl rfl)
theorem dX2_goesOn_47 : decode cX2_goesOn 47 = .ok (.invokevirtual 282, 3) := dk_182 1 26 (dk_at dksX2_goesOn_2 0 rfl rfl)
theorem dX2_goesOn_50 : decode cX2_goesOn 50 = .ok (.ifCond .ne 5, 3) := dk_154 0 5 (dk_at dksX2_goesOn_2 3 rfl rfl)
theorem dX2_goesOn_53 : decode cX2_goesOn 53 = .ok (.iconst 0, 1) := dk_3 (dk_at dksX2_goesOn_2 6 rfl rfl)
theorem dX2_goesOn_54 : decode cX2_goesOn 54 = .ok (.ireturn, 1) := dk_172 (dk_at dksX2_goesOn_2 7 rfl rfl)
theorem dX2_goesOn_55 : decode cX2_goesOn 55 = .ok (.aload_n 0, 1) := dk_42 (dk_at dksX2_goesOn_2 8 rfl rfl)
theorem dX2_goesOn_56 : decode cX2_goesOn 56 = .ok (.iload_n 1, 1) := dk_27 (dk_at dksX2_goesOn_2 9 rfl rfl)
theorem dX2_goesOn_57 : decode cX2_goesOn 57 = .ok (.invokevirtual 285, 3) := dk_182 1 29 (dk_at dksX2_goesOn_2 10 rfl rfl)
theorem dX2_goesOn_60 : decode cX2_goesOn 60 = .ok (.iconst 1, 1) := dk_4 (dk_at dksX2_goesOn_2 13 rfl rfl)
theorem dX2_goesOn_61 : decode cX2_goesOn 61 = .ok (.ireturn, 1) := dk_172 (dk_at dksX2_goesOn_2 14 rfl rfl)
abbrev cX2_comes : ByteArray := prog_10_method_28_code
def yX2_comes : MethodName := ⟨RX2, "comes", "(I)V"⟩
def dkwX2_comes_3 : List UInt8 := [182, 1, 20, 42, 89, 180, 0, 83, 4, 96, 181, 0, 83, 42, 21, 4, 4, 27, 182, 0, 186, 177]
abbrev dktX2_comes_3 : List UInt8 := dkwX2_comes_3 ++ []
def dkwX2_comes_2 : List UInt8 := [182, 1, 16, 44, 180, 0, 118, 198, 0, 12, 44, 180, 0, 118, 21, 4, 181, 0, 210, 44, 21, 4]
abbrev dktX2_comes_2 : List UInt8 := dkwX2_comes_2 ++ dktX2_comes_3
def dkwX2_comes_1 : List UInt8 := [180, 0, 125, 153, 0, 24, 42, 180, 0, 17, 29, 50, 21, 4, 29, 160, 0, 7, 4, 167, 0, 4, 3, 4]
abbrev dktX2_comes_1 : List UInt8 := dkwX2_comes_1 ++ dktX2_comes_2
def dkwX2_comes_0 : List UInt8 := [42, 180, 0, 32, 27, 182, 0, 60, 192, 0, 73, 77, 44, 180, 0, 105, 62, 44, 180, 0, 108, 54, 4, 44]
abbrev dktX2_comes_0 : List UInt8 := dkwX2_comes_0 ++ dktX2_comes_1
theorem dksX2_comes_0 : cX2_comes.data.toList.drop 0 = dktX2_comes_0 := by decide +kernel
theorem dksX2_comes_1 : cX2_comes.data.toList.drop 24 = dktX2_comes_1 := dk_seg dksX2_comes_0 24 rfl rfl
theorem dksX2_comes_2 : cX2_comes.data.toList.drop 48 = dktX2_comes_2 := dk_seg dksX2_comes_1 24 rfl rfl
theorem dksX2_comes_3 : cX2_comes.data.toList.drop 70 = dktX2_comes_3 := dk_seg dksX2_comes_2 22 rfl rfl
theorem dX2_comes_0 : decode cX2_comes 0 = .ok (.aload_n 0, 1) := dk_42 (dk_at dksX2_comes_0 0 rfl rfl)
theorem dX2_comes_1 : decode cX2_comes 1 = .ok (.getfield 32, 3) := dk_180 0 32 (dk_at dksX2_comes_0 1 rfl rfl)
theorem dX2_comes_4 : decode cX2_comes 4 = .ok (.iload_n 1, 1) := dk_27 (dk_at dksX2_comes_0 4 rfl rfl)
theorem dX2_comes_5 : decode cX2_comes 5 = .ok (.invokevirtual 60, 3) := dk_182 0 60 (dk_at dksX2_comes_0 5 rfl rfl)
theorem dX2_comes_8 : decode cX2_comes 8 = .ok (.checkcast 73, 3) := dk_192 0 73 (dk_at dksX2_comes_0 8 rfl rfl)
theorem dX2_comes_11 : decode cX2_comes 11 = .ok (.astore_n 2, 1) := dk_77 (dk_at dksX2_comes_0 11 rfl rfl)
theorem dX2_comes_12 : decode cX2_comes 12 = .ok (.aload_n 2, 1) := dk_44 (dk_at dksX2_comes_0 12 rfl rfl)
theorem dX2_comes_13 : decode cX2_comes 13 = .ok (.getfield 105, 3) := dk_180 0 105 (dk_at dksX2_comes_0 13 rfl rfl)
theorem dX2_comes_16 : decode cX2_comes 16 = .ok (.istore_n 3, 1) := dk_62 (dk_at dksX2_comes_0 16 rfl rfl)
theorem dX2_comes_17 : decode cX2_comes 17 = .ok (.aload_n 2, 1) := dk_44 (dk_at dksX2_comes_0 17 rfl rfl)
theorem dX2_comes_18 : decode cX2_comes 18 = .ok (.getfield 108, 3) := dk_180 0 108 (dk_at dksX2_comes_0 18 rfl rfl)
theorem dX2_comes_21 : decode cX2_comes 21 = .ok (.istore 4, 2) := dk_54 4 (dk_at dksX2_comes_0 21 rfl rfl)
theorem dX2_comes_23 : decode cX2_comes 23 = .ok (.aload_n 2, 1) := dk_44 (dk_at dksX2_comes_0 23 rfl rfl)
theorem dX2_comes_24 : decode cX2_comes 24 = .ok (.getfield 125, 3) := dk_180 0 125 (dk_at dksX2_comes_1 0 rfl rfl)
theorem dX2_comes_27 : decode cX2_comes 27 = .ok (.ifCond .eq 24, 3) := dk_153 0 24 (dk_at dksX2_comes_1 3 rfl rfl)
theorem dX2_comes_30 : decode cX2_comes 30 = .ok (.aload_n 0, 1) := dk_42 (dk_at dksX2_comes_1 6 rfl rfl)
theorem dX2_comes_31 : decode cX2_comes 31 = .ok (.getfield 17, 3) := dk_180 0 17 (dk_at dksX2_comes_1 7 rfl rfl)
theorem dX2_comes_34 : decode cX2_comes 34 = .ok (.iload_n 3, 1) := dk_29 (dk_at dksX2_comes_1 10 rfl rfl)
theorem dX2_comes_35 : decode cX2_comes 35 = .ok (.aaload, 1) := dk_50 (dk_at dksX2_comes_1 11 rfl rfl)
theorem dX2_comes_36 : decode cX2_comes 36 = .ok (.iload 4, 2) := dk_21 4 (dk_at dksX2_comes_1 12 rfl rfl)
theorem dX2_comes_38 : decode cX2_comes 38 = .ok (.iload_n 3, 1) := dk_29 (dk_at dksX2_comes_1 14 rfl rfl)
theorem dX2_comes_39 : decode cX2_comes 39 = .ok (.if_icmp .ne 7, 3) := dk_160 0 7 (dk_at dksX2_comes_1 15 rfl rfl)
theorem dX2_comes_42 : decode cX2_comes 42 = .ok (.iconst 1, 1) := dk_4 (dk_at dksX2_comes_1 18 rfl rfl)
theorem dX2_comes_43 : decode cX2_comes 43 = .ok (.goto 4, 3) := dk_167 0 4 (dk_at dksX2_comes_1 19 rfl rfl)
theorem dX2_comes_46 : decode cX2_comes 46 = .ok (.iconst 0, 1) := dk_3 (dk_at dksX2_comes_1 22 rfl rfl)
theorem dX2_comes_47 : decode cX2_comes 47 = .ok (.iconst 1, 1) := dk_4 (dk_at dksX2_comes_1 23 rfl rfl)
theorem dX2_comes_48 : decode cX2_comes 48 = .ok (.invokevirtual 272, 3) := dk_182 1 16 (dk_at dksX2_comes_2 0 rfl rfl)
theorem dX2_comes_51 : decode cX2_comes 51 = .ok (.aload_n 2, 1) := dk_44 (dk_at dksX2_comes_2 3 rfl rfl)
theorem dX2_comes_52 : decode cX2_comes 52 = .ok (.getfield 118, 3) := dk_180 0 118 (dk_at dksX2_comes_2 4 rfl rfl)
theorem dX2_comes_55 : decode cX2_comes 55 = .ok (.ifnull 12, 3) := dk_198 0 12 (dk_at dksX2_comes_2 7 rfl rfl)
theorem dX2_comes_58 : decode cX2_comes 58 = .ok (.aload_n 2, 1) := dk_44 (dk_at dksX2_comes_2 10 rfl rfl)
theorem dX2_comes_59 : decode cX2_comes 59 = .ok (.getfield 118, 3) := dk_180 0 118 (dk_at dksX2_comes_2 11 rfl rfl)
theorem dX2_comes_62 : decode cX2_comes 62 = .ok (.iload 4, 2) := dk_21 4 (dk_at dksX2_comes_2 14 rfl rfl)
theorem dX2_comes_64 : decode cX2_comes 64 = .ok (.putfield 210, 3) := dk_181 0 210 (dk_at dksX2_comes_2 16 rfl rfl)
theorem dX2_comes_67 : decode cX2_comes 67 = .ok (.aload_n 2, 1) := dk_44 (dk_at dksX2_comes_2 19 rfl rfl)
theorem dX2_comes_68 : decode cX2_comes 68 = .ok (.iload 4, 2) := dk_21 4 (dk_at dksX2_comes_2 20 rfl rfl)
theorem dX2_comes_70 : decode cX2_comes 70 = .ok (.invokevirtual 276, 3) := dk_182 1 20 (dk_at dksX2_comes_3 0 rfl rfl)
theorem dX2_comes_73 : decode cX2_comes 73 = .ok (.aload_n 0, 1) := dk_42 (dk_at dksX2_comes_3 3 rfl rfl)
theorem dX2_comes_74 : decode cX2_comes 74 = .ok (.dup, 1) := dk_89 (dk_at dksX2_comes_3 4 rfl rfl)
theorem dX2_comes_75 : decode cX2_comes 75 = .ok (.getfield 83, 3) := dk_180 0 83 (dk_at dksX2_comes_3 5 rfl rfl)
theorem dX2_comes_78 : decode cX2_comes 78 = .ok (.iconst 1, 1) := dk_4 (dk_at dksX2_comes_3 8 rfl rfl)
theorem dX2_comes_79 : decode cX2_comes 79 = .ok (.iadd, 1) := dk_96 (dk_at dksX2_comes_3 9 rfl rfl)
theorem dX2_comes_80 : decode cX2_comes 80 = .ok (.putfield 83, 3) := dk_181 0 83 (dk_at dksX2_comes_3 10 rfl rfl)
theorem dX2_comes_83 : decode cX2_comes 83 = .ok (.aload_n 0, 1) := dk_42 (dk_at dksX2_comes_3 13 rfl rfl)
theorem dX2_comes_84 : decode cX2_comes 84 = .ok (.iload 4, 2) := dk_21 4 (dk_at dksX2_comes_3 14 rfl rfl)
theorem dX2_comes_86 : decode cX2_comes 86 = .ok (.iconst 1, 1) := dk_4 (dk_at dksX2_comes_3 16 rfl rfl)
theorem dX2_comes_87 : decode cX2_comes 87 = .ok (.iload_n 1, 1) := dk_27 (dk_at dksX2_comes_3 17 rfl rfl)
theorem dX2_comes_88 : decode cX2_comes 88 = .ok (.invokevirtual 186, 3) := dk_182 0 186 (dk_at dksX2_comes_3 18 rfl rfl)
theorem dX2_comes_91 : decode cX2_comes 91 = .ok (.return_, 1) := dk_177 (dk_at dksX2_comes_3 21 rfl rfl)
abbrev cX2_loses : ByteArray := prog_10_method_32_code
def yX2_loses : MethodName := ⟨RX2, "loses", "(I)I"⟩
def dkwX2_loses_5 : List UInt8 := [181, 0, 89, 42, 44, 180, 0, 105, 5, 44, 180, 0, 105, 182, 1, 38, 44, 180, 0, 105, 172]
abbrev dktX2_loses_5 : List UInt8 := dkwX2_loses_5 ++ []
def dkwX2_loses_4 : List UInt8 := [181, 0, 125, 42, 180, 0, 17, 44, 180, 0, 105, 50, 4, 181, 0, 211, 42, 89, 180, 0, 89, 4, 96]
abbrev dktX2_loses_4 : List UInt8 := dkwX2_loses_4 ++ dktX2_loses_5
def dkwX2_loses_3 : List UInt8 := [44, 180, 0, 125, 154, 0, 7, 4, 167, 0, 4, 3, 16, 10, 44, 180, 0, 105, 184, 0, 192, 44, 3]
abbrev dktX2_loses_3 : List UInt8 := dkwX2_loses_3 ++ dktX2_loses_4
def dkwX2_loses_2 : List UInt8 := [3, 16, 15, 44, 180, 0, 118, 199, 0, 7, 2, 167, 0, 10, 44, 180, 0, 118, 180, 0, 122, 184, 0, 192]
abbrev dktX2_loses_2 : List UInt8 := dkwX2_loses_2 ++ dktX2_loses_3
def dkwX2_loses_1 : List UInt8 := [4, 167, 0, 4, 3, 7, 44, 180, 0, 92, 184, 0, 192, 44, 180, 0, 118, 198, 0, 7, 4, 167, 0, 4]
abbrev dktX2_loses_1 : List UInt8 := dkwX2_loses_1 ++ dktX2_loses_2
def dkwX2_loses_0 : List UInt8 := [42, 27, 182, 0, 249, 42, 180, 0, 32, 27, 182, 0, 60, 192, 0, 73, 77, 44, 182, 0, 101, 154, 0, 7]
abbrev dktX2_loses_0 : List UInt8 := dkwX2_loses_0 ++ dktX2_loses_1
theorem dksX2_loses_0 : cX2_loses.data.toList.drop 0 = dktX2_loses_0 := by decide +kernel
theorem dksX2_loses_1 : cX2_loses.data.toList.drop 24 = dktX2_loses_1 := dk_seg dksX2_loses_0 24 rfl rfl
theorem dksX2_loses_2 : cX2_loses.data.toList.drop 48 = dktX2_loses_2 := dk_seg dksX2_loses_1 24 rfl rfl
theorem dksX2_loses_3 : cX2_loses.data.toList.drop 72 = dktX2_loses_3 := dk_seg dksX2_loses_2 24 rfl rfl
theorem dksX2_loses_4 : cX2_loses.data.toList.drop 95 = dktX2_loses_4 := dk_seg dksX2_loses_3 23 rfl rfl
theorem dksX2_loses_5 : cX2_loses.data.toList.drop 118 = dktX2_loses_5 := dk_seg dksX2_loses_4 23 rfl rfl
theorem dX2_loses_0 : decode cX2_loses 0 = .ok (.aload_n 0, 1) := dk_42 (dk_at dksX2_loses_0 0 rfl rfl)
theorem dX2_loses_1 : decode cX2_loses 1 = .ok (.iload_n 1, 1) := dk_27 (dk_at dksX2_loses_0 1 rfl rfl)
theorem dX2_loses_2 : decode cX2_loses 2 = .ok (.invokevirtual 249, 3) := dk_182 0 249 (dk_at dksX2_loses_0 2 rfl rfl)
theorem dX2_loses_5 : decode cX2_loses 5 = .ok (.aload_n 0, 1) := dk_42 (dk_at dksX2_loses_0 5 rfl rfl)
theorem dX2_loses_6 : decode cX2_loses 6 = .ok (.getfield 32, 3) := dk_180 0 32 (dk_at dksX2_loses_0 6 rfl rfl)
theorem dX2_loses_9 : decode cX2_loses 9 = .ok (.iload_n 1, 1) := dk_27 (dk_at dksX2_loses_0 9 rfl rfl)
theorem dX2_loses_10 : decode cX2_loses 10 = .ok (.invokevirtual 60, 3) := dk_182 0 60 (dk_at dksX2_loses_0 10 rfl rfl)
theorem dX2_loses_13 : decode cX2_loses 13 = .ok (.checkcast 73, 3) := dk_192 0 73 (dk_at dksX2_loses_0 13 rfl rfl)
theorem dX2_loses_16 : decode cX2_loses 16 = .ok (.astore_n 2, 1) := dk_77 (dk_at dksX2_loses_0 16 rfl rfl)
theorem dX2_loses_17 : decode cX2_loses 17 = .ok (.aload_n 2, 1) := dk_44 (dk_at dksX2_loses_0 17 rfl rfl)
theorem dX2_loses_18 : decode cX2_loses 18 = .ok (.invokevirtual 101, 3) := dk_182 0 101 (dk_at dksX2_loses_0 18 rfl rfl)
theorem dX2_loses_21 : decode cX2_loses 21 = .ok (.ifCond .ne 7, 3) := dk_154 0 7 (dk_at dksX2_loses_0 21 rfl rfl)
theorem dX2_loses_24 : decode cX2_loses 24 = .ok (.iconst 1, 1) := dk_4 (dk_at dksX2_loses_1 0 rfl rfl)
theorem dX2_loses_25 : decode cX2_loses 25 = .ok (.goto 4, 3) := dk_167 0 4 (dk_at dksX2_loses_1 1 rfl rfl)
theorem dX2_loses_28 : decode cX2_loses 28 = .ok (.iconst 0, 1) := dk_3 (dk_at dksX2_loses_1 4 rfl rfl)
theorem dX2_loses_29 : decode cX2_loses 29 = .ok (.iconst 4, 1) := dk_7 (dk_at dksX2_loses_1 5 rfl rfl)
theorem dX2_loses_30 : decode cX2_loses 30 = .ok (.aload_n 2, 1) := dk_44 (dk_at dksX2_loses_1 6 rfl rfl)
theorem dX2_loses_31 : decode cX2_loses 31 = .ok (.getfield 92, 3) := dk_180 0 92 (dk_at dksX2_loses_1 7 rfl rfl)
theorem dX2_loses_34 : decode cX2_loses 34 = .ok (.invokestatic 192, 3) := dk_184 0 192 (dk_at dksX2_loses_1 10 rfl rfl)
theorem dX2_loses_37 : decode cX2_loses 37 = .ok (.aload_n 2, 1) := dk_44 (dk_at dksX2_loses_1 13 rfl rfl)
theorem dX2_loses_38 : decode cX2_loses 38 = .ok (.getfield 118, 3) := dk_180 0 118 (dk_at dksX2_loses_1 14 rfl rfl)
theorem dX2_loses_41 : decode cX2_loses 41 = .ok (.ifnull 7, 3) := dk_198 0 7 (dk_at dksX2_loses_1 17 rfl rfl)
theorem dX2_loses_44 : decode cX2_loses 44 = .ok (.iconst 1, 1) := dk_4 (dk_at dksX2_loses_1 20 rfl rfl)
theorem dX2_loses_45 : decode cX2_loses 45 = .ok (.goto 4, 3) := dk_167 0 4 (dk_at dksX2_loses_1 21 rfl rfl)
theorem dX2_loses_48 : decode cX2_loses 48 = .ok (.iconst 0, 1) := dk_3 (dk_at dksX2_loses_2 0 rfl rfl)
theorem dX2_loses_49 : decode cX2_loses 49 = .ok (.bipush 15, 2) := dk_16 15 (dk_at dksX2_loses_2 1 rfl rfl)
theorem dX2_loses_51 : decode cX2_loses 51 = .ok (.aload_n 2, 1) := dk_44 (dk_at dksX2_loses_2 3 rfl rfl)
theorem dX2_loses_52 : decode cX2_loses 52 = .ok (.getfield 118, 3) := dk_180 0 118 (dk_at dksX2_loses_2 4 rfl rfl)
theorem dX2_loses_55 : decode cX2_loses 55 = .ok (.ifnonnull 7, 3) := dk_199 0 7 (dk_at dksX2_loses_2 7 rfl rfl)
theorem dX2_loses_58 : decode cX2_loses 58 = .ok (.iconst (-1), 1) := dk_2 (dk_at dksX2_loses_2 10 rfl rfl)
theorem dX2_loses_59 : decode cX2_loses 59 = .ok (.goto 10, 3) := dk_167 0 10 (dk_at dksX2_loses_2 11 rfl rfl)
theorem dX2_loses_62 : decode cX2_loses 62 = .ok (.aload_n 2, 1) := dk_44 (dk_at dksX2_loses_2 14 rfl rfl)
theorem dX2_loses_63 : decode cX2_loses 63 = .ok (.getfield 118, 3) := dk_180 0 118 (dk_at dksX2_loses_2 15 rfl rfl)
theorem dX2_loses_66 : decode cX2_loses 66 = .ok (.getfield 122, 3) := dk_180 0 122 (dk_at dksX2_loses_2 18 rfl rfl)
theorem dX2_loses_69 : decode cX2_loses 69 = .ok (.invokestatic 192, 3) := dk_184 0 192 (dk_at dksX2_loses_2 21 rfl rfl)
theorem dX2_loses_72 : decode cX2_loses 72 = .ok (.aload_n 2, 1) := dk_44 (dk_at dksX2_loses_3 0 rfl rfl)
theorem dX2_loses_73 : decode cX2_loses 73 = .ok (.getfield 125, 3) := dk_180 0 125 (dk_at dksX2_loses_3 1 rfl rfl)
theorem dX2_loses_76 : decode cX2_loses 76 = .ok (.ifCond .ne 7, 3) := dk_154 0 7 (dk_at dksX2_loses_3 4 rfl rfl)
theorem dX2_loses_79 : decode cX2_loses 79 = .ok (.iconst 1, 1) := dk_4 (dk_at dksX2_loses_3 7 rfl rfl)
theorem dX2_loses_80 : decode cX2_loses 80 = .ok (.goto 4, 3) := dk_167 0 4 (dk_at dksX2_loses_3 8 rfl rfl)
theorem dX2_loses_83 : decode cX2_loses 83 = .ok (.iconst 0, 1) := dk_3 (dk_at dksX2_loses_3 11 rfl rfl)
theorem dX2_loses_84 : decode cX2_loses 84 = .ok (.bipush 10, 2) := dk_16 10 (dk_at dksX2_loses_3 12 rfl rfl)
theorem dX2_loses_86 : decode cX2_loses 86 = .ok (.aload_n 2, 1) := dk_44 (dk_at dksX2_loses_3 14 rfl rfl)
theorem dX2_loses_87 : decode cX2_loses 87 = .ok (.getfield 105, 3) := dk_180 0 105 (dk_at dksX2_loses_3 15 rfl rfl)
theorem dX2_loses_90 : decode cX2_loses 90 = .ok (.invokestatic 192, 3) := dk_184 0 192 (dk_at dksX2_loses_3 18 rfl rfl)
theorem dX2_loses_93 : decode cX2_loses 93 = .ok (.aload_n 2, 1) := dk_44 (dk_at dksX2_loses_3 21 rfl rfl)
theorem dX2_loses_94 : decode cX2_loses 94 = .ok (.iconst 0, 1) := dk_3 (dk_at dksX2_loses_3 22 rfl rfl)
theorem dX2_loses_95 : decode cX2_loses 95 = .ok (.putfield 125, 3) := dk_181 0 125 (dk_at dksX2_loses_4 0 rfl rfl)
theorem dX2_loses_98 : decode cX2_loses 98 = .ok (.aload_n 0, 1) := dk_42 (dk_at dksX2_loses_4 3 rfl rfl)
theorem dX2_loses_99 : decode cX2_loses 99 = .ok (.getfield 17, 3) := dk_180 0 17 (dk_at dksX2_loses_4 4 rfl rfl)
theorem dX2_loses_102 : decode cX2_loses 102 = .ok (.aload_n 2, 1) := dk_44 (dk_at dksX2_loses_4 7 rfl rfl)
theorem dX2_loses_103 : decode cX2_loses 103 = .ok (.getfield 105, 3) := dk_180 0 105 (dk_at dksX2_loses_4 8 rfl rfl)
theorem dX2_loses_106 : decode cX2_loses 106 = .ok (.aaload, 1) := dk_50 (dk_at dksX2_loses_4 11 rfl rfl)
theorem dX2_loses_107 : decode cX2_loses 107 = .ok (.iconst 1, 1) := dk_4 (dk_at dksX2_loses_4 12 rfl rfl)
theorem dX2_loses_108 : decode cX2_loses 108 = .ok (.putfield 211, 3) := dk_181 0 211 (dk_at dksX2_loses_4 13 rfl rfl)
theorem dX2_loses_111 : decode cX2_loses 111 = .ok (.aload_n 0, 1) := dk_42 (dk_at dksX2_loses_4 16 rfl rfl)
theorem dX2_loses_112 : decode cX2_loses 112 = .ok (.dup, 1) := dk_89 (dk_at dksX2_loses_4 17 rfl rfl)
theorem dX2_loses_113 : decode cX2_loses 113 = .ok (.getfield 89, 3) := dk_180 0 89 (dk_at dksX2_loses_4 18 rfl rfl)
theorem dX2_loses_116 : decode cX2_loses 116 = .ok (.iconst 1, 1) := dk_4 (dk_at dksX2_loses_4 21 rfl rfl)
theorem dX2_loses_117 : decode cX2_loses 117 = .ok (.iadd, 1) := dk_96 (dk_at dksX2_loses_4 22 rfl rfl)
theorem dX2_loses_118 : decode cX2_loses 118 = .ok (.putfield 89, 3) := dk_181 0 89 (dk_at dksX2_loses_5 0 rfl rfl)
theorem dX2_loses_121 : decode cX2_loses 121 = .ok (.aload_n 0, 1) := dk_42 (dk_at dksX2_loses_5 3 rfl rfl)
theorem dX2_loses_122 : decode cX2_loses 122 = .ok (.aload_n 2, 1) := dk_44 (dk_at dksX2_loses_5 4 rfl rfl)
theorem dX2_loses_123 : decode cX2_loses 123 = .ok (.getfield 105, 3) := dk_180 0 105 (dk_at dksX2_loses_5 5 rfl rfl)
theorem dX2_loses_126 : decode cX2_loses 126 = .ok (.iconst 2, 1) := dk_5 (dk_at dksX2_loses_5 8 rfl rfl)
theorem dX2_loses_127 : decode cX2_loses 127 = .ok (.aload_n 2, 1) := dk_44 (dk_at dksX2_loses_5 9 rfl rfl)
theorem dX2_loses_128 : decode cX2_loses 128 = .ok (.getfield 105, 3) := dk_180 0 105 (dk_at dksX2_loses_5 10 rfl rfl)
theorem dX2_loses_131 : decode cX2_loses 131 = .ok (.invokevirtual 294, 3) := dk_182 1 38 (dk_at dksX2_loses_5 13 rfl rfl)
theorem dX2_loses_134 : decode cX2_loses 134 = .ok (.aload_n 2, 1) := dk_44 (dk_at dksX2_loses_5 16 rfl rfl)
theorem dX2_loses_135 : decode cX2_loses 135 = .ok (.getfield 105, 3) := dk_180 0 105 (dk_at dksX2_loses_5 17 rfl rfl)
theorem dX2_loses_138 : decode cX2_loses 138 = .ok (.ireturn, 1) := dk_172 (dk_at dksX2_loses_5 20 rfl rfl)
abbrev cX2_writesBoth : ByteArray := prog_10_method_15_code
def yX2_writesBoth : MethodName := ⟨RX2, "writesBoth", "(III)V"⟩
def dkwX2_writesBoth_0 : List UInt8 := [42, 27, 28, 29, 182, 0, 186, 42, 27, 4, 96, 28, 29, 182, 0, 186, 177]
abbrev dktX2_writesBoth_0 : List UInt8 := dkwX2_writesBoth_0 ++ []
theorem dksX2_writesBoth_0 : cX2_writesBoth.data.toList.drop 0 = dktX2_writesBoth_0 := by decide +kernel
theorem dX2_writesBoth_0 : decode cX2_writesBoth 0 = .ok (.aload_n 0, 1) := dk_42 (dk_at dksX2_writesBoth_0 0 rfl rfl)
theorem dX2_writesBoth_1 : decode cX2_writesBoth 1 = .ok (.iload_n 1, 1) := dk_27 (dk_at dksX2_writesBoth_0 1 rfl rfl)
theorem dX2_writesBoth_2 : decode cX2_writesBoth 2 = .ok (.iload_n 2, 1) := dk_28 (dk_at dksX2_writesBoth_0 2 rfl rfl)
theorem dX2_writesBoth_3 : decode cX2_writesBoth 3 = .ok (.iload_n 3, 1) := dk_29 (dk_at dksX2_writesBoth_0 3 rfl rfl)
theorem dX2_writesBoth_4 : decode cX2_writesBoth 4 = .ok (.invokevirtual 186, 3) := dk_182 0 186 (dk_at dksX2_writesBoth_0 4 rfl rfl)
theorem dX2_writesBoth_7 : decode cX2_writesBoth 7 = .ok (.aload_n 0, 1) := dk_42 (dk_at dksX2_writesBoth_0 7 rfl rfl)
theorem dX2_writesBoth_8 : decode cX2_writesBoth 8 = .ok (.iload_n 1, 1) := dk_27 (dk_at dksX2_writesBoth_0 8 rfl rfl)
theorem dX2_writesBoth_9 : decode cX2_writesBoth 9 = .ok (.iconst 1, 1) := dk_4 (dk_at dksX2_writesBoth_0 9 rfl rfl)
theorem dX2_writesBoth_10 : decode cX2_writesBoth 10 = .ok (.iadd, 1) := dk_96 (dk_at dksX2_writesBoth_0 10 rfl rfl)
theorem dX2_writesBoth_11 : decode cX2_writesBoth 11 = .ok (.iload_n 2, 1) := dk_28 (dk_at dksX2_writesBoth_0 11 rfl rfl)
theorem dX2_writesBoth_12 : decode cX2_writesBoth 12 = .ok (.iload_n 3, 1) := dk_29 (dk_at dksX2_writesBoth_0 12 rfl rfl)
theorem dX2_writesBoth_13 : decode cX2_writesBoth 13 = .ok (.invokevirtual 186, 3) := dk_182 0 186 (dk_at dksX2_writesBoth_0 13 rfl rfl)
theorem dX2_writesBoth_16 : decode cX2_writesBoth 16 = .ok (.return_, 1) := dk_177 (dk_at dksX2_writesBoth_0 16 rfl rfl)
abbrev cX2_finds : ByteArray := prog_10_method_34_code
def yX2_finds : MethodName := ⟨RX2, "finds", "(II)I"⟩
def dkwX2_finds_5 : List UInt8 := [3, 182, 0, 217, 172]
abbrev dktX2_finds_5 : List UInt8 := dkwX2_finds_5 ++ []
def dkwX2_finds_4 : List UInt8 := [181, 1, 54, 42, 27, 8, 25, 4, 180, 0, 122, 182, 1, 38, 45, 28, 27, 160, 0, 7, 4, 167, 0, 4]
abbrev dktX2_finds_4 : List UInt8 := dkwX2_finds_4 ++ dktX2_finds_5
def dkwX2_finds_3 : List UInt8 := [167, 0, 4, 3, 4, 182, 1, 16, 42, 27, 6, 27, 182, 1, 38, 25, 4, 198, 0, 20, 25, 4, 2]
abbrev dktX2_finds_3 : List UInt8 := dkwX2_finds_3 ++ dktX2_finds_4
def dkwX2_finds_2 : List UInt8 := [183, 1, 53, 191, 42, 27, 182, 0, 199, 58, 4, 45, 3, 181, 0, 211, 45, 28, 27, 160, 0, 7, 4]
abbrev dktX2_finds_2 : List UInt8 := dkwX2_finds_2 ++ dktX2_finds_3
def dkwX2_finds_1 : List UInt8 := [3, 16, 11, 27, 184, 0, 192, 42, 27, 182, 0, 233, 27, 28, 184, 1, 47, 154, 0, 11, 187, 1, 51, 89]
abbrev dktX2_finds_1 : List UInt8 := dkwX2_finds_1 ++ dktX2_finds_2
def dkwX2_finds_0 : List UInt8 := [42, 27, 28, 182, 1, 44, 42, 180, 0, 17, 27, 50, 78, 45, 180, 0, 211, 154, 0, 7, 4, 167, 0, 4]
abbrev dktX2_finds_0 : List UInt8 := dkwX2_finds_0 ++ dktX2_finds_1
theorem dksX2_finds_0 : cX2_finds.data.toList.drop 0 = dktX2_finds_0 := by decide +kernel
theorem dksX2_finds_1 : cX2_finds.data.toList.drop 24 = dktX2_finds_1 := dk_seg dksX2_finds_0 24 rfl rfl
theorem dksX2_finds_2 : cX2_finds.data.toList.drop 48 = dktX2_finds_2 := dk_seg dksX2_finds_1 24 rfl rfl
theorem dksX2_finds_3 : cX2_finds.data.toList.drop 71 = dktX2_finds_3 := dk_seg dksX2_finds_2 23 rfl rfl
theorem dksX2_finds_4 : cX2_finds.data.toList.drop 94 = dktX2_finds_4 := dk_seg dksX2_finds_3 23 rfl rfl
theorem dksX2_finds_5 : cX2_finds.data.toList.drop 118 = dktX2_finds_5 := dk_seg dksX2_finds_4 24 rfl rfl
theorem dX2_finds_0 : decode cX2_finds 0 = .ok (.aload_n 0, 1) := dk_42 (dk_at dksX2_finds_0 0 rfl rfl)
theorem dX2_finds_1 : decode cX2_finds 1 = .ok (.iload_n 1, 1) := dk_27 (dk_at dksX2_finds_0 1 rfl rfl)
theorem dX2_finds_2 : decode cX2_finds 2 = .ok (.iload_n 2, 1) := dk_28 (dk_at dksX2_finds_0 2 rfl rfl)
theorem dX2_finds_3 : decode cX2_finds 3 = .ok (.invokevirtual 300, 3) := dk_182 1 44 (dk_at dksX2_finds_0 3 rfl rfl)
theorem dX2_finds_6 : decode cX2_finds 6 = .ok (.aload_n 0, 1) := dk_42 (dk_at dksX2_finds_0 6 rfl rfl)
theorem dX2_finds_7 : decode cX2_finds 7 = .ok (.getfield 17, 3) := dk_180 0 17 (dk_at dksX2_finds_0 7 rfl rfl)
theorem dX2_finds_10 : decode cX2_finds 10 = .ok (.iload_n 1, 1) := dk_27 (dk_at dksX2_finds_0 10 rfl rfl)
theorem dX2_finds_11 : decode cX2_finds 11 = .ok (.aaload, 1) := dk_50 (dk_at dksX2_finds_0 11 rfl rfl)
theorem dX2_finds_12 : decode cX2_finds 12 = .ok (.astore_n 3, 1) := dk_78 (dk_at dksX2_finds_0 12 rfl rfl)
theorem dX2_finds_13 : decode cX2_finds 13 = .ok (.aload_n 3, 1) := dk_45 (dk_at dksX2_finds_0 13 rfl rfl)
theorem dX2_finds_14 : decode cX2_finds 14 = .ok (.getfield 211, 3) := dk_180 0 211 (dk_at dksX2_finds_0 14 rfl rfl)
theorem dX2_finds_17 : decode cX2_finds 17 = .ok (.ifCond .ne 7, 3) := dk_154 0 7 (dk_at dksX2_finds_0 17 rfl rfl)
theorem dX2_finds_20 : decode cX2_finds 20 = .ok (.iconst 1, 1) := dk_4 (dk_at dksX2_finds_0 20 rfl rfl)
theorem dX2_finds_21 : decode cX2_finds 21 = .ok (.goto 4, 3) := dk_167 0 4 (dk_at dksX2_finds_0 21 rfl rfl)
theorem dX2_finds_24 : decode cX2_finds 24 = .ok (.iconst 0, 1) := dk_3 (dk_at dksX2_finds_1 0 rfl rfl)
theorem dX2_finds_25 : decode cX2_finds 25 = .ok (.bipush 11, 2) := dk_16 11 (dk_at dksX2_finds_1 1 rfl rfl)
theorem dX2_finds_27 : decode cX2_finds 27 = .ok (.iload_n 1, 1) := dk_27 (dk_at dksX2_finds_1 3 rfl rfl)
theorem dX2_finds_28 : decode cX2_finds 28 = .ok (.invokestatic 192, 3) := dk_184 0 192 (dk_at dksX2_finds_1 4 rfl rfl)
theorem dX2_finds_31 : decode cX2_finds 31 = .ok (.aload_n 0, 1) := dk_42 (dk_at dksX2_finds_1 7 rfl rfl)
theorem dX2_finds_32 : decode cX2_finds 32 = .ok (.iload_n 1, 1) := dk_27 (dk_at dksX2_finds_1 8 rfl rfl)
theorem dX2_finds_33 : decode cX2_finds 33 = .ok (.invokevirtual 233, 3) := dk_182 0 233 (dk_at dksX2_finds_1 9 rfl rfl)
theorem dX2_finds_36 : decode cX2_finds 36 = .ok (.iload_n 1, 1) := dk_27 (dk_at dksX2_finds_1 12 rfl rfl)
theorem dX2_finds_37 : decode cX2_finds 37 = .ok (.iload_n 2, 1) := dk_28 (dk_at dksX2_finds_1 13 rfl rfl)
theorem dX2_finds_38 : decode cX2_finds 38 = .ok (.invokestatic 303, 3) := dk_184 1 47 (dk_at dksX2_finds_1 14 rfl rfl)
theorem dX2_finds_41 : decode cX2_finds 41 = .ok (.ifCond .ne 11, 3) := dk_154 0 11 (dk_at dksX2_finds_1 17 rfl rfl)
theorem dX2_finds_44 : decode cX2_finds 44 = .ok (.new 307, 3) := dk_187 1 51 (dk_at dksX2_finds_1 20 rfl rfl)
theorem dX2_finds_47 : decode cX2_finds 47 = .ok (.dup, 1) := dk_89 (dk_at dksX2_finds_1 23 rfl rfl)
theorem dX2_finds_48 : decode cX2_finds 48 = .ok (.invokespecial 309, 3) := dk_183 1 53 (dk_at dksX2_finds_2 0 rfl rfl)
theorem dX2_finds_51 : decode cX2_finds 51 = .ok (.athrow, 1) := dk_191 (dk_at dksX2_finds_2 3 rfl rfl)
theorem dX2_finds_52 : decode cX2_finds 52 = .ok (.aload_n 0, 1) := dk_42 (dk_at dksX2_finds_2 4 rfl rfl)
theorem dX2_finds_53 : decode cX2_finds 53 = .ok (.iload_n 1, 1) := dk_27 (dk_at dksX2_finds_2 5 rfl rfl)
theorem dX2_finds_54 : decode cX2_finds 54 = .ok (.invokevirtual 199, 3) := dk_182 0 199 (dk_at dksX2_finds_2 6 rfl rfl)
theorem dX2_finds_57 : decode cX2_finds 57 = .ok (.astore 4, 2) := dk_58 4 (dk_at dksX2_finds_2 9 rfl rfl)
theorem dX2_finds_59 : decode cX2_finds 59 = .ok (.aload_n 3, 1) := dk_45 (dk_at dksX2_finds_2 11 rfl rfl)
theorem dX2_finds_60 : decode cX2_finds 60 = .ok (.iconst 0, 1) := dk_3 (dk_at dksX2_finds_2 12 rfl rfl)
theorem dX2_finds_61 : decode cX2_finds 61 = .ok (.putfield 211, 3) := dk_181 0 211 (dk_at dksX2_finds_2 13 rfl rfl)
theorem dX2_finds_64 : decode cX2_finds 64 = .ok (.aload_n 3, 1) := dk_45 (dk_at dksX2_finds_2 16 rfl rfl)
theorem dX2_finds_65 : decode cX2_finds 65 = .ok (.iload_n 2, 1) := dk_28 (dk_at dksX2_finds_2 17 rfl rfl)
theorem dX2_finds_66 : decode cX2_finds 66 = .ok (.iload_n 1, 1) := dk_27 (dk_at dksX2_finds_2 18 rfl rfl)
theorem dX2_finds_67 : decode cX2_finds 67 = .ok (.if_icmp .ne 7, 3) := dk_160 0 7 (dk_at dksX2_finds_2 19 rfl rfl)
theorem dX2_finds_70 : decode cX2_finds 70 = .ok (.iconst 1, 1) := dk_4 (dk_at dksX2_finds_2 22 rfl rfl)
theorem dX2_finds_71 : decode cX2_finds 71 = .ok (.goto 4, 3) := dk_167 0 4 (dk_at dksX2_finds_3 0 rfl rfl)
theorem dX2_finds_74 : decode cX2_finds 74 = .ok (.iconst 0, 1) := dk_3 (dk_at dksX2_finds_3 3 rfl rfl)
theorem dX2_finds_75 : decode cX2_finds 75 = .ok (.iconst 1, 1) := dk_4 (dk_at dksX2_finds_3 4 rfl rfl)
theorem dX2_finds_76 : decode cX2_finds 76 = .ok (.invokevirtual 272, 3) := dk_182 1 16 (dk_at dksX2_finds_3 5 rfl rfl)
theorem dX2_finds_79 : decode cX2_finds 79 = .ok (.aload_n 0, 1) := dk_42 (dk_at dksX2_finds_3 8 rfl rfl)
theorem dX2_finds_80 : decode cX2_finds 80 = .ok (.iload_n 1, 1) := dk_27 (dk_at dksX2_finds_3 9 rfl rfl)
theorem dX2_finds_81 : decode cX2_finds 81 = .ok (.iconst 3, 1) := dk_6 (dk_at dksX2_finds_3 10 rfl rfl)
theorem dX2_finds_82 : decode cX2_finds 82 = .ok (.iload_n 1, 1) := dk_27 (dk_at dksX2_finds_3 11 rfl rfl)
theorem dX2_finds_83 : decode cX2_finds 83 = .ok (.invokevirtual 294, 3) := dk_182 1 38 (dk_at dksX2_finds_3 12 rfl rfl)
theorem dX2_finds_86 : decode cX2_finds 86 = .ok (.aload 4, 2) := dk_25 4 (dk_at dksX2_finds_3 15 rfl rfl)
theorem dX2_finds_88 : decode cX2_finds 88 = .ok (.ifnull 20, 3) := dk_198 0 20 (dk_at dksX2_finds_3 17 rfl rfl)
theorem dX2_finds_91 : decode cX2_finds 91 = .ok (.aload 4, 2) := dk_25 4 (dk_at dksX2_finds_3 20 rfl rfl)
theorem dX2_finds_93 : decode cX2_finds 93 = .ok (.iconst (-1), 1) := dk_2 (dk_at dksX2_finds_3 22 rfl rfl)
theorem dX2_finds_94 : decode cX2_finds 94 = .ok (.putfield 310, 3) := dk_181 1 54 (dk_at dksX2_finds_4 0 rfl rfl)
theorem dX2_finds_97 : decode cX2_finds 97 = .ok (.aload_n 0, 1) := dk_42 (dk_at dksX2_finds_4 3 rfl rfl)
theorem dX2_finds_98 : decode cX2_finds 98 = .ok (.iload_n 1, 1) := dk_27 (dk_at dksX2_finds_4 4 rfl rfl)
theorem dX2_finds_99 : decode cX2_finds 99 = .ok (.iconst 5, 1) := dk_8 (dk_at dksX2_finds_4 5 rfl rfl)
theorem dX2_finds_100 : decode cX2_finds 100 = .ok (.aload 4, 2) := dk_25 4 (dk_at dksX2_finds_4 6 rfl rfl)
theorem dX2_finds_102 : decode cX2_finds 102 = .ok (.getfield 122, 3) := dk_180 0 122 (dk_at dksX2_finds_4 8 rfl rfl)
theorem dX2_finds_105 : decode cX2_finds 105 = .ok (.invokevirtual 294, 3) := dk_182 1 38 (dk_at dksX2_finds_4 11 rfl rfl)
theorem dX2_finds_108 : decode cX2_finds 108 = .ok (.aload_n 3, 1) := dk_45 (dk_at dksX2_finds_4 14 rfl rfl)
theorem dX2_finds_109 : decode cX2_finds 109 = .ok (.iload_n 2, 1) := dk_28 (dk_at dksX2_finds_4 15 rfl rfl)
theorem dX2_finds_110 : decode cX2_finds 110 = .ok (.iload_n 1, 1) := dk_27 (dk_at dksX2_finds_4 16 rfl rfl)
theorem dX2_finds_111 : decode cX2_finds 111 = .ok (.if_icmp .ne 7, 3) := dk_160 0 7 (dk_at dksX2_finds_4 17 rfl rfl)
theorem dX2_finds_114 : decode cX2_finds 114 = .ok (.iconst 1, 1) := dk_4 (dk_at dksX2_finds_4 20 rfl rfl)
theorem dX2_finds_115 : decode cX2_finds 115 = .ok (.goto 4, 3) := dk_167 0 4 (dk_at dksX2_finds_4 21 rfl rfl)
theorem dX2_finds_118 : decode cX2_finds 118 = .ok (.iconst 0, 1) := dk_3 (dk_at dksX2_finds_5 0 rfl rfl)
theorem dX2_finds_119 : decode cX2_finds 119 = .ok (.invokevirtual 217, 3) := dk_182 0 217 (dk_at dksX2_finds_5 1 rfl rfl)
theorem dX2_finds_122 : decode cX2_finds 122 = .ok (.ireturn, 1) := dk_172 (dk_at dksX2_finds_5 4 rfl rfl)
abbrev cX2_checkBoth : ByteArray := prog_10_method_33_code
def yX2_checkBoth : MethodName := ⟨RX2, "checkBoth", "(II)V"⟩
def dkwX2_checkBoth_0 : List UInt8 := [27, 184, 1, 41, 28, 184, 0, 252, 177]
abbrev dktX2_checkBoth_0 : List UInt8 := dkwX2_checkBoth_0 ++ []
theorem dksX2_checkBoth_0 : cX2_checkBoth.data.toList.drop 0 = dktX2_checkBoth_0 := by decide +kernel
theorem dX2_checkBoth_0 : decode cX2_checkBoth 0 = .ok (.iload_n 1, 1) := dk_27 (dk_at dksX2_checkBoth_0 0 rfl rfl)
theorem dX2_checkBoth_1 : decode cX2_checkBoth 1 = .ok (.invokestatic 297, 3) := dk_184 1 41 (dk_at dksX2_checkBoth_0 1 rfl rfl)
theorem dX2_checkBoth_4 : decode cX2_checkBoth 4 = .ok (.iload_n 2, 1) := dk_28 (dk_at dksX2_checkBoth_0 4 rfl rfl)
theorem dX2_checkBoth_5 : decode cX2_checkBoth 5 = .ok (.invokestatic 252, 3) := dk_184 0 252 (dk_at dksX2_checkBoth_0 5 rfl rfl)
theorem dX2_checkBoth_8 : decode cX2_checkBoth 8 = .ok (.return_, 1) := dk_177 (dk_at dksX2_checkBoth_0 8 rfl rfl)
abbrev cX2_checkStretch : ByteArray := prog_10_method_17_code
def yX2_checkStretch : MethodName := ⟨RX2, "checkStretch", "(I)V"⟩
def dkwX2_checkStretch_0 : List UInt8 := [26, 3, 7, 184, 0, 188, 154, 0, 7, 4, 167, 0, 4, 3, 4, 26, 184, 0, 192, 177]
abbrev dktX2_checkStretch_0 : List UInt8 := dkwX2_checkStretch_0 ++ []
theorem dksX2_checkStretch_0 : cX2_checkStretch.data.toList.drop 0 = dktX2_checkStretch_0 := by decide +kernel
theorem dX2_checkStretch_0 : decode cX2_checkStretch 0 = .ok (.iload_n 0, 1) := dk_26 (dk_at dksX2_checkStretch_0 0 rfl rfl)
theorem dX2_checkStretch_1 : decode cX2_checkStretch 1 = .ok (.iconst 0, 1) := dk_3 (dk_at dksX2_checkStretch_0 1 rfl rfl)
theorem dX2_checkStretch_2 : decode cX2_checkStretch 2 = .ok (.iconst 4, 1) := dk_7 (dk_at dksX2_checkStretch_0 2 rfl rfl)
theorem dX2_checkStretch_3 : decode cX2_checkStretch 3 = .ok (.invokestatic 188, 3) := dk_184 0 188 (dk_at dksX2_checkStretch_0 3 rfl rfl)
theorem dX2_checkStretch_6 : decode cX2_checkStretch 6 = .ok (.ifCond .ne 7, 3) := dk_154 0 7 (dk_at dksX2_checkStretch_0 6 rfl rfl)
theorem dX2_checkStretch_9 : decode cX2_checkStretch 9 = .ok (.iconst 1, 1) := dk_4 (dk_at dksX2_checkStretch_0 9 rfl rfl)
theorem dX2_checkStretch_10 : decode cX2_checkStretch 10 = .ok (.goto 4, 3) := dk_167 0 4 (dk_at dksX2_checkStretch_0 10 rfl rfl)
theorem dX2_checkStretch_13 : decode cX2_checkStretch 13 = .ok (.iconst 0, 1) := dk_3 (dk_at dksX2_checkStretch_0 13 rfl rfl)
theorem dX2_checkStretch_14 : decode cX2_checkStretch 14 = .ok (.iconst 1, 1) := dk_4 (dk_at dksX2_checkStretch_0 14 rfl rfl)
theorem dX2_checkStretch_15 : decode cX2_checkStretch 15 = .ok (.iload_n 0, 1) := dk_26 (dk_at dksX2_checkStretch_0 15 rfl rfl)
theorem dX2_checkStretch_16 : decode cX2_checkStretch 16 = .ok (.invokestatic 192, 3) := dk_184 0 192 (dk_at dksX2_checkStretch_0 16 rfl rfl)
theorem dX2_checkStretch_19 : decode cX2_checkStretch 19 = .ok (.return_, 1) := dk_177 (dk_at dksX2_checkStretch_0 19 rfl rfl)
abbrev cX2_walks : ByteArray := prog_10_method_36_code
def yX2_walks : MethodName := ⟨RX2, "walks", "(II)I"⟩
def dkwX2_walks_2 : List UInt8 := [54, 4, 45, 28, 181, 0, 210, 21, 4, 172]
abbrev dktX2_walks_2 : List UInt8 := dkwX2_walks_2 ++ []
def dkwX2_walks_1 : List UInt8 := [182, 1, 58, 154, 0, 7, 4, 167, 0, 4, 3, 16, 12, 45, 180, 1, 54, 184, 0, 192, 45, 180, 0, 210]
abbrev dktX2_walks_1 : List UInt8 := dkwX2_walks_1 ++ dktX2_walks_2
def dkwX2_walks_0 : List UInt8 := [42, 27, 182, 1, 55, 28, 184, 0, 252, 42, 180, 0, 36, 27, 182, 0, 60, 192, 0, 64, 78, 45]
abbrev dktX2_walks_0 : List UInt8 := dkwX2_walks_0 ++ dktX2_walks_1
theorem dksX2_walks_0 : cX2_walks.data.toList.drop 0 = dktX2_walks_0 := by decide +kernel
theorem dksX2_walks_1 : cX2_walks.data.toList.drop 22 = dktX2_walks_1 := dk_seg dksX2_walks_0 22 rfl rfl
theorem dksX2_walks_2 : cX2_walks.data.toList.drop 46 = dktX2_walks_2 := dk_seg dksX2_walks_1 24 rfl rfl
theorem dX2_walks_0 : decode cX2_walks 0 = .ok (.aload_n 0, 1) := dk_42 (dk_at dksX2_walks_0 0 rfl rfl)
theorem dX2_walks_1 : decode cX2_walks 1 = .ok (.iload_n 1, 1) := dk_27 (dk_at dksX2_walks_0 1 rfl rfl)
theorem dX2_walks_2 : decode cX2_walks 2 = .ok (.invokevirtual 311, 3) := dk_182 1 55 (dk_at dksX2_walks_0 2 rfl rfl)
theorem dX2_walks_5 : decode cX2_walks 5 = .ok (.iload_n 2, 1) := dk_28 (dk_at dksX2_walks_0 5 rfl rfl)
theorem dX2_walks_6 : decode cX2_walks 6 = .ok (.invokestatic 252, 3) := dk_184 0 252 (dk_at dksX2_walks_0 6 rfl rfl)
theorem dX2_walks_9 : decode cX2_walks 9 = .ok (.aload_n 0, 1) := dk_42 (dk_at dksX2_walks_0 9 rfl rfl)
theorem dX2_walks_10 : decode cX2_walks 10 = .ok (.getfield 36, 3) := dk_180 0 36 (dk_at dksX2_walks_0 10 rfl rfl)
theorem dX2_walks_13 : decode cX2_walks 13 = .ok (.iload_n 1, 1) := dk_27 (dk_at dksX2_walks_0 13 rfl rfl)
theorem dX2_walks_14 : decode cX2_walks 14 = .ok (.invokevirtual 60, 3) := dk_182 0 60 (dk_at dksX2_walks_0 14 rfl rfl)
theorem dX2_walks_17 : decode cX2_walks 17 = .ok (.checkcast 64, 3) := dk_192 0 64 (dk_at dksX2_walks_0 17 rfl rfl)
theorem dX2_walks_20 : decode cX2_walks 20 = .ok (.astore_n 3, 1) := dk_78 (dk_at dksX2_walks_0 20 rfl rfl)
theorem dX2_walks_21 : decode cX2_walks 21 = .ok (.aload_n 3, 1) := dk_45 (dk_at dksX2_walks_0 21 rfl rfl)
theorem dX2_walks_22 : decode cX2_walks 22 = .ok (.invokevirtual 314, 3) := dk_182 1 58 (dk_at dksX2_walks_1 0 rfl rfl)
theorem dX2_walks_25 : decode cX2_walks 25 = .ok (.ifCond .ne 7, 3) := dk_154 0 7 (dk_at dksX2_walks_1 3 rfl rfl)
theorem dX2_walks_28 : decode cX2_walks 28 = .ok (.iconst 1, 1) := dk_4 (dk_at dksX2_walks_1 6 rfl rfl)
theorem dX2_walks_29 : decode cX2_walks 29 = .ok (.goto 4, 3) := dk_167 0 4 (dk_at dksX2_walks_1 7 rfl rfl)
theorem dX2_walks_32 : decode cX2_walks 32 = .ok (.iconst 0, 1) := dk_3 (dk_at dksX2_walks_1 10 rfl rfl)
theorem dX2_walks_33 : decode cX2_walks 33 = .ok (.bipush 12, 2) := dk_16 12 (dk_at dksX2_walks_1 11 rfl rfl)
theorem dX2_walks_35 : decode cX2_walks 35 = .ok (.aload_n 3, 1) := dk_45 (dk_at dksX2_walks_1 13 rfl rfl)
theorem dX2_walks_36 : decode cX2_walks 36 = .ok (.getfield 310, 3) := dk_180 1 54 (dk_at dksX2_walks_1 14 rfl rfl)
theorem dX2_walks_39 : decode cX2_walks 39 = .ok (.invokestatic 192, 3) := dk_184 0 192 (dk_at dksX2_walks_1 17 rfl rfl)
theorem dX2_walks_42 : decode cX2_walks 42 = .ok (.aload_n 3, 1) := dk_45 (dk_at dksX2_walks_1 20 rfl rfl)
theorem dX2_walks_43 : decode cX2_walks 43 = .ok (.getfield 210, 3) := dk_180 0 210 (dk_at dksX2_walks_1 21 rfl rfl)
theorem dX2_walks_46 : decode cX2_walks 46 = .ok (.istore 4, 2) := dk_54 4 (dk_at dksX2_walks_2 0 rfl rfl)
theorem dX2_walks_48 : decode cX2_walks 48 = .ok (.aload_n 3, 1) := dk_45 (dk_at dksX2_walks_2 2 rfl rfl)
theorem dX2_walks_49 : decode cX2_walks 49 = .ok (.iload_n 2, 1) := dk_28 (dk_at dksX2_walks_2 3 rfl rfl)
theorem dX2_walks_50 : decode cX2_walks 50 = .ok (.putfield 210, 3) := dk_181 0 210 (dk_at dksX2_walks_2 4 rfl rfl)
theorem dX2_walks_53 : decode cX2_walks 53 = .ok (.iload 4, 2) := dk_21 4 (dk_at dksX2_walks_2 7 rfl rfl)
theorem dX2_walks_55 : decode cX2_walks 55 = .ok (.ireturn, 1) := dk_172 (dk_at dksX2_walks_2 9 rfl rfl)
abbrev cX2_checkPilotman : ByteArray := prog_10_method_19_code
def yX2_checkPilotman : MethodName := ⟨RX2, "checkPilotman", "(I)V"⟩
def dkwX2_checkPilotman_1 : List UInt8 := [184, 0, 192, 177]
abbrev dktX2_checkPilotman_1 : List UInt8 := dkwX2_checkPilotman_1 ++ []
def dkwX2_checkPilotman_0 : List UInt8 := [27, 3, 42, 180, 0, 36, 182, 0, 56, 4, 100, 184, 0, 188, 154, 0, 7, 4, 167, 0, 4, 3, 4, 27]
abbrev dktX2_checkPilotman_0 : List UInt8 := dkwX2_checkPilotman_0 ++ dktX2_checkPilotman_1
theorem dksX2_checkPilotman_0 : cX2_checkPilotman.data.toList.drop 0 = dktX2_checkPilotman_0 := by decide +kernel
theorem dksX2_checkPilotman_1 : cX2_checkPilotman.data.toList.drop 24 = dktX2_checkPilotman_1 := dk_seg dksX2_checkPilotman_0 24 rfl rfl
theorem dX2_checkPilotman_0 : decode cX2_checkPilotman 0 = .ok (.iload_n 1, 1) := dk_27 (dk_at dksX2_checkPilotman_0 0 rfl rfl)
theorem dX2_checkPilotman_1 : decode cX2_checkPilotman 1 = .ok (.iconst 0, 1) := dk_3 (dk_at dksX2_checkPilotman_0 1 rfl rfl)
theorem dX2_checkPilotman_2 : decode cX2_checkPilotman 2 = .ok (.aload_n 0, 1) := dk_42 (dk_at dksX2_checkPilotman_0 2 rfl rfl)
theorem dX2_checkPilotman_3 : decode cX2_checkPilotman 3 = .ok (.getfield 36, 3) := dk_180 0 36 (dk_at dksX2_checkPilotman_0 3 rfl rfl)
theorem dX2_checkPilotman_6 : decode cX2_checkPilotman 6 = .ok (.invokevirtual 56, 3) := dk_182 0 56 (dk_at dksX2_checkPilotman_0 6 rfl rfl)
theorem dX2_checkPilotman_9 : decode cX2_checkPilotman 9 = .ok (.iconst 1, 1) := dk_4 (dk_at dksX2_checkPilotman_0 9 rfl rfl)
theorem dX2_checkPilotman_10 : decode cX2_checkPilotman 10 = .ok (.isub, 1) := dk_100 (dk_at dksX2_checkPilotman_0 10 rfl rfl)
theorem dX2_checkPilotman_11 : decode cX2_checkPilotman 11 = .ok (.invokestatic 188, 3) := dk_184 0 188 (dk_at dksX2_checkPilotman_0 11 rfl rfl)
theorem dX2_checkPilotman_14 : decode cX2_checkPilotman 14 = .ok (.ifCond .ne 7, 3) := dk_154 0 7 (dk_at dksX2_checkPilotman_0 14 rfl rfl)
theorem dX2_checkPilotman_17 : decode cX2_checkPilotman 17 = .ok (.iconst 1, 1) := dk_4 (dk_at dksX2_checkPilotman_0 17 rfl rfl)
theorem dX2_checkPilotman_18 : decode cX2_checkPilotman 18 = .ok (.goto 4, 3) := dk_167 0 4 (dk_at dksX2_checkPilotman_0 18 rfl rfl)
theorem dX2_checkPilotman_21 : decode cX2_checkPilotman 21 = .ok (.iconst 0, 1) := dk_3 (dk_at dksX2_checkPilotman_0 21 rfl rfl)
theorem dX2_checkPilotman_22 : decode cX2_checkPilotman 22 = .ok (.iconst 1, 1) := dk_4 (dk_at dksX2_checkPilotman_0 22 rfl rfl)
theorem dX2_checkPilotman_23 : decode cX2_checkPilotman 23 = .ok (.iload_n 1, 1) := dk_27 (dk_at dksX2_checkPilotman_0 23 rfl rfl)
theorem dX2_checkPilotman_24 : decode cX2_checkPilotman 24 = .ok (.invokestatic 192, 3) := dk_184 0 192 (dk_at dksX2_checkPilotman_1 0 rfl rfl)
theorem dX2_checkPilotman_27 : decode cX2_checkPilotman 27 = .ok (.return_, 1) := dk_177 (dk_at dksX2_checkPilotman_1 3 rfl rfl)
abbrev cX2_appoints : ByteArray := prog_10_method_35_code
def yX2_appoints : MethodName := ⟨RX2, "appoints", "(II)I"⟩
def dkwX2_appoints_6 : List UInt8 := [182, 1, 38, 45, 180, 0, 210, 172]
abbrev dktX2_appoints_6 : List UInt8 := dkwX2_appoints_6 ++ []
def dkwX2_appoints_5 : List UInt8 := [167, 0, 4, 3, 16, 14, 45, 180, 0, 210, 184, 0, 192, 45, 28, 181, 1, 54, 42, 28, 7, 27]
abbrev dktX2_appoints_5 : List UInt8 := dkwX2_appoints_5 ++ dktX2_appoints_6
def dkwX2_appoints_4 : List UInt8 := [167, 0, 8, 25, 4, 180, 0, 122, 184, 0, 192, 28, 45, 180, 0, 210, 184, 1, 47, 154, 0, 7, 4]
abbrev dktX2_appoints_4 : List UInt8 := dkwX2_appoints_4 ++ dktX2_appoints_5
def dkwX2_appoints_3 : List UInt8 := [180, 1, 54, 184, 0, 192, 25, 4, 198, 0, 7, 4, 167, 0, 4, 3, 16, 13, 25, 4, 199, 0, 7, 2]
abbrev dktX2_appoints_3 : List UInt8 := dkwX2_appoints_3 ++ dktX2_appoints_4
def dkwX2_appoints_2 : List UInt8 := [28, 184, 0, 192, 42, 28, 182, 0, 233, 45, 182, 1, 58, 154, 0, 7, 4, 167, 0, 4, 3, 16, 12, 45]
abbrev dktX2_appoints_2 : List UInt8 := dkwX2_appoints_2 ++ dktX2_appoints_3
def dkwX2_appoints_1 : List UInt8 := [182, 0, 199, 58, 4, 42, 180, 0, 17, 28, 50, 180, 0, 211, 154, 0, 7, 4, 167, 0, 4, 3, 16, 11]
abbrev dktX2_appoints_1 : List UInt8 := dkwX2_appoints_1 ++ dktX2_appoints_2
def dkwX2_appoints_0 : List UInt8 := [42, 27, 182, 1, 55, 28, 184, 1, 41, 42, 180, 0, 36, 27, 182, 0, 60, 192, 0, 64, 78, 42, 28]
abbrev dktX2_appoints_0 : List UInt8 := dkwX2_appoints_0 ++ dktX2_appoints_1
theorem dksX2_appoints_0 : cX2_appoints.data.toList.drop 0 = dktX2_appoints_0 := by decide +kernel
theorem dksX2_appoints_1 : cX2_appoints.data.toList.drop 23 = dktX2_appoints_1 := dk_seg dksX2_appoints_0 23 rfl rfl
theorem dksX2_appoints_2 : cX2_appoints.data.toList.drop 47 = dktX2_appoints_2 := dk_seg dksX2_appoints_1 24 rfl rfl
theorem dksX2_appoints_3 : cX2_appoints.data.toList.drop 71 = dktX2_appoints_3 := dk_seg dksX2_appoints_2 24 rfl rfl
theorem dksX2_appoints_4 : cX2_appoints.data.toList.drop 95 = dktX2_appoints_4 := dk_seg dksX2_appoints_3 24 rfl rfl
theorem dksX2_appoints_5 : cX2_appoints.data.toList.drop 118 = dktX2_appoints_5 := dk_seg dksX2_appoints_4 23 rfl rfl
theorem dksX2_appoints_6 : cX2_appoints.data.toList.drop 140 = dktX2_appoints_6 := dk_seg dksX2_appoints_5 22 rfl rfl
theorem dX2_appoints_0 : decode cX2_appoints 0 = .ok (.aload_n 0, 1) := dk_42 (dk_at dksX2_appoints_0 0 rfl rfl)
theorem dX2_appoints_1 : decode cX2_appoints 1 = .ok (.iload_n 1, 1) := dk_27 (dk_at dksX2_appoints_0 1 rfl rfl)
theorem dX2_appoints_2 : decode cX2_appoints 2 = .ok (.invokevirtual 311, 3) := dk_182 1 55 (dk_at dksX2_appoints_0 2 rfl rfl)
theorem dX2_appoints_5 : decode cX2_appoints 5 = .ok (.iload_n 2, 1) := dk_28 (dk_at dksX2_appoints_0 5 rfl rfl)
theorem dX2_appoints_6 : decode cX2_appoints 6 = .ok (.invokestatic 297, 3) := dk_184 1 41 (dk_at dksX2_appoints_0 6 rfl rfl)
theorem dX2_appoints_9 : decode cX2_appoints 9 = .ok (.aload_n 0, 1) := dk_42 (dk_at dksX2_appoints_0 9 rfl rfl)
theorem dX2_appoints_10 : decode cX2_appoints 10 = .ok (.getfield 36, 3) := dk_180 0 36 (dk_at dksX2_appoints_0 10 rfl rfl)
theorem dX2_appoints_13 : decode cX2_appoints 13 = .ok (.iload_n 1, 1) := dk_27 (dk_at dksX2_appoints_0 13 rfl rfl)
theorem dX2_appoints_14 : decode cX2_appoints 14 = .ok (.invokevirtual 60, 3) := dk_182 0 60 (dk_at dksX2_appoints_0 14 rfl rfl)
theorem dX2_appoints_17 : decode cX2_appoints 17 = .ok (.checkcast 64, 3) := dk_192 0 64 (dk_at dksX2_appoints_0 17 rfl rfl)
theorem dX2_appoints_20 : decode cX2_appoints 20 = .ok (.astore_n 3, 1) := dk_78 (dk_at dksX2_appoints_0 20 rfl rfl)
theorem dX2_appoints_21 : decode cX2_appoints 21 = .ok (.aload_n 0, 1) := dk_42 (dk_at dksX2_appoints_0 21 rfl rfl)
theorem dX2_appoints_22 : decode cX2_appoints 22 = .ok (.iload_n 2, 1) := dk_28 (dk_at dksX2_appoints_0 22 rfl rfl)
theorem dX2_appoints_23 : decode cX2_appoints 23 = .ok (.invokevirtual 199, 3) := dk_182 0 199 (dk_at dksX2_appoints_1 0 rfl rfl)
theorem dX2_appoints_26 : decode cX2_appoints 26 = .ok (.astore 4, 2) := dk_58 4 (dk_at dksX2_appoints_1 3 rfl rfl)
theorem dX2_appoints_28 : decode cX2_appoints 28 = .ok (.aload_n 0, 1) := dk_42 (dk_at dksX2_appoints_1 5 rfl rfl)
theorem dX2_appoints_29 : decode cX2_appoints 29 = .ok (.getfield 17, 3) := dk_180 0 17 (dk_at dksX2_appoints_1 6 rfl rfl)
theorem dX2_appoints_32 : decode cX2_appoints 32 = .ok (.iload_n 2, 1) := dk_28 (dk_at dksX2_appoints_1 9 rfl rfl)
theorem dX2_appoints_33 : decode cX2_appoints 33 = .ok (.aaload, 1) := dk_50 (dk_at dksX2_appoints_1 10 rfl rfl)
theorem dX2_appoints_34 : decode cX2_appoints 34 = .ok (.getfield 211, 3) := dk_180 0 211 (dk_at dksX2_appoints_1 11 rfl rfl)
theorem dX2_appoints_37 : decode cX2_appoints 37 = .ok (.ifCond .ne 7, 3) := dk_154 0 7 (dk_at dksX2_appoints_1 14 rfl rfl)
theorem dX2_appoints_40 : decode cX2_appoints 40 = .ok (.iconst 1, 1) := dk_4 (dk_at dksX2_appoints_1 17 rfl rfl)
theorem dX2_appoints_41 : decode cX2_appoints 41 = .ok (.goto 4, 3) := dk_167 0 4 (dk_at dksX2_appoints_1 18 rfl rfl)
theorem dX2_appoints_44 : decode cX2_appoints 44 = .ok (.iconst 0, 1) := dk_3 (dk_at dksX2_appoints_1 21 rfl rfl)
theorem dX2_appoints_45 : decode cX2_appoints 45 = .ok (.bipush 11, 2) := dk_16 11 (dk_at dksX2_appoints_1 22 rfl rfl)
theorem dX2_appoints_47 : decode cX2_appoints 47 = .ok (.iload_n 2, 1) := dk_28 (dk_at dksX2_appoints_2 0 rfl rfl)
theorem dX2_appoints_48 : decode cX2_appoints 48 = .ok (.invokestatic 192, 3) := dk_184 0 192 (dk_at dksX2_appoints_2 1 rfl rfl)
theorem dX2_appoints_51 : decode cX2_appoints 51 = .ok (.aload_n 0, 1) := dk_42 (dk_at dksX2_appoints_2 4 rfl rfl)
theorem dX2_appoints_52 : decode cX2_appoints 52 = .ok (.iload_n 2, 1) := dk_28 (dk_at dksX2_appoints_2 5 rfl rfl)
theorem dX2_appoints_53 : decode cX2_appoints 53 = .ok (.invokevirtual 233, 3) := dk_182 0 233 (dk_at dksX2_appoints_2 6 rfl rfl)
theorem dX2_appoints_56 : decode cX2_appoints 56 = .ok (.aload_n 3, 1) := dk_45 (dk_at dksX2_appoints_2 9 rfl rfl)
theorem dX2_appoints_57 : decode cX2_appoints 57 = .ok (.invokevirtual 314, 3) := dk_182 1 58 (dk_at dksX2_appoints_2 10 rfl rfl)
theorem dX2_appoints_60 : decode cX2_appoints 60 = .ok (.ifCond .ne 7, 3) := dk_154 0 7 (dk_at dksX2_appoints_2 13 rfl rfl)
theorem dX2_appoints_63 : decode cX2_appoints 63 = .ok (.iconst 1, 1) := dk_4 (dk_at dksX2_appoints_2 16 rfl rfl)
theorem dX2_appoints_64 : decode cX2_appoints 64 = .ok (.goto 4, 3) := dk_167 0 4 (dk_at dksX2_appoints_2 17 rfl rfl)
theorem dX2_appoints_67 : decode cX2_appoints 67 = .ok (.iconst 0, 1) := dk_3 (dk_at dksX2_appoints_2 20 rfl rfl)
theorem dX2_appoints_68 : decode cX2_appoints 68 = .ok (.bipush 12, 2) := dk_16 12 (dk_at dksX2_appoints_2 21 rfl rfl)
theorem dX2_appoints_70 : decode cX2_appoints 70 = .ok (.aload_n 3, 1) := dk_45 (dk_at dksX2_appoints_2 23 rfl rfl)
theorem dX2_appoints_71 : decode cX2_appoints 71 = .ok (.getfield 310, 3) := dk_180 1 54 (dk_at dksX2_appoints_3 0 rfl rfl)
theorem dX2_appoints_74 : decode cX2_appoints 74 = .ok (.invokestatic 192, 3) := dk_184 0 192 (dk_at dksX2_appoints_3 3 rfl rfl)
theorem dX2_appoints_77 : decode cX2_appoints 77 = .ok (.aload 4, 2) := dk_25 4 (dk_at dksX2_appoints_3 6 rfl rfl)
theorem dX2_appoints_79 : decode cX2_appoints 79 = .ok (.ifnull 7, 3) := dk_198 0 7 (dk_at dksX2_appoints_3 8 rfl rfl)
theorem dX2_appoints_82 : decode cX2_appoints 82 = .ok (.iconst 1, 1) := dk_4 (dk_at dksX2_appoints_3 11 rfl rfl)
theorem dX2_appoints_83 : decode cX2_appoints 83 = .ok (.goto 4, 3) := dk_167 0 4 (dk_at dksX2_appoints_3 12 rfl rfl)
theorem dX2_appoints_86 : decode cX2_appoints 86 = .ok (.iconst 0, 1) := dk_3 (dk_at dksX2_appoints_3 15 rfl rfl)
theorem dX2_appoints_87 : decode cX2_appoints 87 = .ok (.bipush 13, 2) := dk_16 13 (dk_at dksX2_appoints_3 16 rfl rfl)
theorem dX2_appoints_89 : decode cX2_appoints 89 = .ok (.aload 4, 2) := dk_25 4 (dk_at dksX2_appoints_3 18 rfl rfl)
theorem dX2_appoints_91 : decode cX2_appoints 91 = .ok (.ifnonnull 7, 3) := dk_199 0 7 (dk_at dksX2_appoints_3 20 rfl rfl)
theorem dX2_appoints_94 : decode cX2_appoints 94 = .ok (.iconst (-1), 1) := dk_2 (dk_at dksX2_appoints_3 23 rfl rfl)
theorem dX2_appoints_95 : decode cX2_appoints 95 = .ok (.goto 8, 3) := dk_167 0 8 (dk_at dksX2_appoints_4 0 rfl rfl)
theorem dX2_appoints_98 : decode cX2_appoints 98 = .ok (.aload 4, 2) := dk_25 4 (dk_at dksX2_appoints_4 3 rfl rfl)
theorem dX2_appoints_100 : decode cX2_appoints 100 = .ok (.getfield 122, 3) := dk_180 0 122 (dk_at dksX2_appoints_4 5 rfl rfl)
theorem dX2_appoints_103 : decode cX2_appoints 103 = .ok (.invokestatic 192, 3) := dk_184 0 192 (dk_at dksX2_appoints_4 8 rfl rfl)
theorem dX2_appoints_106 : decode cX2_appoints 106 = .ok (.iload_n 2, 1) := dk_28 (dk_at dksX2_appoints_4 11 rfl rfl)
theorem dX2_appoints_107 : decode cX2_appoints 107 = .ok (.aload_n 3, 1) := dk_45 (dk_at dksX2_appoints_4 12 rfl rfl)
theorem dX2_appoints_108 : decode cX2_appoints 108 = .ok (.getfield 210, 3) := dk_180 0 210 (dk_at dksX2_appoints_4 13 rfl rfl)
theorem dX2_appoints_111 : decode cX2_appoints 111 = .ok (.invokestatic 303, 3) := dk_184 1 47 (dk_at dksX2_appoints_4 16 rfl rfl)
theorem dX2_appoints_114 : decode cX2_appoints 114 = .ok (.ifCond .ne 7, 3) := dk_154 0 7 (dk_at dksX2_appoints_4 19 rfl rfl)
theorem dX2_appoints_117 : decode cX2_appoints 117 = .ok (.iconst 1, 1) := dk_4 (dk_at dksX2_appoints_4 22 rfl rfl)
theorem dX2_appoints_118 : decode cX2_appoints 118 = .ok (.goto 4, 3) := dk_167 0 4 (dk_at dksX2_appoints_5 0 rfl rfl)
theorem dX2_appoints_121 : decode cX2_appoints 121 = .ok (.iconst 0, 1) := dk_3 (dk_at dksX2_appoints_5 3 rfl rfl)
theorem dX2_appoints_122 : decode cX2_appoints 122 = .ok (.bipush 14, 2) := dk_16 14 (dk_at dksX2_appoints_5 4 rfl rfl)
theorem dX2_appoints_124 : decode cX2_appoints 124 = .ok (.aload_n 3, 1) := dk_45 (dk_at dksX2_appoints_5 6 rfl rfl)
theorem dX2_appoints_125 : decode cX2_appoints 125 = .ok (.getfield 210, 3) := dk_180 0 210 (dk_at dksX2_appoints_5 7 rfl rfl)
theorem dX2_appoints_128 : decode cX2_appoints 128 = .ok (.invokestatic 192, 3) := dk_184 0 192 (dk_at dksX2_appoints_5 10 rfl rfl)
theorem dX2_appoints_131 : decode cX2_appoints 131 = .ok (.aload_n 3, 1) := dk_45 (dk_at dksX2_appoints_5 13 rfl rfl)
theorem dX2_appoints_132 : decode cX2_appoints 132 = .ok (.iload_n 2, 1) := dk_28 (dk_at dksX2_appoints_5 14 rfl rfl)
theorem dX2_appoints_133 : decode cX2_appoints 133 = .ok (.putfield 310, 3) := dk_181 1 54 (dk_at dksX2_appoints_5 15 rfl rfl)
theorem dX2_appoints_136 : decode cX2_appoints 136 = .ok (.aload_n 0, 1) := dk_42 (dk_at dksX2_appoints_5 18 rfl rfl)
theorem dX2_appoints_137 : decode cX2_appoints 137 = .ok (.iload_n 2, 1) := dk_28 (dk_at dksX2_appoints_5 19 rfl rfl)
theorem dX2_appoints_138 : decode cX2_appoints 138 = .ok (.iconst 4, 1) := dk_7 (dk_at dksX2_appoints_5 20 rfl rfl)
theorem dX2_appoints_139 : decode cX2_appoints 139 = .ok (.iload_n 1, 1) := dk_27 (dk_at dksX2_appoints_5 21 rfl rfl)
theorem dX2_appoints_140 : decode cX2_appoints 140 = .ok (.invokevirtual 294, 3) := dk_182 1 38 (dk_at dksX2_appoints_6 0 rfl rfl)
theorem dX2_appoints_143 : decode cX2_appoints 143 = .ok (.aload_n 3, 1) := dk_45 (dk_at dksX2_appoints_6 3 rfl rfl)
theorem dX2_appoints_144 : decode cX2_appoints 144 = .ok (.getfield 210, 3) := dk_180 0 210 (dk_at dksX2_appoints_6 4 rfl rfl)
theorem dX2_appoints_147 : decode cX2_appoints 147 = .ok (.ireturn, 1) := dk_172 (dk_at dksX2_appoints_6 7 rfl rfl)
abbrev cX2_entries : ByteArray := prog_10_method_43_code
def yX2_entries : MethodName := ⟨RX2, "entries", "(I)I"⟩
def dkwX2_entries_3 : List UInt8 := [3, 96, 61, 167, 255, 217, 132, 5, 1, 167, 255, 191, 28, 172]
abbrev dktX2_entries_3 : List UInt8 := dkwX2_entries_3 ++ []
def dkwX2_entries_2 : List UInt8 := [185, 0, 138, 1, 0, 192, 0, 178, 58, 8, 28, 25, 8, 180, 1, 71, 27, 160, 0, 7, 4, 167, 0, 4]
abbrev dktX2_entries_2 : List UInt8 := dkwX2_entries_2 ++ dktX2_entries_3
def dkwX2_entries_1 : List UInt8 := [50, 58, 6, 25, 6, 182, 1, 70, 58, 7, 25, 7, 185, 0, 133, 1, 0, 153, 0, 35, 25, 7]
abbrev dktX2_entries_1 : List UInt8 := dkwX2_entries_1 ++ dktX2_entries_2
def dkwX2_entries_0 : List UInt8 := [3, 61, 42, 180, 0, 23, 78, 45, 190, 54, 4, 3, 54, 5, 21, 5, 21, 4, 162, 0, 64, 45, 21, 5]
abbrev dktX2_entries_0 : List UInt8 := dkwX2_entries_0 ++ dktX2_entries_1
theorem dksX2_entries_0 : cX2_entries.data.toList.drop 0 = dktX2_entries_0 := by decide +kernel
theorem dksX2_entries_1 : cX2_entries.data.toList.drop 24 = dktX2_entries_1 := dk_seg dksX2_entries_0 24 rfl rfl
theorem dksX2_entries_2 : cX2_entries.data.toList.drop 46 = dktX2_entries_2 := dk_seg dksX2_entries_1 22 rfl rfl
theorem dksX2_entries_3 : cX2_entries.data.toList.drop 70 = dktX2_entries_3 := dk_seg dksX2_entries_2 24 rfl rfl
theorem dX2_entries_0 : decode cX2_entries 0 = .ok (.iconst 0, 1) := dk_3 (dk_at dksX2_entries_0 0 rfl rfl)
theorem dX2_entries_1 : decode cX2_entries 1 = .ok (.istore_n 2, 1) := dk_61 (dk_at dksX2_entries_0 1 rfl rfl)
theorem dX2_entries_2 : decode cX2_entries 2 = .ok (.aload_n 0, 1) := dk_42 (dk_at dksX2_entries_0 2 rfl rfl)
theorem dX2_entries_3 : decode cX2_entries 3 = .ok (.getfield 23, 3) := dk_180 0 23 (dk_at dksX2_entries_0 3 rfl rfl)
theorem dX2_entries_6 : decode cX2_entries 6 = .ok (.astore_n 3, 1) := dk_78 (dk_at dksX2_entries_0 6 rfl rfl)
theorem dX2_entries_7 : decode cX2_entries 7 = .ok (.aload_n 3, 1) := dk_45 (dk_at dksX2_entries_0 7 rfl rfl)
theorem dX2_entries_8 : decode cX2_entries 8 = .ok (.arraylength, 1) := dk_190 (dk_at dksX2_entries_0 8 rfl rfl)
theorem dX2_entries_9 : decode cX2_entries 9 = .ok (.istore 4, 2) := dk_54 4 (dk_at dksX2_entries_0 9 rfl rfl)
theorem dX2_entries_11 : decode cX2_entries 11 = .ok (.iconst 0, 1) := dk_3 (dk_at dksX2_entries_0 11 rfl rfl)
theorem dX2_entries_12 : decode cX2_entries 12 = .ok (.istore 5, 2) := dk_54 5 (dk_at dksX2_entries_0 12 rfl rfl)
theorem dX2_entries_14 : decode cX2_entries 14 = .ok (.iload 5, 2) := dk_21 5 (dk_at dksX2_entries_0 14 rfl rfl)
theorem dX2_entries_16 : decode cX2_entries 16 = .ok (.iload 4, 2) := dk_21 4 (dk_at dksX2_entries_0 16 rfl rfl)
theorem dX2_entries_18 : decode cX2_entries 18 = .ok (.if_icmp .ge 64, 3) := dk_162 0 64 (dk_at dksX2_entries_0 18 rfl rfl)
theorem dX2_entries_21 : decode cX2_entries 21 = .ok (.aload_n 3, 1) := dk_45 (dk_at dksX2_entries_0 21 rfl rfl)
theorem dX2_entries_22 : decode cX2_entries 22 = .ok (.iload 5, 2) := dk_21 5 (dk_at dksX2_entries_0 22 rfl rfl)
theorem dX2_entries_24 : decode cX2_entries 24 = .ok (.aaload, 1) := dk_50 (dk_at dksX2_entries_1 0 rfl rfl)
theorem dX2_entries_25 : decode cX2_entries 25 = .ok (.astore 6, 2) := dk_58 6 (dk_at dksX2_entries_1 1 rfl rfl)
theorem dX2_entries_27 : decode cX2_entries 27 = .ok (.aload 6, 2) := dk_25 6 (dk_at dksX2_entries_1 3 rfl rfl)
theorem dX2_entries_29 : decode cX2_entries 29 = .ok (.invokevirtual 326, 3) := dk_182 1 70 (dk_at dksX2_entries_1 5 rfl rfl)
theorem dX2_entries_32 : decode cX2_entries 32 = .ok (.astore 7, 2) := dk_58 7 (dk_at dksX2_entries_1 8 rfl rfl)
theorem dX2_entries_34 : decode cX2_entries 34 = .ok (.aload 7, 2) := dk_25 7 (dk_at dksX2_entries_1 10 rfl rfl)
theorem dX2_entries_36 : decode cX2_entries 36 = .ok (.invokeinterface 133 1, 5) := by decide +kernel
theorem dX2_entries_41 : decode cX2_entries 41 = .ok (.ifCond .eq 35, 3) := dk_153 0 35 (dk_at dksX2_entries_1 17 rfl rfl)
theorem dX2_entries_44 : decode cX2_entries 44 = .ok (.aload 7, 2) := dk_25 7 (dk_at dksX2_entries_1 20 rfl rfl)
theorem dX2_entries_46 : decode cX2_entries 46 = .ok (.invokeinterface 138 1, 5) := by decide +kernel
theorem dX2_entries_51 : decode cX2_entries 51 = .ok (.checkcast 178, 3) := dk_192 0 178 (dk_at dksX2_entries_2 5 rfl rfl)
theorem dX2_entries_54 : decode cX2_entries 54 = .ok (.astore 8, 2) := dk_58 8 (dk_at dksX2_entries_2 8 rfl rfl)
theorem dX2_entries_56 : decode cX2_entries 56 = .ok (.iload_n 2, 1) := dk_28 (dk_at dksX2_entries_2 10 rfl rfl)
theorem dX2_entries_57 : decode cX2_entries 57 = .ok (.aload 8, 2) := dk_25 8 (dk_at dksX2_entries_2 11 rfl rfl)
theorem dX2_entries_59 : decode cX2_entries 59 = .ok (.getfield 327, 3) := dk_180 1 71 (dk_at dksX2_entries_2 13 rfl rfl)
theorem dX2_entries_62 : decode cX2_entries 62 = .ok (.iload_n 1, 1) := dk_27 (dk_at dksX2_entries_2 16 rfl rfl)
theorem dX2_entries_63 : decode cX2_entries 63 = .ok (.if_icmp .ne 7, 3) := dk_160 0 7 (dk_at dksX2_entries_2 17 rfl rfl)
theorem dX2_entries_66 : decode cX2_entries 66 = .ok (.iconst 1, 1) := dk_4 (dk_at dksX2_entries_2 20 rfl rfl)
theorem dX2_entries_67 : decode cX2_entries 67 = .ok (.goto 4, 3) := dk_167 0 4 (dk_at dksX2_entries_2 21 rfl rfl)
theorem dX2_entries_70 : decode cX2_entries 70 = .ok (.iconst 0, 1) := dk_3 (dk_at dksX2_entries_3 0 rfl rfl)
theorem dX2_entries_71 : decode cX2_entries 71 = .ok (.iadd, 1) := dk_96 (dk_at dksX2_entries_3 1 rfl rfl)
theorem dX2_entries_72 : decode cX2_entries 72 = .ok (.istore_n 2, 1) := dk_61 (dk_at dksX2_entries_3 2 rfl rfl)
theorem dX2_entries_73 : decode cX2_entries 73 = .ok (.goto (-39), 3) := dk_167 255 217 (dk_at dksX2_entries_3 3 rfl rfl)
theorem dX2_entries_76 : decode cX2_entries 76 = .ok (.iinc 5 1, 3) := dk_132 5 1 (dk_at dksX2_entries_3 6 rfl rfl)
theorem dX2_entries_79 : decode cX2_entries 79 = .ok (.goto (-65), 3) := dk_167 255 191 (dk_at dksX2_entries_3 9 rfl rfl)
theorem dX2_entries_82 : decode cX2_entries 82 = .ok (.iload_n 2, 1) := dk_28 (dk_at dksX2_entries_3 12 rfl rfl)
theorem dX2_entries_83 : decode cX2_entries 83 = .ok (.ireturn, 1) := dk_172 (dk_at dksX2_entries_3 13 rfl rfl)
abbrev cX2_wagons : ByteArray := prog_10_method_42_code
def yX2_wagons : MethodName := ⟨RX2, "wagons", "()I"⟩
def dkwX2_wagons_1 : List UInt8 := [185, 0, 138, 1, 0, 192, 0, 73, 78, 27, 45, 180, 0, 95, 96, 60, 167, 255, 230, 27, 172]
abbrev dktX2_wagons_1 : List UInt8 := dkwX2_wagons_1 ++ []
def dkwX2_wagons_0 : List UInt8 := [3, 60, 42, 180, 0, 32, 182, 0, 129, 77, 44, 185, 0, 133, 1, 0, 153, 0, 23, 44]
abbrev dktX2_wagons_0 : List UInt8 := dkwX2_wagons_0 ++ dktX2_wagons_1
theorem dksX2_wagons_0 : cX2_wagons.data.toList.drop 0 = dktX2_wagons_0 := by decide +kernel
theorem dksX2_wagons_1 : cX2_wagons.data.toList.drop 20 = dktX2_wagons_1 := dk_seg dksX2_wagons_0 20 rfl rfl
theorem dX2_wagons_0 : decode cX2_wagons 0 = .ok (.iconst 0, 1) := dk_3 (dk_at dksX2_wagons_0 0 rfl rfl)
theorem dX2_wagons_1 : decode cX2_wagons 1 = .ok (.istore_n 1, 1) := dk_60 (dk_at dksX2_wagons_0 1 rfl rfl)
theorem dX2_wagons_2 : decode cX2_wagons 2 = .ok (.aload_n 0, 1) := dk_42 (dk_at dksX2_wagons_0 2 rfl rfl)
theorem dX2_wagons_3 : decode cX2_wagons 3 = .ok (.getfield 32, 3) := dk_180 0 32 (dk_at dksX2_wagons_0 3 rfl rfl)
theorem dX2_wagons_6 : decode cX2_wagons 6 = .ok (.invokevirtual 129, 3) := dk_182 0 129 (dk_at dksX2_wagons_0 6 rfl rfl)
theorem dX2_wagons_9 : decode cX2_wagons 9 = .ok (.astore_n 2, 1) := dk_77 (dk_at dksX2_wagons_0 9 rfl rfl)
theorem dX2_wagons_10 : decode cX2_wagons 10 = .ok (.aload_n 2, 1) := dk_44 (dk_at dksX2_wagons_0 10 rfl rfl)
theorem dX2_wagons_11 : decode cX2_wagons 11 = .ok (.invokeinterface 133 1, 5) := by decide +kernel
theorem dX2_wagons_16 : decode cX2_wagons 16 = .ok (.ifCond .eq 23, 3) := dk_153 0 23 (dk_at dksX2_wagons_0 16 rfl rfl)
theorem dX2_wagons_19 : decode cX2_wagons 19 = .ok (.aload_n 2, 1) := dk_44 (dk_at dksX2_wagons_0 19 rfl rfl)
theorem dX2_wagons_20 : decode cX2_wagons 20 = .ok (.invokeinterface 138 1, 5) := by decide +kernel
theorem dX2_wagons_25 : decode cX2_wagons 25 = .ok (.checkcast 73, 3) := dk_192 0 73 (dk_at dksX2_wagons_1 5 rfl rfl)
theorem dX2_wagons_28 : decode cX2_wagons 28 = .ok (.astore_n 3, 1) := dk_78 (dk_at dksX2_wagons_1 8 rfl rfl)
theorem dX2_wagons_29 : decode cX2_wagons 29 = .ok (.iload_n 1, 1) := dk_27 (dk_at dksX2_wagons_1 9 rfl rfl)
theorem dX2_wagons_30 : decode cX2_wagons 30 = .ok (.aload_n 3, 1) := dk_45 (dk_at dksX2_wagons_1 10 rfl rfl)
theorem dX2_wagons_31 : decode cX2_wagons 31 = .ok (.getfield 95, 3) := dk_180 0 95 (dk_at dksX2_wagons_1 11 rfl rfl)
theorem dX2_wagons_34 : decode cX2_wagons 34 = .ok (.iadd, 1) := dk_96 (dk_at dksX2_wagons_1 14 rfl rfl)
theorem dX2_wagons_35 : decode cX2_wagons 35 = .ok (.istore_n 1, 1) := dk_60 (dk_at dksX2_wagons_1 15 rfl rfl)
theorem dX2_wagons_36 : decode cX2_wagons 36 = .ok (.goto (-26), 3) := dk_167 255 230 (dk_at dksX2_wagons_1 16 rfl rfl)
theorem dX2_wagons_39 : decode cX2_wagons 39 = .ok (.iload_n 1, 1) := dk_27 (dk_at dksX2_wagons_1 19 rfl rfl)
theorem dX2_wagons_40 : decode cX2_wagons 40 = .ok (.ireturn, 1) := dk_172 (dk_at dksX2_wagons_1 20 rfl rfl)
abbrev cX2_sum : ByteArray := prog_10_method_7_code
def yX2_sum : MethodName := ⟨RX2, "sum", "(LStaffRailway$Amount;)I"⟩
def dkwX2_sum_1 : List UInt8 := [50, 58, 6, 28, 43, 25, 6, 185, 0, 153, 2, 0, 96, 61, 132, 5, 1, 167, 255, 229, 28, 172]
abbrev dktX2_sum_1 : List UInt8 := dkwX2_sum_1 ++ []
def dkwX2_sum_0 : List UInt8 := [3, 61, 42, 180, 0, 17, 78, 45, 190, 54, 4, 3, 54, 5, 21, 5, 21, 4, 162, 0, 26, 45, 21, 5]
abbrev dktX2_sum_0 : List UInt8 := dkwX2_sum_0 ++ dktX2_sum_1
theorem dksX2_sum_0 : cX2_sum.data.toList.drop 0 = dktX2_sum_0 := by decide +kernel
theorem dksX2_sum_1 : cX2_sum.data.toList.drop 24 = dktX2_sum_1 := dk_seg dksX2_sum_0 24 rfl rfl
theorem dX2_sum_0 : decode cX2_sum 0 = .ok (.iconst 0, 1) := dk_3 (dk_at dksX2_sum_0 0 rfl rfl)
theorem dX2_sum_1 : decode cX2_sum 1 = .ok (.istore_n 2, 1) := dk_61 (dk_at dksX2_sum_0 1 rfl rfl)
theorem dX2_sum_2 : decode cX2_sum 2 = .ok (.aload_n 0, 1) := dk_42 (dk_at dksX2_sum_0 2 rfl rfl)
theorem dX2_sum_3 : decode cX2_sum 3 = .ok (.getfield 17, 3) := dk_180 0 17 (dk_at dksX2_sum_0 3 rfl rfl)
theorem dX2_sum_6 : decode cX2_sum 6 = .ok (.astore_n 3, 1) := dk_78 (dk_at dksX2_sum_0 6 rfl rfl)
theorem dX2_sum_7 : decode cX2_sum 7 = .ok (.aload_n 3, 1) := dk_45 (dk_at dksX2_sum_0 7 rfl rfl)
theorem dX2_sum_8 : decode cX2_sum 8 = .ok (.arraylength, 1) := dk_190 (dk_at dksX2_sum_0 8 rfl rfl)
theorem dX2_sum_9 : decode cX2_sum 9 = .ok (.istore 4, 2) := dk_54 4 (dk_at dksX2_sum_0 9 rfl rfl)
theorem dX2_sum_11 : decode cX2_sum 11 = .ok (.iconst 0, 1) := dk_3 (dk_at dksX2_sum_0 11 rfl rfl)
theorem dX2_sum_12 : decode cX2_sum 12 = .ok (.istore 5, 2) := dk_54 5 (dk_at dksX2_sum_0 12 rfl rfl)
theorem dX2_sum_14 : decode cX2_sum 14 = .ok (.iload 5, 2) := dk_21 5 (dk_at dksX2_sum_0 14 rfl rfl)
theorem dX2_sum_16 : decode cX2_sum 16 = .ok (.iload 4, 2) := dk_21 4 (dk_at dksX2_sum_0 16 rfl rfl)
theorem dX2_sum_18 : decode cX2_sum 18 = .ok (.if_icmp .ge 26, 3) := dk_162 0 26 (dk_at dksX2_sum_0 18 rfl rfl)
theorem dX2_sum_21 : decode cX2_sum 21 = .ok (.aload_n 3, 1) := dk_45 (dk_at dksX2_sum_0 21 rfl rfl)
theorem dX2_sum_22 : decode cX2_sum 22 = .ok (.iload 5, 2) := dk_21 5 (dk_at dksX2_sum_0 22 rfl rfl)
theorem dX2_sum_24 : decode cX2_sum 24 = .ok (.aaload, 1) := dk_50 (dk_at dksX2_sum_1 0 rfl rfl)
theorem dX2_sum_25 : decode cX2_sum 25 = .ok (.astore 6, 2) := dk_58 6 (dk_at dksX2_sum_1 1 rfl rfl)
theorem dX2_sum_27 : decode cX2_sum 27 = .ok (.iload_n 2, 1) := dk_28 (dk_at dksX2_sum_1 3 rfl rfl)
theorem dX2_sum_28 : decode cX2_sum 28 = .ok (.aload_n 1, 1) := dk_43 (dk_at dksX2_sum_1 4 rfl rfl)
theorem dX2_sum_29 : decode cX2_sum 29 = .ok (.aload 6, 2) := dk_25 6 (dk_at dksX2_sum_1 5 rfl rfl)
theorem dX2_sum_31 : decode cX2_sum 31 = .ok (.invokeinterface 153 2, 5) := by decide +kernel
theorem dX2_sum_36 : decode cX2_sum 36 = .ok (.iadd, 1) := dk_96 (dk_at dksX2_sum_1 12 rfl rfl)
theorem dX2_sum_37 : decode cX2_sum 37 = .ok (.istore_n 2, 1) := dk_61 (dk_at dksX2_sum_1 13 rfl rfl)
theorem dX2_sum_38 : decode cX2_sum 38 = .ok (.iinc 5 1, 3) := dk_132 5 1 (dk_at dksX2_sum_1 14 rfl rfl)
theorem dX2_sum_41 : decode cX2_sum 41 = .ok (.goto (-27), 3) := dk_167 255 229 (dk_at dksX2_sum_1 17 rfl rfl)
theorem dX2_sum_44 : decode cX2_sum 44 = .ok (.iload_n 2, 1) := dk_28 (dk_at dksX2_sum_1 20 rfl rfl)
theorem dX2_sum_45 : decode cX2_sum 45 = .ok (.ireturn, 1) := dk_172 (dk_at dksX2_sum_1 21 rfl rfl)
theorem q95 : (Jvm.Cond.initialized "StaffRailway$Line") ∈ lw_all := lw_g (lw_at lw_m1 2 rfl) rfl
theorem q149 : (Jvm.Cond.instantiable "StaffRailway$Line" (9 : Nat)) ∈ lw_all := lw_g (lw_at lw_m1 56 rfl) rfl
theorem q151 : (Jvm.Cond.instanceMethod ({ cls := "StaffRailway$Line", name := "<init>", desc := "()V" } : Jvm.MethodName)) ∈ lw_all := lw_g (lw_at lw_m1 58 rfl) rfl
theorem q152 : (Jvm.Cond.code ({ cls := "StaffRailway$Line", name := "<init>", desc := "()V" } : Jvm.MethodName) prog_10_method_1_code (2 : Nat) (Option.none : Option Jvm.ClassFile.FieldType)) ∈ lw_all := lw_g (lw_at lw_m1 59 rfl) rfl
theorem q153 : (Jvm.Cond.methodLink "StaffRailway$Line" (3 : Nat) ({ cls := "java/lang/Object", name := "<init>", desc := "()V" } : Jvm.MethodName)) ∈ lw_all := lw_g (lw_at lw_m1 60 rfl) rfl
theorem q154 : (Jvm.Cond.classLink "StaffRailway$Line" (15 : Nat) "StaffRailway$Stretch") ∈ lw_all := lw_g (lw_at lw_m1 61 rfl) rfl
theorem q156 : (Jvm.Cond.classLink "StaffRailway$Line" (21 : Nat) "StaffRailway$Box") ∈ lw_all := lw_g (lw_at lw_m1 63 rfl) rfl
theorem q158 : (Jvm.Cond.classLink "StaffRailway$Line" (27 : Nat) "java/util/ArrayList") ∈ lw_all := lw_g (lw_at lw_m1 65 rfl) rfl
theorem q160 : (Jvm.Cond.methodLink "StaffRailway$Line" (29 : Nat) ({ cls := "java/util/ArrayList", name := "<init>", desc := "(I)V" } : Jvm.MethodName)) ∈ lw_all := lw_g (lw_at lw_m1 67 rfl) rfl
theorem q512 : (Jvm.Cond.methodLinkNest "StaffRailway$Line" (39 : Nat) ({ cls := "StaffRailway$Box", name := "<init>", desc := "()V" } : Jvm.MethodName) "StaffRailway") ∈ lw_tbl := lw_at lw_m2 179 rfl
theorem q530 : (Jvm.Cond.methodLinkNest "StaffRailway$Line" (40 : Nat) ({ cls := "StaffRailway$Stretch", name := "<init>", desc := "()V" } : Jvm.MethodName) "StaffRailway") ∈ lw_tbl := lw_at lw_m2 197 rfl
theorem q540 : (Jvm.Cond.fieldLinkNest "StaffRailway$Line" (221 : Nat) "StaffRailway$Stretch" "tablets" "I" "StaffRailway") ∈ lw_tbl := lw_at lw_m2 207 rfl
theorem q545 : (Jvm.Cond.fieldLinkNest "StaffRailway$Line" (243 : Nat) "StaffRailway$Stretch" "limit" "I" "StaffRailway") ∈ lw_tbl := lw_at lw_m2 212 rfl
theorem q552 : (Jvm.Cond.fieldLinkNest "StaffRailway$Line" (211 : Nat) "StaffRailway$Stretch" "isLost" "Z" "StaffRailway") ∈ lw_tbl := lw_at lw_m2 219 rfl
theorem q566 : (Jvm.Cond.fieldLink "StaffRailway$Line" (9 : Nat) "StaffRailway$Line" "tracks" "[I") ∈ lw_all := lw_g (lw_at lw_m2 233 rfl) rfl
theorem q568 : (Jvm.Cond.fieldLink "StaffRailway$Line" (17 : Nat) "StaffRailway$Line" "stretches" "[LStaffRailway$Stretch;") ∈ lw_all := lw_g (lw_at lw_m2 235 rfl) rfl
theorem q570 : (Jvm.Cond.fieldLink "StaffRailway$Line" (23 : Nat) "StaffRailway$Line" "boxes" "[LStaffRailway$Box;") ∈ lw_all := lw_g (lw_at lw_m2 237 rfl) rfl
theorem q572 : (Jvm.Cond.fieldLink "StaffRailway$Line" (32 : Nat) "StaffRailway$Line" "trains" "Ljava/util/ArrayList;") ∈ lw_all := lw_g (lw_at lw_m2 239 rfl) rfl
theorem q574 : (Jvm.Cond.fieldLink "StaffRailway$Line" (36 : Nat) "StaffRailway$Line" "pilotmen" "Ljava/util/ArrayList;") ∈ lw_all := lw_g (lw_at lw_m3 1 rfl) rfl
theorem q576 : (Jvm.Cond.fieldLink "StaffRailway$Line" (79 : Nat) "StaffRailway$Line" "clock" "I") ∈ lw_all := lw_g (lw_at lw_m3 3 rfl) rfl
theorem q578 : (Jvm.Cond.fieldLink "StaffRailway$Line" (83 : Nat) "StaffRailway$Line" "came" "I") ∈ lw_all := lw_g (lw_at lw_m3 5 rfl) rfl
theorem q580 : (Jvm.Cond.fieldLink "StaffRailway$Line" (86 : Nat) "StaffRailway$Line" "halves" "I") ∈ lw_all := lw_g (lw_at lw_m3 7 rfl) rfl
theorem q582 : (Jvm.Cond.fieldLink "StaffRailway$Line" (89 : Nat) "StaffRailway$Line" "losses" "I") ∈ lw_all := lw_g (lw_at lw_m3 9 rfl) rfl
theorem q584 : (Jvm.Cond.laysFinal "StaffRailway$Line" "StaffRailway$Line" "tracks" "[I") ∈ lw_all := lw_g (lw_at lw_m3 11 rfl) rfl
theorem q585 : (Jvm.Cond.soleField "StaffRailway$Line" "tracks") ∈ lw_all := lw_g (lw_at lw_m3 12 rfl) rfl
theorem q586 : (Jvm.Cond.laysFinal "StaffRailway$Line" "StaffRailway$Line" "stretches" "[LStaffRailway$Stretch;") ∈ lw_all := lw_g (lw_at lw_m3 13 rfl) rfl
theorem q587 : (Jvm.Cond.soleField "StaffRailway$Line" "stretches") ∈ lw_all := lw_g (lw_at lw_m3 14 rfl) rfl
theorem q588 : (Jvm.Cond.laysFinal "StaffRailway$Line" "StaffRailway$Line" "boxes" "[LStaffRailway$Box;") ∈ lw_all := lw_g (lw_at lw_m3 15 rfl) rfl
theorem q589 : (Jvm.Cond.soleField "StaffRailway$Line" "boxes") ∈ lw_all := lw_g (lw_at lw_m3 16 rfl) rfl
theorem q590 : (Jvm.Cond.laysFinal "StaffRailway$Line" "StaffRailway$Line" "trains" "Ljava/util/ArrayList;") ∈ lw_all := lw_g (lw_at lw_m3 17 rfl) rfl
theorem q591 : (Jvm.Cond.soleField "StaffRailway$Line" "trains") ∈ lw_all := lw_g (lw_at lw_m3 18 rfl) rfl
theorem q592 : (Jvm.Cond.laysFinal "StaffRailway$Line" "StaffRailway$Line" "pilotmen" "Ljava/util/ArrayList;") ∈ lw_all := lw_g (lw_at lw_m3 19 rfl) rfl
theorem q593 : (Jvm.Cond.soleField "StaffRailway$Line" "pilotmen") ∈ lw_all := lw_g (lw_at lw_m3 20 rfl) rfl
theorem q594 : (Jvm.Cond.lays "StaffRailway$Line" "StaffRailway$Line" "clock" "I") ∈ lw_all := lw_g (lw_at lw_m3 21 rfl) rfl
theorem q595 : (Jvm.Cond.soleField "StaffRailway$Line" "clock") ∈ lw_all := lw_g (lw_at lw_m3 22 rfl) rfl
theorem q596 : (Jvm.Cond.lays "StaffRailway$Line" "StaffRailway$Line" "came" "I") ∈ lw_all := lw_g (lw_at lw_m3 23 rfl) rfl
theorem q597 : (Jvm.Cond.soleField "StaffRailway$Line" "came") ∈ lw_all := lw_g (lw_at lw_m3 24 rfl) rfl
theorem q598 : (Jvm.Cond.lays "StaffRailway$Line" "StaffRailway$Line" "halves" "I") ∈ lw_all := lw_g (lw_at lw_m3 25 rfl) rfl
theorem q599 : (Jvm.Cond.soleField "StaffRailway$Line" "halves") ∈ lw_all := lw_g (lw_at lw_m3 26 rfl) rfl
theorem q600 : (Jvm.Cond.lays "StaffRailway$Line" "StaffRailway$Line" "losses" "I") ∈ lw_all := lw_g (lw_at lw_m3 27 rfl) rfl
theorem q601 : (Jvm.Cond.soleField "StaffRailway$Line" "losses") ∈ lw_all := lw_g (lw_at lw_m3 28 rfl) rfl
theorem q602 : (Jvm.Cond.superclass "StaffRailway$Line" "java/lang/Object") ∈ lw_all := lw_g (lw_at lw_m3 29 rfl) rfl
theorem q666 : (Jvm.Cond.instanceMethod ({ cls := "StaffRailway$Line", name := "checkWay", desc := "(III)V" } : Jvm.MethodName)) ∈ lw_all := lw_g (lw_at lw_m3 93 rfl) rfl
theorem q667 : (Jvm.Cond.selects "StaffRailway$Line" ({ cls := "StaffRailway$Line", name := "checkWay", desc := "(III)V" } : Jvm.MethodName) ({ cls := "StaffRailway$Line", name := "checkWay", desc := "(III)V" } : Jvm.MethodName)) ∈ lw_all := lw_g (lw_at lw_m3 94 rfl) rfl
theorem q668 : (Jvm.Cond.code ({ cls := "StaffRailway$Line", name := "checkWay", desc := "(III)V" } : Jvm.MethodName) prog_10_method_25_code (5 : Nat) (Option.none : Option Jvm.ClassFile.FieldType)) ∈ lw_all := lw_g (lw_at lw_m3 95 rfl) rfl
theorem q669 : (Jvm.Cond.methodLink "StaffRailway$Line" (227 : Nat) ({ cls := "java/lang/Math", name := "min", desc := "(II)I" } : Jvm.MethodName)) ∈ lw_all := lw_g (lw_at lw_m3 96 rfl) rfl
theorem q670 : (Jvm.Cond.methodLink "StaffRailway$Line" (233 : Nat) ({ cls := "StaffRailway$Line", name := "checkEmpty", desc := "(I)V" } : Jvm.MethodName)) ∈ lw_all := lw_g (lw_at lw_m3 97 rfl) rfl
theorem q671 : (Jvm.Cond.instanceMethod ({ cls := "StaffRailway$Line", name := "checkEmpty", desc := "(I)V" } : Jvm.MethodName)) ∈ lw_all := lw_g (lw_at lw_m3 98 rfl) rfl
theorem q672 : (Jvm.Cond.selects "StaffRailway$Line" ({ cls := "StaffRailway$Line", name := "checkEmpty", desc := "(I)V" } : Jvm.MethodName) ({ cls := "StaffRailway$Line", name := "checkEmpty", desc := "(I)V" } : Jvm.MethodName)) ∈ lw_all := lw_g (lw_at lw_m3 99 rfl) rfl
theorem q673 : (Jvm.Cond.code ({ cls := "StaffRailway$Line", name := "checkEmpty", desc := "(I)V" } : Jvm.MethodName) prog_10_method_21_code (2 : Nat) (Option.none : Option Jvm.ClassFile.FieldType)) ∈ lw_all := lw_g (lw_at lw_m3 100 rfl) rfl
theorem q674 : (Jvm.Cond.methodLink "StaffRailway$Line" (196 : Nat) ({ cls := "StaffRailway$Line", name := "trainIn", desc := "(I)I" } : Jvm.MethodName)) ∈ lw_all := lw_g (lw_at lw_m3 101 rfl) rfl
theorem q675 : (Jvm.Cond.instanceMethod ({ cls := "StaffRailway$Line", name := "trainIn", desc := "(I)I" } : Jvm.MethodName)) ∈ lw_all := lw_g (lw_at lw_m3 102 rfl) rfl
theorem q676 : (Jvm.Cond.selects "StaffRailway$Line" ({ cls := "StaffRailway$Line", name := "trainIn", desc := "(I)I" } : Jvm.MethodName) ({ cls := "StaffRailway$Line", name := "trainIn", desc := "(I)I" } : Jvm.MethodName)) ∈ lw_all := lw_g (lw_at lw_m3 103 rfl) rfl
theorem q677 : (Jvm.Cond.code ({ cls := "StaffRailway$Line", name := "trainIn", desc := "(I)I" } : Jvm.MethodName) prog_10_method_11_code (3 : Nat) (Option.some Jvm.ClassFile.FieldType.int)) ∈ lw_all := lw_g (lw_at lw_m3 104 rfl) rfl
theorem q678 : (Jvm.Cond.methodLink "StaffRailway$Line" (56 : Nat) ({ cls := "java/util/ArrayList", name := "size", desc := "()I" } : Jvm.MethodName)) ∈ lw_all := lw_g (lw_at lw_m3 105 rfl) rfl
theorem q682 : (Jvm.Cond.methodLink "StaffRailway$Line" (60 : Nat) ({ cls := "java/util/ArrayList", name := "get", desc := "(I)Ljava/lang/Object;" } : Jvm.MethodName)) ∈ lw_all := lw_g (lw_at lw_m3 109 rfl) rfl
theorem q696 : (Jvm.Cond.classLink "StaffRailway$Line" (73 : Nat) "StaffRailway$Train") ∈ lw_all := lw_g (lw_at lw_m3 123 rfl) rfl
theorem q697 : (Jvm.Cond.methodLinkNest "StaffRailway$Line" (192 : Nat) ({ cls := "StaffRailway", name := "refuse", desc := "(ZII)V" } : Jvm.MethodName) "StaffRailway") ∈ lw_tbl := lw_at lw_m3 124 rfl
theorem q728 : (Jvm.Cond.methodLink "StaffRailway$Line" (236 : Nat) ({ cls := "StaffRailway$Line", name := "checkToken", desc := "(II)V" } : Jvm.MethodName)) ∈ lw_all := lw_g (lw_at lw_m3 155 rfl) rfl
theorem q729 : (Jvm.Cond.privateMethod ({ cls := "StaffRailway$Line", name := "checkToken", desc := "(II)V" } : Jvm.MethodName)) ∈ lw_tbl := lw_at lw_m3 156 rfl
theorem q730 : (Jvm.Cond.instanceMethod ({ cls := "StaffRailway$Line", name := "checkToken", desc := "(II)V" } : Jvm.MethodName)) ∈ lw_all := lw_g (lw_at lw_m3 157 rfl) rfl
theorem q731 : (Jvm.Cond.codeWith ({ cls := "StaffRailway$Line", name := "checkToken", desc := "(II)V" } : Jvm.MethodName) prog_10_method_24_code (4 : Nat) (Option.none : Option Jvm.ClassFile.FieldType) [((0 : Nat), (6 : Nat), (9 : Nat), (204 : Nat))]) ∈ lw_all := lw_g (lw_at lw_m3 158 rfl) rfl
theorem q732 : (Jvm.Cond.classLink "StaffRailway$Line" (204 : Nat) "StaffRailway$Refused") ∈ lw_all := lw_g (lw_at lw_m3 159 rfl) rfl
theorem q733 : (Jvm.Cond.methodLink "StaffRailway$Line" (224 : Nat) ({ cls := "StaffRailway$Line", name := "looksForToken", desc := "(II)V" } : Jvm.MethodName)) ∈ lw_all := lw_g (lw_at lw_m3 160 rfl) rfl
theorem q734 : (Jvm.Cond.privateMethod ({ cls := "StaffRailway$Line", name := "looksForToken", desc := "(II)V" } : Jvm.MethodName)) ∈ lw_tbl := lw_at lw_m3 161 rfl
theorem q735 : (Jvm.Cond.instanceMethod ({ cls := "StaffRailway$Line", name := "looksForToken", desc := "(II)V" } : Jvm.MethodName)) ∈ lw_all := lw_g (lw_at lw_m3 162 rfl) rfl
theorem q736 : (Jvm.Cond.code ({ cls := "StaffRailway$Line", name := "looksForToken", desc := "(II)V" } : Jvm.MethodName) prog_10_method_23_code (6 : Nat) (Option.none : Option Jvm.ClassFile.FieldType)) ∈ lw_all := lw_g (lw_at lw_m3 163 rfl) rfl
theorem q737 : (Jvm.Cond.methodLink "StaffRailway$Line" (214 : Nat) ({ cls := "StaffRailway$Line", name := "checkReplaced", desc := "(II)V" } : Jvm.MethodName)) ∈ lw_all := lw_g (lw_at lw_m3 164 rfl) rfl
theorem q738 : (Jvm.Cond.privateMethod ({ cls := "StaffRailway$Line", name := "checkReplaced", desc := "(II)V" } : Jvm.MethodName)) ∈ lw_tbl := lw_at lw_m3 165 rfl
theorem q739 : (Jvm.Cond.instanceMethod ({ cls := "StaffRailway$Line", name := "checkReplaced", desc := "(II)V" } : Jvm.MethodName)) ∈ lw_all := lw_g (lw_at lw_m3 166 rfl) rfl
theorem q740 : (Jvm.Cond.code ({ cls := "StaffRailway$Line", name := "checkReplaced", desc := "(II)V" } : Jvm.MethodName) prog_10_method_22_code (5 : Nat) (Option.none : Option Jvm.ClassFile.FieldType)) ∈ lw_all := lw_g (lw_at lw_m3 167 rfl) rfl
theorem q741 : (Jvm.Cond.methodLink "StaffRailway$Line" (199 : Nat) ({ cls := "StaffRailway$Line", name := "pilotmanOf", desc := "(I)LStaffRailway$Pilotman;" } : Jvm.MethodName)) ∈ lw_all := lw_g (lw_at lw_m3 168 rfl) rfl
theorem q742 : (Jvm.Cond.instanceMethod ({ cls := "StaffRailway$Line", name := "pilotmanOf", desc := "(I)LStaffRailway$Pilotman;" } : Jvm.MethodName)) ∈ lw_all := lw_g (lw_at lw_m3 169 rfl) rfl
theorem q743 : (Jvm.Cond.selects "StaffRailway$Line" ({ cls := "StaffRailway$Line", name := "pilotmanOf", desc := "(I)LStaffRailway$Pilotman;" } : Jvm.MethodName) ({ cls := "StaffRailway$Line", name := "pilotmanOf", desc := "(I)LStaffRailway$Pilotman;" } : Jvm.MethodName)) ∈ lw_all := lw_g (lw_at lw_m3 170 rfl) rfl
theorem q744 : (Jvm.Cond.code ({ cls := "StaffRailway$Line", name := "pilotmanOf", desc := "(I)LStaffRailway$Pilotman;" } : Jvm.MethodName) prog_10_method_12_code (2 : Nat) (Option.some (Jvm.ClassFile.FieldType.object "StaffRailway$Pilotman"))) ∈ lw_all := lw_g (lw_at lw_m3 171 rfl) rfl
theorem q745 : (Jvm.Cond.static ({ cls := "StaffRailway$Line", name := "lambda$pilotmanOf$2", desc := "(ILStaffRailway$Pilotman;)Z" } : Jvm.MethodName)) ∈ lw_all := lw_g (lw_at lw_m3 172 rfl) rfl
theorem q746 : (Jvm.Cond.code ({ cls := "StaffRailway$Line", name := "lambda$pilotmanOf$2", desc := "(ILStaffRailway$Pilotman;)Z" } : Jvm.MethodName) prog_10_method_45_code (2 : Nat) (Option.some Jvm.ClassFile.FieldType.boolean)) ∈ lw_all := lw_g (lw_at lw_m3 173 rfl) rfl
theorem q747 : (Jvm.Cond.methodLink "StaffRailway$Line" (174 : Nat) ({ cls := "StaffRailway$Line", name := "firstOf", desc := "(LStaffRailway$OfPilotman;)LStaffRailway$Pilotman;" } : Jvm.MethodName)) ∈ lw_all := lw_g (lw_at lw_m3 174 rfl) rfl
theorem q748 : (Jvm.Cond.privateMethod ({ cls := "StaffRailway$Line", name := "firstOf", desc := "(LStaffRailway$OfPilotman;)LStaffRailway$Pilotman;" } : Jvm.MethodName)) ∈ lw_tbl := lw_at lw_m3 175 rfl
theorem q749 : (Jvm.Cond.instanceMethod ({ cls := "StaffRailway$Line", name := "firstOf", desc := "(LStaffRailway$OfPilotman;)LStaffRailway$Pilotman;" } : Jvm.MethodName)) ∈ lw_all := lw_g (lw_at lw_m3 176 rfl) rfl
theorem q750 : (Jvm.Cond.code ({ cls := "StaffRailway$Line", name := "firstOf", desc := "(LStaffRailway$OfPilotman;)LStaffRailway$Pilotman;" } : Jvm.MethodName) prog_10_method_6_code (4 : Nat) (Option.some (Jvm.ClassFile.FieldType.object "StaffRailway$Pilotman"))) ∈ lw_all := lw_g (lw_at lw_m3 177 rfl) rfl
theorem q751 : (Jvm.Cond.methodLink "StaffRailway$Line" (129 : Nat) ({ cls := "java/util/ArrayList", name := "iterator", desc := "()Ljava/util/Iterator;" } : Jvm.MethodName)) ∈ lw_all := lw_g (lw_at lw_m3 178 rfl) rfl
theorem q774 : (Jvm.Cond.interfaceEntry "StaffRailway$Line" (133 : Nat)) ∈ lw_tbl := lw_at lw_m3 201 rfl
theorem q775 : (Jvm.Cond.methodLink "StaffRailway$Line" (133 : Nat) ({ cls := "java/util/Iterator", name := "hasNext", desc := "()Z" } : Jvm.MethodName)) ∈ lw_all := lw_g (lw_at lw_m3 202 rfl) rfl
theorem q804 : (Jvm.Cond.interfaceEntry "StaffRailway$Line" (138 : Nat)) ∈ lw_tbl := lw_at lw_m3 231 rfl
theorem q805 : (Jvm.Cond.methodLink "StaffRailway$Line" (138 : Nat) ({ cls := "java/util/Iterator", name := "next", desc := "()Ljava/lang/Object;" } : Jvm.MethodName)) ∈ lw_all := lw_g (lw_at lw_m3 232 rfl) rfl
theorem q889 : (Jvm.Cond.classLink "StaffRailway$Line" (64 : Nat) "StaffRailway$Pilotman") ∈ lw_all := lw_g (lw_at lw_m4 76 rfl) rfl
theorem q890 : (Jvm.Cond.interfaceEntry "StaffRailway$Line" (148 : Nat)) ∈ lw_tbl := lw_at lw_m4 77 rfl
theorem q891 : (Jvm.Cond.methodLink "StaffRailway$Line" (148 : Nat) ({ cls := "StaffRailway$OfPilotman", name := "isSo", desc := "(LStaffRailway$Pilotman;)Z" } : Jvm.MethodName)) ∈ lw_all := lw_g (lw_at lw_m4 78 rfl) rfl
theorem q894 : (Jvm.Cond.static ({ cls := "StaffRailway$Line", name := "lambda$checkReplaced$3", desc := "(ILStaffRailway$Pilotman;)Z" } : Jvm.MethodName)) ∈ lw_all := lw_g (lw_at lw_m4 81 rfl) rfl
theorem q895 : (Jvm.Cond.code ({ cls := "StaffRailway$Line", name := "lambda$checkReplaced$3", desc := "(ILStaffRailway$Pilotman;)Z" } : Jvm.MethodName) prog_10_method_44_code (2 : Nat) (Option.some Jvm.ClassFile.FieldType.boolean)) ∈ lw_all := lw_g (lw_at lw_m4 82 rfl) rfl
theorem q896 : (Jvm.Cond.methodLink "StaffRailway$Line" (314 : Nat) ({ cls := "StaffRailway$Pilotman", name := "isFree", desc := "()Z" } : Jvm.MethodName)) ∈ lw_all := lw_g (lw_at lw_m4 83 rfl) rfl
theorem q900 : (Jvm.Cond.methodLink "StaffRailway$Line" (303 : Nat) ({ cls := "StaffRailway$Line", name := "isEnd", desc := "(II)Z" } : Jvm.MethodName)) ∈ lw_all := lw_g (lw_at lw_m4 87 rfl) rfl
theorem q901 : (Jvm.Cond.static ({ cls := "StaffRailway$Line", name := "isEnd", desc := "(II)Z" } : Jvm.MethodName)) ∈ lw_all := lw_g (lw_at lw_m4 88 rfl) rfl
theorem q902 : (Jvm.Cond.code ({ cls := "StaffRailway$Line", name := "isEnd", desc := "(II)Z" } : Jvm.MethodName) prog_10_method_13_code (2 : Nat) (Option.some Jvm.ClassFile.FieldType.boolean)) ∈ lw_all := lw_g (lw_at lw_m4 89 rfl) rfl
theorem q903 : (Jvm.Cond.methodLink "StaffRailway$Line" (206 : Nat) ({ cls := "StaffRailway$Refused", name := "<init>", desc := "(II)V" } : Jvm.MethodName)) ∈ lw_all := lw_g (lw_at lw_m4 90 rfl) rfl
theorem q904 : (Jvm.Cond.methodLink "StaffRailway$Line" (207 : Nat) ({ cls := "StaffRailway$Refused", name := "<init>", desc := "(IILStaffRailway$Refused;)V" } : Jvm.MethodName)) ∈ lw_all := lw_g (lw_at lw_m4 91 rfl) rfl
theorem q905 : (Jvm.Cond.methodLink "StaffRailway$Line" (217 : Nat) ({ cls := "StaffRailway$Stretch", name := "tokens", desc := "(Z)I" } : Jvm.MethodName)) ∈ lw_all := lw_g (lw_at lw_m4 92 rfl) rfl
theorem q909 : (Jvm.Cond.methodLink "StaffRailway$Line" (239 : Nat) ({ cls := "StaffRailway$Stretch", name := "isTooHeavy", desc := "(I)Z" } : Jvm.MethodName)) ∈ lw_all := lw_g (lw_at lw_m4 96 rfl) rfl
theorem q913 : (Jvm.Cond.methodLink "StaffRailway$Line" (167 : Nat) ({ cls := "StaffRailway$Line", name := "standing", desc := "(I)I" } : Jvm.MethodName)) ∈ lw_all := lw_g (lw_at lw_m4 100 rfl) rfl
theorem q914 : (Jvm.Cond.instanceMethod ({ cls := "StaffRailway$Line", name := "standing", desc := "(I)I" } : Jvm.MethodName)) ∈ lw_all := lw_g (lw_at lw_m4 101 rfl) rfl
theorem q915 : (Jvm.Cond.selects "StaffRailway$Line" ({ cls := "StaffRailway$Line", name := "standing", desc := "(I)I" } : Jvm.MethodName) ({ cls := "StaffRailway$Line", name := "standing", desc := "(I)I" } : Jvm.MethodName)) ∈ lw_all := lw_g (lw_at lw_m4 102 rfl) rfl
theorem q916 : (Jvm.Cond.code ({ cls := "StaffRailway$Line", name := "standing", desc := "(I)I" } : Jvm.MethodName) prog_10_method_8_code (2 : Nat) (Option.some Jvm.ClassFile.FieldType.int)) ∈ lw_all := lw_g (lw_at lw_m4 103 rfl) rfl
theorem q917 : (Jvm.Cond.static ({ cls := "StaffRailway$Line", name := "lambda$standing$0", desc := "(ILStaffRailway$Train;)Z" } : Jvm.MethodName)) ∈ lw_all := lw_g (lw_at lw_m4 104 rfl) rfl
theorem q918 : (Jvm.Cond.code ({ cls := "StaffRailway$Line", name := "lambda$standing$0", desc := "(ILStaffRailway$Train;)Z" } : Jvm.MethodName) prog_10_method_47_code (2 : Nat) (Option.some Jvm.ClassFile.FieldType.boolean)) ∈ lw_all := lw_g (lw_at lw_m4 105 rfl) rfl
theorem q919 : (Jvm.Cond.methodLink "StaffRailway$Line" (162 : Nat) ({ cls := "StaffRailway$Line", name := "count", desc := "(LStaffRailway$OfTrain;)I" } : Jvm.MethodName)) ∈ lw_all := lw_g (lw_at lw_m4 106 rfl) rfl
theorem q920 : (Jvm.Cond.instanceMethod ({ cls := "StaffRailway$Line", name := "count", desc := "(LStaffRailway$OfTrain;)I" } : Jvm.MethodName)) ∈ lw_all := lw_g (lw_at lw_m4 107 rfl) rfl
theorem q921 : (Jvm.Cond.selects "StaffRailway$Line" ({ cls := "StaffRailway$Line", name := "count", desc := "(LStaffRailway$OfTrain;)I" } : Jvm.MethodName) ({ cls := "StaffRailway$Line", name := "count", desc := "(LStaffRailway$OfTrain;)I" } : Jvm.MethodName)) ∈ lw_all := lw_g (lw_at lw_m4 108 rfl) rfl
theorem q922 : (Jvm.Cond.code ({ cls := "StaffRailway$Line", name := "count", desc := "(LStaffRailway$OfTrain;)I" } : Jvm.MethodName) prog_10_method_4_code (5 : Nat) (Option.some Jvm.ClassFile.FieldType.int)) ∈ lw_all := lw_g (lw_at lw_m4 109 rfl) rfl
theorem q923 : (Jvm.Cond.interfaceEntry "StaffRailway$Line" (142 : Nat)) ∈ lw_tbl := lw_at lw_m4 110 rfl
theorem q924 : (Jvm.Cond.methodLink "StaffRailway$Line" (142 : Nat) ({ cls := "StaffRailway$OfTrain", name := "isSo", desc := "(LStaffRailway$Train;)Z" } : Jvm.MethodName)) ∈ lw_all := lw_g (lw_at lw_m4 111 rfl) rfl
theorem q927 : (Jvm.Cond.methodLink "StaffRailway$Line" (246 : Nat) ({ cls := "StaffRailway$Line", name := "underWayTo", desc := "(I)I" } : Jvm.MethodName)) ∈ lw_all := lw_g (lw_at lw_m4 114 rfl) rfl
theorem q928 : (Jvm.Cond.instanceMethod ({ cls := "StaffRailway$Line", name := "underWayTo", desc := "(I)I" } : Jvm.MethodName)) ∈ lw_all := lw_g (lw_at lw_m4 115 rfl) rfl
theorem q929 : (Jvm.Cond.selects "StaffRailway$Line" ({ cls := "StaffRailway$Line", name := "underWayTo", desc := "(I)I" } : Jvm.MethodName) ({ cls := "StaffRailway$Line", name := "underWayTo", desc := "(I)I" } : Jvm.MethodName)) ∈ lw_all := lw_g (lw_at lw_m4 116 rfl) rfl
theorem q930 : (Jvm.Cond.code ({ cls := "StaffRailway$Line", name := "underWayTo", desc := "(I)I" } : Jvm.MethodName) prog_10_method_9_code (2 : Nat) (Option.some Jvm.ClassFile.FieldType.int)) ∈ lw_all := lw_g (lw_at lw_m4 117 rfl) rfl
theorem q931 : (Jvm.Cond.static ({ cls := "StaffRailway$Line", name := "lambda$underWayTo$1", desc := "(ILStaffRailway$Train;)Z" } : Jvm.MethodName)) ∈ lw_all := lw_g (lw_at lw_m4 118 rfl) rfl
theorem q932 : (Jvm.Cond.code ({ cls := "StaffRailway$Line", name := "lambda$underWayTo$1", desc := "(ILStaffRailway$Train;)Z" } : Jvm.MethodName) prog_10_method_46_code (2 : Nat) (Option.some Jvm.ClassFile.FieldType.boolean)) ∈ lw_all := lw_g (lw_at lw_m4 119 rfl) rfl
theorem q933 : (Jvm.Cond.methodLink "StaffRailway$Line" (101 : Nat) ({ cls := "StaffRailway$Train", name := "isUnderWay", desc := "()Z" } : Jvm.MethodName)) ∈ lw_all := lw_g (lw_at lw_m4 120 rfl) rfl
theorem q940 : (Jvm.Cond.instanceMethod ({ cls := "StaffRailway$Line", name := "copy", desc := "()LStaffRailway$Line;" } : Jvm.MethodName)) ∈ lw_all := lw_g (lw_at lw_m4 127 rfl) rfl
theorem q941 : (Jvm.Cond.selects "StaffRailway$Line" ({ cls := "StaffRailway$Line", name := "copy", desc := "()LStaffRailway$Line;" } : Jvm.MethodName) ({ cls := "StaffRailway$Line", name := "copy", desc := "()LStaffRailway$Line;" } : Jvm.MethodName)) ∈ lw_all := lw_g (lw_at lw_m4 128 rfl) rfl
theorem q942 : (Jvm.Cond.code ({ cls := "StaffRailway$Line", name := "copy", desc := "()LStaffRailway$Line;" } : Jvm.MethodName) prog_10_method_2_code (3 : Nat) (Option.some (Jvm.ClassFile.FieldType.object "StaffRailway$Line"))) ∈ lw_all := lw_g (lw_at lw_m4 129 rfl) rfl
theorem q943 : (Jvm.Cond.classLink "StaffRailway$Line" (10 : Nat) "StaffRailway$Line") ∈ lw_all := lw_g (lw_at lw_m4 130 rfl) rfl
theorem q944 : (Jvm.Cond.methodLink "StaffRailway$Line" (41 : Nat) ({ cls := "StaffRailway$Line", name := "<init>", desc := "()V" } : Jvm.MethodName)) ∈ lw_all := lw_g (lw_at lw_m4 131 rfl) rfl
theorem q945 : (Jvm.Cond.methodLink "StaffRailway$Line" (42 : Nat) ({ cls := "java/lang/System", name := "arraycopy", desc := "(Ljava/lang/Object;ILjava/lang/Object;II)V" } : Jvm.MethodName)) ∈ lw_all := lw_g (lw_at lw_m4 132 rfl) rfl
theorem q946 : (Jvm.Cond.methodLink "StaffRailway$Line" (48 : Nat) ({ cls := "StaffRailway$Box", name := "becomes", desc := "(LStaffRailway$Box;)V" } : Jvm.MethodName)) ∈ lw_all := lw_g (lw_at lw_m4 133 rfl) rfl
theorem q951 : (Jvm.Cond.methodLink "StaffRailway$Line" (52 : Nat) ({ cls := "StaffRailway$Stretch", name := "copy", desc := "()LStaffRailway$Stretch;" } : Jvm.MethodName)) ∈ lw_all := lw_g (lw_at lw_m4 138 rfl) rfl
theorem q957 : (Jvm.Cond.methodLink "StaffRailway$Line" (66 : Nat) ({ cls := "StaffRailway$Pilotman", name := "copy", desc := "()LStaffRailway$Pilotman;" } : Jvm.MethodName)) ∈ lw_all := lw_g (lw_at lw_m4 144 rfl) rfl
theorem q968 : (Jvm.Cond.fieldLinkNest "StaffRailway$Line" (122 : Nat) "StaffRailway$Pilotman" "number" "I" "StaffRailway") ∈ lw_tbl := lw_at lw_m4 155 rfl
theorem q971 : (Jvm.Cond.fieldLinkNest "StaffRailway$Line" (210 : Nat) "StaffRailway$Pilotman" "station" "I" "StaffRailway") ∈ lw_tbl := lw_at lw_m4 158 rfl
theorem q975 : (Jvm.Cond.fieldLinkNest "StaffRailway$Line" (310 : Nat) "StaffRailway$Pilotman" "stretch" "I" "StaffRailway") ∈ lw_tbl := lw_at lw_m4 162 rfl
theorem q983 : (Jvm.Cond.methodLink "StaffRailway$Line" (69 : Nat) ({ cls := "java/util/ArrayList", name := "add", desc := "(Ljava/lang/Object;)Z" } : Jvm.MethodName)) ∈ lw_all := lw_g (lw_at lw_m4 170 rfl) rfl
theorem q1015 : (Jvm.Cond.selects "StaffRailway$Line" ({ cls := "java/lang/Object", name := "getClass", desc := "()Ljava/lang/Class;" } : Jvm.MethodName) ({ cls := "java/lang/Object", name := "getClass", desc := "()Ljava/lang/Class;" } : Jvm.MethodName)) ∈ lw_all := lw_g (lw_at lw_m4 202 rfl) rfl
theorem q1045 : (Jvm.Cond.methodLink "StaffRailway$Line" (75 : Nat) ({ cls := "StaffRailway$Line", name := "like", desc := "(LStaffRailway$Train;)LStaffRailway$Train;" } : Jvm.MethodName)) ∈ lw_all := lw_g (lw_at lw_m4 232 rfl) rfl
theorem q1046 : (Jvm.Cond.privateMethod ({ cls := "StaffRailway$Line", name := "like", desc := "(LStaffRailway$Train;)LStaffRailway$Train;" } : Jvm.MethodName)) ∈ lw_tbl := lw_at lw_m4 233 rfl
theorem q1047 : (Jvm.Cond.instanceMethod ({ cls := "StaffRailway$Line", name := "like", desc := "(LStaffRailway$Train;)LStaffRailway$Train;" } : Jvm.MethodName)) ∈ lw_all := lw_g (lw_at lw_m4 234 rfl) rfl
theorem q1048 : (Jvm.Cond.code ({ cls := "StaffRailway$Line", name := "like", desc := "(LStaffRailway$Train;)LStaffRailway$Train;" } : Jvm.MethodName) prog_10_method_3_code (3 : Nat) (Option.some (Jvm.ClassFile.FieldType.object "StaffRailway$Train"))) ∈ lw_all := lw_g (lw_at lw_m4 235 rfl) rfl
theorem q1050 : (Jvm.Cond.methodLink "StaffRailway$Line" (98 : Nat) ({ cls := "StaffRailway$Train", name := "<init>", desc := "(II)V" } : Jvm.MethodName)) ∈ lw_all := lw_g (lw_at lw_m4 237 rfl) rfl
theorem q1060 : (Jvm.Cond.fieldLinkNest "StaffRailway$Line" (95 : Nat) "StaffRailway$Train" "wagons" "I" "StaffRailway") ∈ lw_tbl := lw_at lw_m5 7 rfl
theorem q1064 : (Jvm.Cond.fieldLinkNest "StaffRailway$Line" (92 : Nat) "StaffRailway$Train" "station" "I" "StaffRailway") ∈ lw_tbl := lw_at lw_m5 11 rfl
theorem q1067 : (Jvm.Cond.fieldLinkNest "StaffRailway$Line" (105 : Nat) "StaffRailway$Train" "stretch" "I" "StaffRailway") ∈ lw_tbl := lw_at lw_m5 14 rfl
theorem q1070 : (Jvm.Cond.fieldLinkNest "StaffRailway$Line" (108 : Nat) "StaffRailway$Train" "to" "I" "StaffRailway") ∈ lw_tbl := lw_at lw_m5 17 rfl
theorem q1073 : (Jvm.Cond.fieldLinkNest "StaffRailway$Line" (111 : Nat) "StaffRailway$Train" "minutes" "I" "StaffRailway") ∈ lw_tbl := lw_at lw_m5 20 rfl
theorem q1076 : (Jvm.Cond.fieldLinkNest "StaffRailway$Line" (118 : Nat) "StaffRailway$Train" "pilotman" "LStaffRailway$Pilotman;" "StaffRailway") ∈ lw_tbl := lw_at lw_m5 23 rfl
theorem q1079 : (Jvm.Cond.fieldLinkNest "StaffRailway$Line" (125 : Nat) "StaffRailway$Train" "hasToken" "Z" "StaffRailway") ∈ lw_tbl := lw_at lw_m5 26 rfl
theorem q1096 : (Jvm.Cond.methodLink "StaffRailway$Line" (114 : Nat) ({ cls := "StaffRailway$Train", name := "goes", desc := "(III)V" } : Jvm.MethodName)) ∈ lw_all := lw_g (lw_at lw_m5 43 rfl) rfl
theorem q1273 : (Jvm.Cond.instanceMethod ({ cls := "StaffRailway$Line", name := "countPilotmen", desc := "(LStaffRailway$OfPilotman;)I" } : Jvm.MethodName)) ∈ lw_all := lw_g (lw_at lw_m5 220 rfl) rfl
theorem q1274 : (Jvm.Cond.selects "StaffRailway$Line" ({ cls := "StaffRailway$Line", name := "countPilotmen", desc := "(LStaffRailway$OfPilotman;)I" } : Jvm.MethodName) ({ cls := "StaffRailway$Line", name := "countPilotmen", desc := "(LStaffRailway$OfPilotman;)I" } : Jvm.MethodName)) ∈ lw_all := lw_g (lw_at lw_m5 221 rfl) rfl
theorem q1275 : (Jvm.Cond.code ({ cls := "StaffRailway$Line", name := "countPilotmen", desc := "(LStaffRailway$OfPilotman;)I" } : Jvm.MethodName) prog_10_method_5_code (5 : Nat) (Option.some Jvm.ClassFile.FieldType.int)) ∈ lw_all := lw_g (lw_at lw_m5 222 rfl) rfl
theorem q1298 : (Jvm.Cond.instanceMethod ({ cls := "StaffRailway$Line", name := "addsTrain", desc := "(II)I" } : Jvm.MethodName)) ∈ lw_all := lw_g (lw_at lw_m6 5 rfl) rfl
theorem q1299 : (Jvm.Cond.selects "StaffRailway$Line" ({ cls := "StaffRailway$Line", name := "addsTrain", desc := "(II)I" } : Jvm.MethodName) ({ cls := "StaffRailway$Line", name := "addsTrain", desc := "(II)I" } : Jvm.MethodName)) ∈ lw_all := lw_g (lw_at lw_m6 6 rfl) rfl
theorem q1300 : (Jvm.Cond.code ({ cls := "StaffRailway$Line", name := "addsTrain", desc := "(II)I" } : Jvm.MethodName) prog_10_method_37_code (3 : Nat) (Option.some Jvm.ClassFile.FieldType.int)) ∈ lw_all := lw_g (lw_at lw_m6 7 rfl) rfl
theorem q1301 : (Jvm.Cond.methodLink "StaffRailway$Line" (282 : Nat) ({ cls := "StaffRailway$Line", name := "isTrackFree", desc := "(I)Z" } : Jvm.MethodName)) ∈ lw_all := lw_g (lw_at lw_m6 8 rfl) rfl
theorem q1302 : (Jvm.Cond.instanceMethod ({ cls := "StaffRailway$Line", name := "isTrackFree", desc := "(I)Z" } : Jvm.MethodName)) ∈ lw_all := lw_g (lw_at lw_m6 9 rfl) rfl
theorem q1303 : (Jvm.Cond.selects "StaffRailway$Line" ({ cls := "StaffRailway$Line", name := "isTrackFree", desc := "(I)Z" } : Jvm.MethodName) ({ cls := "StaffRailway$Line", name := "isTrackFree", desc := "(I)Z" } : Jvm.MethodName)) ∈ lw_all := lw_g (lw_at lw_m6 10 rfl) rfl
theorem q1304 : (Jvm.Cond.code ({ cls := "StaffRailway$Line", name := "isTrackFree", desc := "(I)Z" } : Jvm.MethodName) prog_10_method_10_code (2 : Nat) (Option.some Jvm.ClassFile.FieldType.boolean)) ∈ lw_all := lw_g (lw_at lw_m6 11 rfl) rfl
theorem q1315 : (Jvm.Cond.instanceMethod ({ cls := "StaffRailway$Line", name := "removes", desc := "(I)I" } : Jvm.MethodName)) ∈ lw_all := lw_g (lw_at lw_m6 22 rfl) rfl
theorem q1316 : (Jvm.Cond.selects "StaffRailway$Line" ({ cls := "StaffRailway$Line", name := "removes", desc := "(I)I" } : Jvm.MethodName) ({ cls := "StaffRailway$Line", name := "removes", desc := "(I)I" } : Jvm.MethodName)) ∈ lw_all := lw_g (lw_at lw_m6 23 rfl) rfl
theorem q1317 : (Jvm.Cond.code ({ cls := "StaffRailway$Line", name := "removes", desc := "(I)I" } : Jvm.MethodName) prog_10_method_38_code (3 : Nat) (Option.some Jvm.ClassFile.FieldType.int)) ∈ lw_all := lw_g (lw_at lw_m6 24 rfl) rfl
theorem q1318 : (Jvm.Cond.methodLink "StaffRailway$Line" (249 : Nat) ({ cls := "StaffRailway$Line", name := "checkTrain", desc := "(I)V" } : Jvm.MethodName)) ∈ lw_all := lw_g (lw_at lw_m6 25 rfl) rfl
theorem q1319 : (Jvm.Cond.instanceMethod ({ cls := "StaffRailway$Line", name := "checkTrain", desc := "(I)V" } : Jvm.MethodName)) ∈ lw_all := lw_g (lw_at lw_m6 26 rfl) rfl
theorem q1320 : (Jvm.Cond.selects "StaffRailway$Line" ({ cls := "StaffRailway$Line", name := "checkTrain", desc := "(I)V" } : Jvm.MethodName) ({ cls := "StaffRailway$Line", name := "checkTrain", desc := "(I)V" } : Jvm.MethodName)) ∈ lw_all := lw_g (lw_at lw_m6 27 rfl) rfl
theorem q1321 : (Jvm.Cond.code ({ cls := "StaffRailway$Line", name := "checkTrain", desc := "(I)V" } : Jvm.MethodName) prog_10_method_18_code (2 : Nat) (Option.none : Option Jvm.ClassFile.FieldType)) ∈ lw_all := lw_g (lw_at lw_m6 28 rfl) rfl
theorem q1322 : (Jvm.Cond.methodLinkNest "StaffRailway$Line" (188 : Nat) ({ cls := "StaffRailway", name := "isIn", desc := "(III)Z" } : Jvm.MethodName) "StaffRailway") ∈ lw_tbl := lw_at lw_m6 29 rfl
theorem q1323 : (Jvm.Cond.methodLink "StaffRailway$Line" (255 : Nat) ({ cls := "StaffRailway$Line", name := "checkStands", desc := "(I)V" } : Jvm.MethodName)) ∈ lw_all := lw_g (lw_at lw_m6 30 rfl) rfl
theorem q1324 : (Jvm.Cond.instanceMethod ({ cls := "StaffRailway$Line", name := "checkStands", desc := "(I)V" } : Jvm.MethodName)) ∈ lw_all := lw_g (lw_at lw_m6 31 rfl) rfl
theorem q1325 : (Jvm.Cond.selects "StaffRailway$Line" ({ cls := "StaffRailway$Line", name := "checkStands", desc := "(I)V" } : Jvm.MethodName) ({ cls := "StaffRailway$Line", name := "checkStands", desc := "(I)V" } : Jvm.MethodName)) ∈ lw_all := lw_g (lw_at lw_m6 32 rfl) rfl
theorem q1326 : (Jvm.Cond.code ({ cls := "StaffRailway$Line", name := "checkStands", desc := "(I)V" } : Jvm.MethodName) prog_10_method_20_code (2 : Nat) (Option.none : Option Jvm.ClassFile.FieldType)) ∈ lw_all := lw_g (lw_at lw_m6 33 rfl) rfl
theorem q1327 : (Jvm.Cond.methodLink "StaffRailway$Line" (317 : Nat) ({ cls := "java/util/ArrayList", name := "remove", desc := "(I)Ljava/lang/Object;" } : Jvm.MethodName)) ∈ lw_all := lw_g (lw_at lw_m6 34 rfl) rfl
theorem q1346 : (Jvm.Cond.instanceMethod ({ cls := "StaffRailway$Line", name := "divides", desc := "(II)I" } : Jvm.MethodName)) ∈ lw_all := lw_g (lw_at lw_m6 53 rfl) rfl
theorem q1347 : (Jvm.Cond.selects "StaffRailway$Line" ({ cls := "StaffRailway$Line", name := "divides", desc := "(II)I" } : Jvm.MethodName) ({ cls := "StaffRailway$Line", name := "divides", desc := "(II)I" } : Jvm.MethodName)) ∈ lw_all := lw_g (lw_at lw_m6 54 rfl) rfl
theorem q1348 : (Jvm.Cond.code ({ cls := "StaffRailway$Line", name := "divides", desc := "(II)I" } : Jvm.MethodName) prog_10_method_39_code (5 : Nat) (Option.some Jvm.ClassFile.FieldType.int)) ∈ lw_all := lw_g (lw_at lw_m6 55 rfl) rfl
theorem q1349 : (Jvm.Cond.methodLink "StaffRailway$Line" (320 : Nat) ({ cls := "StaffRailway$Line", name := "addsTrain", desc := "(II)I" } : Jvm.MethodName)) ∈ lw_all := lw_g (lw_at lw_m6 56 rfl) rfl
theorem q1360 : (Jvm.Cond.instanceMethod ({ cls := "StaffRailway$Line", name := "couples", desc := "(II)I" } : Jvm.MethodName)) ∈ lw_all := lw_g (lw_at lw_m6 67 rfl) rfl
theorem q1361 : (Jvm.Cond.selects "StaffRailway$Line" ({ cls := "StaffRailway$Line", name := "couples", desc := "(II)I" } : Jvm.MethodName) ({ cls := "StaffRailway$Line", name := "couples", desc := "(II)I" } : Jvm.MethodName)) ∈ lw_all := lw_g (lw_at lw_m6 68 rfl) rfl
theorem q1362 : (Jvm.Cond.code ({ cls := "StaffRailway$Line", name := "couples", desc := "(II)I" } : Jvm.MethodName) prog_10_method_41_code (6 : Nat) (Option.some Jvm.ClassFile.FieldType.int)) ∈ lw_all := lw_g (lw_at lw_m6 69 rfl) rfl
theorem q1363 : (Jvm.Cond.methodLink "StaffRailway$Line" (323 : Nat) ({ cls := "StaffRailway$Line", name := "checkTwo", desc := "(II)V" } : Jvm.MethodName)) ∈ lw_all := lw_g (lw_at lw_m6 70 rfl) rfl
theorem q1364 : (Jvm.Cond.instanceMethod ({ cls := "StaffRailway$Line", name := "checkTwo", desc := "(II)V" } : Jvm.MethodName)) ∈ lw_all := lw_g (lw_at lw_m6 71 rfl) rfl
theorem q1365 : (Jvm.Cond.selects "StaffRailway$Line" ({ cls := "StaffRailway$Line", name := "checkTwo", desc := "(II)V" } : Jvm.MethodName) ({ cls := "StaffRailway$Line", name := "checkTwo", desc := "(II)V" } : Jvm.MethodName)) ∈ lw_all := lw_g (lw_at lw_m6 72 rfl) rfl
theorem q1366 : (Jvm.Cond.code ({ cls := "StaffRailway$Line", name := "checkTwo", desc := "(II)V" } : Jvm.MethodName) prog_10_method_40_code (3 : Nat) (Option.none : Option Jvm.ClassFile.FieldType)) ∈ lw_all := lw_g (lw_at lw_m6 73 rfl) rfl
theorem q1386 : (Jvm.Cond.instanceMethod ({ cls := "StaffRailway$Line", name := "sends", desc := "(II)I" } : Jvm.MethodName)) ∈ lw_all := lw_g (lw_at lw_m6 93 rfl) rfl
theorem q1387 : (Jvm.Cond.selects "StaffRailway$Line" ({ cls := "StaffRailway$Line", name := "sends", desc := "(II)I" } : Jvm.MethodName) ({ cls := "StaffRailway$Line", name := "sends", desc := "(II)I" } : Jvm.MethodName)) ∈ lw_all := lw_g (lw_at lw_m6 94 rfl) rfl
theorem q1388 : (Jvm.Cond.code ({ cls := "StaffRailway$Line", name := "sends", desc := "(II)I" } : Jvm.MethodName) prog_10_method_27_code (7 : Nat) (Option.some Jvm.ClassFile.FieldType.int)) ∈ lw_all := lw_g (lw_at lw_m6 95 rfl) rfl
theorem q1389 : (Jvm.Cond.methodLink "StaffRailway$Line" (264 : Nat) ({ cls := "StaffRailway$Line", name := "checkSend", desc := "(II)V" } : Jvm.MethodName)) ∈ lw_all := lw_g (lw_at lw_m6 96 rfl) rfl
theorem q1390 : (Jvm.Cond.instanceMethod ({ cls := "StaffRailway$Line", name := "checkSend", desc := "(II)V" } : Jvm.MethodName)) ∈ lw_all := lw_g (lw_at lw_m6 97 rfl) rfl
theorem q1391 : (Jvm.Cond.selects "StaffRailway$Line" ({ cls := "StaffRailway$Line", name := "checkSend", desc := "(II)V" } : Jvm.MethodName) ({ cls := "StaffRailway$Line", name := "checkSend", desc := "(II)V" } : Jvm.MethodName)) ∈ lw_all := lw_g (lw_at lw_m6 98 rfl) rfl
theorem q1392 : (Jvm.Cond.code ({ cls := "StaffRailway$Line", name := "checkSend", desc := "(II)V" } : Jvm.MethodName) prog_10_method_26_code (4 : Nat) (Option.none : Option Jvm.ClassFile.FieldType)) ∈ lw_all := lw_g (lw_at lw_m6 99 rfl) rfl
theorem q1393 : (Jvm.Cond.methodLink "StaffRailway$Line" (252 : Nat) ({ cls := "StaffRailway$Line", name := "checkStation", desc := "(I)V" } : Jvm.MethodName)) ∈ lw_all := lw_g (lw_at lw_m6 100 rfl) rfl
theorem q1394 : (Jvm.Cond.static ({ cls := "StaffRailway$Line", name := "checkStation", desc := "(I)V" } : Jvm.MethodName)) ∈ lw_all := lw_g (lw_at lw_m6 101 rfl) rfl
theorem q1395 : (Jvm.Cond.code ({ cls := "StaffRailway$Line", name := "checkStation", desc := "(I)V" } : Jvm.MethodName) prog_10_method_16_code (1 : Nat) (Option.none : Option Jvm.ClassFile.FieldType)) ∈ lw_all := lw_g (lw_at lw_m6 102 rfl) rfl
theorem q1396 : (Jvm.Cond.methodLink "StaffRailway$Line" (258 : Nat) ({ cls := "java/lang/Math", name := "abs", desc := "(I)I" } : Jvm.MethodName)) ∈ lw_all := lw_g (lw_at lw_m6 103 rfl) rfl
theorem q1399 : (Jvm.Cond.methodLink "StaffRailway$Line" (261 : Nat) ({ cls := "StaffRailway$Line", name := "checkWay", desc := "(III)V" } : Jvm.MethodName)) ∈ lw_all := lw_g (lw_at lw_m6 106 rfl) rfl
theorem q1400 : (Jvm.Cond.methodLink "StaffRailway$Line" (186 : Nat) ({ cls := "StaffRailway$Line", name := "writes", desc := "(III)V" } : Jvm.MethodName)) ∈ lw_all := lw_g (lw_at lw_m6 107 rfl) rfl
theorem q1401 : (Jvm.Cond.privateMethod ({ cls := "StaffRailway$Line", name := "writes", desc := "(III)V" } : Jvm.MethodName)) ∈ lw_tbl := lw_at lw_m6 108 rfl
theorem q1402 : (Jvm.Cond.instanceMethod ({ cls := "StaffRailway$Line", name := "writes", desc := "(III)V" } : Jvm.MethodName)) ∈ lw_all := lw_g (lw_at lw_m6 109 rfl) rfl
theorem q1403 : (Jvm.Cond.code ({ cls := "StaffRailway$Line", name := "writes", desc := "(III)V" } : Jvm.MethodName) prog_10_method_14_code (4 : Nat) (Option.none : Option Jvm.ClassFile.FieldType)) ∈ lw_all := lw_g (lw_at lw_m6 110 rfl) rfl
theorem q1404 : (Jvm.Cond.classLink "StaffRailway$Line" (178 : Nat) "StaffRailway$Entry") ∈ lw_all := lw_g (lw_at lw_m6 111 rfl) rfl
theorem q1406 : (Jvm.Cond.methodLink "StaffRailway$Line" (180 : Nat) ({ cls := "StaffRailway$Entry", name := "<init>", desc := "(III)V" } : Jvm.MethodName)) ∈ lw_all := lw_g (lw_at lw_m6 113 rfl) rfl
theorem q1412 : (Jvm.Cond.fieldLinkNest "StaffRailway$Line" (327 : Nat) "StaffRailway$Entry" "kind" "I" "StaffRailway") ∈ lw_tbl := lw_at lw_m6 119 rfl
theorem q1421 : (Jvm.Cond.methodLink "StaffRailway$Line" (182 : Nat) ({ cls := "StaffRailway$Box", name := "writes", desc := "(LStaffRailway$Entry;)V" } : Jvm.MethodName)) ∈ lw_all := lw_g (lw_at lw_m6 128 rfl) rfl
theorem q1426 : (Jvm.Cond.methodLink "StaffRailway$Line" (267 : Nat) ({ cls := "StaffRailway$Stretch", name := "minutes", desc := "(I)I" } : Jvm.MethodName)) ∈ lw_all := lw_g (lw_at lw_m6 133 rfl) rfl
theorem q1434 : (Jvm.Cond.methodLink "StaffRailway$Line" (269 : Nat) ({ cls := "StaffRailway$Stretch", name := "isLight", desc := "(I)Z" } : Jvm.MethodName)) ∈ lw_all := lw_g (lw_at lw_m6 141 rfl) rfl
theorem q1435 : (Jvm.Cond.methodLink "StaffRailway$Line" (272 : Nat) ({ cls := "StaffRailway$Stretch", name := "adds", desc := "(ZI)V" } : Jvm.MethodName)) ∈ lw_all := lw_g (lw_at lw_m6 142 rfl) rfl
theorem q1449 : (Jvm.Cond.instanceMethod ({ cls := "StaffRailway$Line", name := "passes", desc := "(I)I" } : Jvm.MethodName)) ∈ lw_all := lw_g (lw_at lw_m6 156 rfl) rfl
theorem q1450 : (Jvm.Cond.selects "StaffRailway$Line" ({ cls := "StaffRailway$Line", name := "passes", desc := "(I)I" } : Jvm.MethodName) ({ cls := "StaffRailway$Line", name := "passes", desc := "(I)I" } : Jvm.MethodName)) ∈ lw_all := lw_g (lw_at lw_m6 157 rfl) rfl
theorem q1451 : (Jvm.Cond.code ({ cls := "StaffRailway$Line", name := "passes", desc := "(I)I" } : Jvm.MethodName) prog_10_method_31_code (4 : Nat) (Option.some Jvm.ClassFile.FieldType.int)) ∈ lw_all := lw_g (lw_at lw_m6 158 rfl) rfl
theorem q1452 : (Jvm.Cond.methodLink "StaffRailway$Line" (291 : Nat) ({ cls := "StaffRailway$Line", name := "minuteGoes", desc := "()I" } : Jvm.MethodName)) ∈ lw_all := lw_g (lw_at lw_m6 159 rfl) rfl
theorem q1453 : (Jvm.Cond.privateMethod ({ cls := "StaffRailway$Line", name := "minuteGoes", desc := "()I" } : Jvm.MethodName)) ∈ lw_tbl := lw_at lw_m6 160 rfl
theorem q1454 : (Jvm.Cond.instanceMethod ({ cls := "StaffRailway$Line", name := "minuteGoes", desc := "()I" } : Jvm.MethodName)) ∈ lw_all := lw_g (lw_at lw_m6 161 rfl) rfl
theorem q1455 : (Jvm.Cond.code ({ cls := "StaffRailway$Line", name := "minuteGoes", desc := "()I" } : Jvm.MethodName) prog_10_method_30_code (3 : Nat) (Option.some Jvm.ClassFile.FieldType.int)) ∈ lw_all := lw_g (lw_at lw_m6 162 rfl) rfl
theorem q1456 : (Jvm.Cond.methodLink "StaffRailway$Line" (288 : Nat) ({ cls := "StaffRailway$Line", name := "goesOn", desc := "(I)Z" } : Jvm.MethodName)) ∈ lw_all := lw_g (lw_at lw_m6 163 rfl) rfl
theorem q1457 : (Jvm.Cond.instanceMethod ({ cls := "StaffRailway$Line", name := "goesOn", desc := "(I)Z" } : Jvm.MethodName)) ∈ lw_all := lw_g (lw_at lw_m6 164 rfl) rfl
theorem q1458 : (Jvm.Cond.selects "StaffRailway$Line" ({ cls := "StaffRailway$Line", name := "goesOn", desc := "(I)Z" } : Jvm.MethodName) ({ cls := "StaffRailway$Line", name := "goesOn", desc := "(I)Z" } : Jvm.MethodName)) ∈ lw_all := lw_g (lw_at lw_m6 165 rfl) rfl
theorem q1459 : (Jvm.Cond.code ({ cls := "StaffRailway$Line", name := "goesOn", desc := "(I)Z" } : Jvm.MethodName) prog_10_method_29_code (3 : Nat) (Option.some Jvm.ClassFile.FieldType.boolean)) ∈ lw_all := lw_g (lw_at lw_m6 166 rfl) rfl
theorem q1460 : (Jvm.Cond.methodLink "StaffRailway$Line" (279 : Nat) ({ cls := "java/lang/Math", name := "max", desc := "(II)I" } : Jvm.MethodName)) ∈ lw_all := lw_g (lw_at lw_m6 167 rfl) rfl
theorem q1461 : (Jvm.Cond.methodLink "StaffRailway$Line" (285 : Nat) ({ cls := "StaffRailway$Line", name := "comes", desc := "(I)V" } : Jvm.MethodName)) ∈ lw_all := lw_g (lw_at lw_m6 168 rfl) rfl
theorem q1462 : (Jvm.Cond.privateMethod ({ cls := "StaffRailway$Line", name := "comes", desc := "(I)V" } : Jvm.MethodName)) ∈ lw_tbl := lw_at lw_m6 169 rfl
theorem q1463 : (Jvm.Cond.instanceMethod ({ cls := "StaffRailway$Line", name := "comes", desc := "(I)V" } : Jvm.MethodName)) ∈ lw_all := lw_g (lw_at lw_m6 170 rfl) rfl
theorem q1464 : (Jvm.Cond.code ({ cls := "StaffRailway$Line", name := "comes", desc := "(I)V" } : Jvm.MethodName) prog_10_method_28_code (5 : Nat) (Option.none : Option Jvm.ClassFile.FieldType)) ∈ lw_all := lw_g (lw_at lw_m6 171 rfl) rfl
theorem q1465 : (Jvm.Cond.methodLink "StaffRailway$Line" (276 : Nat) ({ cls := "StaffRailway$Train", name := "stands", desc := "(I)V" } : Jvm.MethodName)) ∈ lw_all := lw_g (lw_at lw_m6 172 rfl) rfl
theorem q1476 : (Jvm.Cond.instanceMethod ({ cls := "StaffRailway$Line", name := "loses", desc := "(I)I" } : Jvm.MethodName)) ∈ lw_all := lw_g (lw_at lw_m6 183 rfl) rfl
theorem q1477 : (Jvm.Cond.selects "StaffRailway$Line" ({ cls := "StaffRailway$Line", name := "loses", desc := "(I)I" } : Jvm.MethodName) ({ cls := "StaffRailway$Line", name := "loses", desc := "(I)I" } : Jvm.MethodName)) ∈ lw_all := lw_g (lw_at lw_m6 184 rfl) rfl
theorem q1478 : (Jvm.Cond.code ({ cls := "StaffRailway$Line", name := "loses", desc := "(I)I" } : Jvm.MethodName) prog_10_method_32_code (3 : Nat) (Option.some Jvm.ClassFile.FieldType.int)) ∈ lw_all := lw_g (lw_at lw_m6 185 rfl) rfl
theorem q1479 : (Jvm.Cond.methodLink "StaffRailway$Line" (294 : Nat) ({ cls := "StaffRailway$Line", name := "writesBoth", desc := "(III)V" } : Jvm.MethodName)) ∈ lw_all := lw_g (lw_at lw_m6 186 rfl) rfl
theorem q1480 : (Jvm.Cond.privateMethod ({ cls := "StaffRailway$Line", name := "writesBoth", desc := "(III)V" } : Jvm.MethodName)) ∈ lw_tbl := lw_at lw_m6 187 rfl
theorem q1481 : (Jvm.Cond.instanceMethod ({ cls := "StaffRailway$Line", name := "writesBoth", desc := "(III)V" } : Jvm.MethodName)) ∈ lw_all := lw_g (lw_at lw_m6 188 rfl) rfl
theorem q1482 : (Jvm.Cond.code ({ cls := "StaffRailway$Line", name := "writesBoth", desc := "(III)V" } : Jvm.MethodName) prog_10_method_15_code (4 : Nat) (Option.none : Option Jvm.ClassFile.FieldType)) ∈ lw_all := lw_g (lw_at lw_m6 189 rfl) rfl
theorem q1493 : (Jvm.Cond.instanceMethod ({ cls := "StaffRailway$Line", name := "finds", desc := "(II)I" } : Jvm.MethodName)) ∈ lw_all := lw_g (lw_at lw_m6 200 rfl) rfl
theorem q1494 : (Jvm.Cond.selects "StaffRailway$Line" ({ cls := "StaffRailway$Line", name := "finds", desc := "(II)I" } : Jvm.MethodName) ({ cls := "StaffRailway$Line", name := "finds", desc := "(II)I" } : Jvm.MethodName)) ∈ lw_all := lw_g (lw_at lw_m6 201 rfl) rfl
theorem q1495 : (Jvm.Cond.code ({ cls := "StaffRailway$Line", name := "finds", desc := "(II)I" } : Jvm.MethodName) prog_10_method_34_code (5 : Nat) (Option.some Jvm.ClassFile.FieldType.int)) ∈ lw_all := lw_g (lw_at lw_m6 202 rfl) rfl
theorem q1496 : (Jvm.Cond.methodLink "StaffRailway$Line" (300 : Nat) ({ cls := "StaffRailway$Line", name := "checkBoth", desc := "(II)V" } : Jvm.MethodName)) ∈ lw_all := lw_g (lw_at lw_m6 203 rfl) rfl
theorem q1497 : (Jvm.Cond.instanceMethod ({ cls := "StaffRailway$Line", name := "checkBoth", desc := "(II)V" } : Jvm.MethodName)) ∈ lw_all := lw_g (lw_at lw_m6 204 rfl) rfl
theorem q1498 : (Jvm.Cond.selects "StaffRailway$Line" ({ cls := "StaffRailway$Line", name := "checkBoth", desc := "(II)V" } : Jvm.MethodName) ({ cls := "StaffRailway$Line", name := "checkBoth", desc := "(II)V" } : Jvm.MethodName)) ∈ lw_all := lw_g (lw_at lw_m6 205 rfl) rfl
theorem q1499 : (Jvm.Cond.code ({ cls := "StaffRailway$Line", name := "checkBoth", desc := "(II)V" } : Jvm.MethodName) prog_10_method_33_code (3 : Nat) (Option.none : Option Jvm.ClassFile.FieldType)) ∈ lw_all := lw_g (lw_at lw_m6 206 rfl) rfl
theorem q1500 : (Jvm.Cond.methodLink "StaffRailway$Line" (297 : Nat) ({ cls := "StaffRailway$Line", name := "checkStretch", desc := "(I)V" } : Jvm.MethodName)) ∈ lw_all := lw_g (lw_at lw_m6 207 rfl) rfl
theorem q1501 : (Jvm.Cond.static ({ cls := "StaffRailway$Line", name := "checkStretch", desc := "(I)V" } : Jvm.MethodName)) ∈ lw_all := lw_g (lw_at lw_m6 208 rfl) rfl
theorem q1502 : (Jvm.Cond.code ({ cls := "StaffRailway$Line", name := "checkStretch", desc := "(I)V" } : Jvm.MethodName) prog_10_method_17_code (1 : Nat) (Option.none : Option Jvm.ClassFile.FieldType)) ∈ lw_all := lw_g (lw_at lw_m6 209 rfl) rfl
theorem q1503 : (Jvm.Cond.classLink "StaffRailway$Line" (307 : Nat) "StaffRailway$Astray") ∈ lw_all := lw_g (lw_at lw_m6 210 rfl) rfl
theorem q1512 : (Jvm.Cond.methodLink "StaffRailway$Line" (309 : Nat) ({ cls := "StaffRailway$Astray", name := "<init>", desc := "()V" } : Jvm.MethodName)) ∈ lw_all := lw_g (lw_at lw_m6 219 rfl) rfl
theorem q1540 : (Jvm.Cond.instanceMethod ({ cls := "StaffRailway$Line", name := "walks", desc := "(II)I" } : Jvm.MethodName)) ∈ lw_all := lw_g (lw_at lw_m7 7 rfl) rfl
theorem q1541 : (Jvm.Cond.selects "StaffRailway$Line" ({ cls := "StaffRailway$Line", name := "walks", desc := "(II)I" } : Jvm.MethodName) ({ cls := "StaffRailway$Line", name := "walks", desc := "(II)I" } : Jvm.MethodName)) ∈ lw_all := lw_g (lw_at lw_m7 8 rfl) rfl
theorem q1542 : (Jvm.Cond.code ({ cls := "StaffRailway$Line", name := "walks", desc := "(II)I" } : Jvm.MethodName) prog_10_method_36_code (5 : Nat) (Option.some Jvm.ClassFile.FieldType.int)) ∈ lw_all := lw_g (lw_at lw_m7 9 rfl) rfl
theorem q1543 : (Jvm.Cond.methodLink "StaffRailway$Line" (311 : Nat) ({ cls := "StaffRailway$Line", name := "checkPilotman", desc := "(I)V" } : Jvm.MethodName)) ∈ lw_all := lw_g (lw_at lw_m7 10 rfl) rfl
theorem q1544 : (Jvm.Cond.instanceMethod ({ cls := "StaffRailway$Line", name := "checkPilotman", desc := "(I)V" } : Jvm.MethodName)) ∈ lw_all := lw_g (lw_at lw_m7 11 rfl) rfl
theorem q1545 : (Jvm.Cond.selects "StaffRailway$Line" ({ cls := "StaffRailway$Line", name := "checkPilotman", desc := "(I)V" } : Jvm.MethodName) ({ cls := "StaffRailway$Line", name := "checkPilotman", desc := "(I)V" } : Jvm.MethodName)) ∈ lw_all := lw_g (lw_at lw_m7 12 rfl) rfl
theorem q1546 : (Jvm.Cond.code ({ cls := "StaffRailway$Line", name := "checkPilotman", desc := "(I)V" } : Jvm.MethodName) prog_10_method_19_code (2 : Nat) (Option.none : Option Jvm.ClassFile.FieldType)) ∈ lw_all := lw_g (lw_at lw_m7 13 rfl) rfl
theorem q1557 : (Jvm.Cond.instanceMethod ({ cls := "StaffRailway$Line", name := "appoints", desc := "(II)I" } : Jvm.MethodName)) ∈ lw_all := lw_g (lw_at lw_m7 24 rfl) rfl
theorem q1558 : (Jvm.Cond.selects "StaffRailway$Line" ({ cls := "StaffRailway$Line", name := "appoints", desc := "(II)I" } : Jvm.MethodName) ({ cls := "StaffRailway$Line", name := "appoints", desc := "(II)I" } : Jvm.MethodName)) ∈ lw_all := lw_g (lw_at lw_m7 25 rfl) rfl
theorem q1559 : (Jvm.Cond.code ({ cls := "StaffRailway$Line", name := "appoints", desc := "(II)I" } : Jvm.MethodName) prog_10_method_35_code (5 : Nat) (Option.some Jvm.ClassFile.FieldType.int)) ∈ lw_all := lw_g (lw_at lw_m7 26 rfl) rfl
theorem q1771 : (Jvm.Cond.instanceMethod ({ cls := "StaffRailway$Line", name := "entries", desc := "(I)I" } : Jvm.MethodName)) ∈ lw_all := lw_g (lw_at lw_m7 238 rfl) rfl
theorem q1772 : (Jvm.Cond.selects "StaffRailway$Line" ({ cls := "StaffRailway$Line", name := "entries", desc := "(I)I" } : Jvm.MethodName) ({ cls := "StaffRailway$Line", name := "entries", desc := "(I)I" } : Jvm.MethodName)) ∈ lw_all := lw_g (lw_at lw_m7 239 rfl) rfl
theorem q1773 : (Jvm.Cond.code ({ cls := "StaffRailway$Line", name := "entries", desc := "(I)I" } : Jvm.MethodName) prog_10_method_43_code (9 : Nat) (Option.some Jvm.ClassFile.FieldType.int)) ∈ lw_all := lw_g (lw_at lw_m8 0 rfl) rfl
theorem q1774 : (Jvm.Cond.methodLink "StaffRailway$Line" (326 : Nat) ({ cls := "StaffRailway$Box", name := "iterator", desc := "()Ljava/util/Iterator;" } : Jvm.MethodName)) ∈ lw_all := lw_g (lw_at lw_m8 1 rfl) rfl
theorem q2074 : (Jvm.Cond.instanceMethod ({ cls := "StaffRailway$Line", name := "wagons", desc := "()I" } : Jvm.MethodName)) ∈ lw_all := lw_g (lw_at lw_m9 61 rfl) rfl
theorem q2075 : (Jvm.Cond.selects "StaffRailway$Line" ({ cls := "StaffRailway$Line", name := "wagons", desc := "()I" } : Jvm.MethodName) ({ cls := "StaffRailway$Line", name := "wagons", desc := "()I" } : Jvm.MethodName)) ∈ lw_all := lw_g (lw_at lw_m9 62 rfl) rfl
theorem q2076 : (Jvm.Cond.code ({ cls := "StaffRailway$Line", name := "wagons", desc := "()I" } : Jvm.MethodName) prog_10_method_42_code (4 : Nat) (Option.some Jvm.ClassFile.FieldType.int)) ∈ lw_all := lw_g (lw_at lw_m9 63 rfl) rfl
theorem q2083 : (Jvm.Cond.instanceMethod ({ cls := "StaffRailway$Line", name := "sum", desc := "(LStaffRailway$Amount;)I" } : Jvm.MethodName)) ∈ lw_all := lw_g (lw_at lw_m9 70 rfl) rfl
theorem q2084 : (Jvm.Cond.selects "StaffRailway$Line" ({ cls := "StaffRailway$Line", name := "sum", desc := "(LStaffRailway$Amount;)I" } : Jvm.MethodName) ({ cls := "StaffRailway$Line", name := "sum", desc := "(LStaffRailway$Amount;)I" } : Jvm.MethodName)) ∈ lw_all := lw_g (lw_at lw_m9 71 rfl) rfl
theorem q2085 : (Jvm.Cond.code ({ cls := "StaffRailway$Line", name := "sum", desc := "(LStaffRailway$Amount;)I" } : Jvm.MethodName) prog_10_method_7_code (7 : Nat) (Option.some Jvm.ClassFile.FieldType.int)) ∈ lw_all := lw_g (lw_at lw_m9 72 rfl) rfl
theorem q2086 : (Jvm.Cond.interfaceEntry "StaffRailway$Line" (153 : Nat)) ∈ lw_tbl := lw_at lw_m9 73 rfl
theorem q2087 : (Jvm.Cond.methodLink "StaffRailway$Line" (153 : Nat) ({ cls := "StaffRailway$Amount", name := "of", desc := "(LStaffRailway$Stretch;)I" } : Jvm.MethodName)) ∈ lw_all := lw_g (lw_at lw_m9 74 rfl) rfl
theorem q2650 : (Jvm.Cond.castable "StaffRailway$Line" "java/lang/Object") ∈ lw_tbl := lw_at lw_m11 157 rfl
theorem in_X2 : ∀ w ∈ wsX20, w ∈ lw_all := lw_in wsX20 [584, 586, 588, 590, 592, 594, 596, 598, 600] (by decide +kernel) (by decide +kernel)
/-! StaffRailway$Box -/
set_option maxRecDepth 100000
def RX3 : String := "StaffRailway$Box"
def TX3 : u_T := fun k => match k with
  | 0 => ("StaffRailway$Box", "row", "[LStaffRailway$Entry;", true)
  | _ => ("StaffRailway$Box", "many", "I", false)
def tyX3 : Nat → FieldType := fun k => match k with
  | 0 => .array (.object "StaffRailway$Entry")
  | _ => .int
abbrev wsX30 : List Cond := u_ws RX3 TX3 2
theorem nmX3 : ∀ a, a < 2 → ∀ b, b < 2 → a ≠ b → (TX3 a).2.1 ≠ (TX3 b).2.1 := by decide +kernel
theorem tyX3_ok : ∀ k, k < 2 → parseFieldDescriptor (TX3 k).2.2.1 = some (tyX3 k) := by decide +kernel
abbrev cX3_init : ByteArray := prog_6_method_1_code
def yX3_init : MethodName := ⟨RX3, "<init>", "()V"⟩
def dkwX3_init_0 : List UInt8 := [42, 183, 0, 3, 42, 8, 189, 0, 9, 181, 0, 11, 177]
abbrev dktX3_init_0 : List UInt8 := dkwX3_init_0 ++ []
theorem dksX3_init_0 : cX3_init.data.toList.drop 0 = dktX3_init_0 := by decide +kernel
theorem dX3_init_0 : decode cX3_init 0 = .ok (.aload_n 0, 1) := dk_42 (dk_at dksX3_init_0 0 rfl rfl)
theorem dX3_init_1 : decode cX3_init 1 = .ok (.invokespecial 3, 3) := dk_183 0 3 (dk_at dksX3_init_0 1 rfl rfl)
theorem dX3_init_4 : decode cX3_init 4 = .ok (.aload_n 0, 1) := dk_42 (dk_at dksX3_init_0 4 rfl rfl)
theorem dX3_init_5 : decode cX3_init 5 = .ok (.iconst 5, 1) := dk_8 (dk_at dksX3_init_0 5 rfl rfl)
theorem dX3_init_6 : decode cX3_init 6 = .ok (.anewarray 9, 3) := dk_189 0 9 (dk_at dksX3_init_0 6 rfl rfl)
theorem dX3_init_9 : decode cX3_init 9 = .ok (.putfield 11, 3) := dk_181 0 11 (dk_at dksX3_init_0 9 rfl rfl)
theorem dX3_init_12 : decode cX3_init 12 = .ok (.return_, 1) := dk_177 (dk_at dksX3_init_0 12 rfl rfl)
abbrev cX3_becomes : ByteArray := prog_6_method_3_code
def yX3_becomes : MethodName := ⟨RX3, "becomes", "(LStaffRailway$Box;)V"⟩
def dkwX3_becomes_0 : List UInt8 := [43, 180, 0, 11, 3, 42, 180, 0, 11, 3, 8, 184, 0, 27, 42, 43, 180, 0, 17, 181, 0, 17, 177]
abbrev dktX3_becomes_0 : List UInt8 := dkwX3_becomes_0 ++ []
theorem dksX3_becomes_0 : cX3_becomes.data.toList.drop 0 = dktX3_becomes_0 := by decide +kernel
theorem dX3_becomes_0 : decode cX3_becomes 0 = .ok (.aload_n 1, 1) := dk_43 (dk_at dksX3_becomes_0 0 rfl rfl)
theorem dX3_becomes_1 : decode cX3_becomes 1 = .ok (.getfield 11, 3) := dk_180 0 11 (dk_at dksX3_becomes_0 1 rfl rfl)
theorem dX3_becomes_4 : decode cX3_becomes 4 = .ok (.iconst 0, 1) := dk_3 (dk_at dksX3_becomes_0 4 rfl rfl)
theorem dX3_becomes_5 : decode cX3_becomes 5 = .ok (.aload_n 0, 1) := dk_42 (dk_at dksX3_becomes_0 5 rfl rfl)
theorem dX3_becomes_6 : decode cX3_becomes 6 = .ok (.getfield 11, 3) := dk_180 0 11 (dk_at dksX3_becomes_0 6 rfl rfl)
theorem dX3_becomes_9 : decode cX3_becomes 9 = .ok (.iconst 0, 1) := dk_3 (dk_at dksX3_becomes_0 9 rfl rfl)
theorem dX3_becomes_10 : decode cX3_becomes 10 = .ok (.iconst 5, 1) := dk_8 (dk_at dksX3_becomes_0 10 rfl rfl)
theorem dX3_becomes_11 : decode cX3_becomes 11 = .ok (.invokestatic 27, 3) := dk_184 0 27 (dk_at dksX3_becomes_0 11 rfl rfl)
theorem dX3_becomes_14 : decode cX3_becomes 14 = .ok (.aload_n 0, 1) := dk_42 (dk_at dksX3_becomes_0 14 rfl rfl)
theorem dX3_becomes_15 : decode cX3_becomes 15 = .ok (.aload_n 1, 1) := dk_43 (dk_at dksX3_becomes_0 15 rfl rfl)
theorem dX3_becomes_16 : decode cX3_becomes 16 = .ok (.getfield 17, 3) := dk_180 0 17 (dk_at dksX3_becomes_0 16 rfl rfl)
theorem dX3_becomes_19 : decode cX3_becomes 19 = .ok (.putfield 17, 3) := dk_181 0 17 (dk_at dksX3_becomes_0 19 rfl rfl)
theorem dX3_becomes_22 : decode cX3_becomes 22 = .ok (.return_, 1) := dk_177 (dk_at dksX3_becomes_0 22 rfl rfl)
abbrev cX3_writes : ByteArray := prog_6_method_2_code
def yX3_writes : MethodName := ⟨RX3, "writes", "(LStaffRailway$Entry;)V"⟩
def dkwX3_writes_2 : List UInt8 := [177]
abbrev dktX3_writes_2 : List UInt8 := dkwX3_writes_2 ++ []
def dkwX3_writes_1 : List UInt8 := [167, 255, 235, 42, 180, 0, 11, 3, 43, 83, 42, 8, 42, 180, 0, 17, 4, 96, 184, 0, 21, 181, 0, 17]
abbrev dktX3_writes_1 : List UInt8 := dkwX3_writes_1 ++ dktX3_writes_2
def dkwX3_writes_0 : List UInt8 := [7, 61, 28, 158, 0, 23, 42, 180, 0, 11, 28, 42, 180, 0, 11, 28, 4, 100, 50, 83, 132, 2, 255]
abbrev dktX3_writes_0 : List UInt8 := dkwX3_writes_0 ++ dktX3_writes_1
theorem dksX3_writes_0 : cX3_writes.data.toList.drop 0 = dktX3_writes_0 := by decide +kernel
theorem dksX3_writes_1 : cX3_writes.data.toList.drop 23 = dktX3_writes_1 := dk_seg dksX3_writes_0 23 rfl rfl
theorem dksX3_writes_2 : cX3_writes.data.toList.drop 47 = dktX3_writes_2 := dk_seg dksX3_writes_1 24 rfl rfl
theorem dX3_writes_0 : decode cX3_writes 0 = .ok (.iconst 4, 1) := dk_7 (dk_at dksX3_writes_0 0 rfl rfl)
theorem dX3_writes_1 : decode cX3_writes 1 = .ok (.istore_n 2, 1) := dk_61 (dk_at dksX3_writes_0 1 rfl rfl)
theorem dX3_writes_2 : decode cX3_writes 2 = .ok (.iload_n 2, 1) := dk_28 (dk_at dksX3_writes_0 2 rfl rfl)
theorem dX3_writes_3 : decode cX3_writes 3 = .ok (.ifCond .le 23, 3) := dk_158 0 23 (dk_at dksX3_writes_0 3 rfl rfl)
theorem dX3_writes_6 : decode cX3_writes 6 = .ok (.aload_n 0, 1) := dk_42 (dk_at dksX3_writes_0 6 rfl rfl)
theorem dX3_writes_7 : decode cX3_writes 7 = .ok (.getfield 11, 3) := dk_180 0 11 (dk_at dksX3_writes_0 7 rfl rfl)
theorem dX3_writes_10 : decode cX3_writes 10 = .ok (.iload_n 2, 1) := dk_28 (dk_at dksX3_writes_0 10 rfl rfl)
theorem dX3_writes_11 : decode cX3_writes 11 = .ok (.aload_n 0, 1) := dk_42 (dk_at dksX3_writes_0 11 rfl rfl)
theorem dX3_writes_12 : decode cX3_writes 12 = .ok (.getfield 11, 3) := dk_180 0 11 (dk_at dksX3_writes_0 12 rfl rfl)
theorem dX3_writes_15 : decode cX3_writes 15 = .ok (.iload_n 2, 1) := dk_28 (dk_at dksX3_writes_0 15 rfl rfl)
theorem dX3_writes_16 : decode cX3_writes 16 = .ok (.iconst 1, 1) := dk_4 (dk_at dksX3_writes_0 16 rfl rfl)
theorem dX3_writes_17 : decode cX3_writes 17 = .ok (.isub, 1) := dk_100 (dk_at dksX3_writes_0 17 rfl rfl)
theorem dX3_writes_18 : decode cX3_writes 18 = .ok (.aaload, 1) := dk_50 (dk_at dksX3_writes_0 18 rfl rfl)
theorem dX3_writes_19 : decode cX3_writes 19 = .ok (.aastore, 1) := dk_83 (dk_at dksX3_writes_0 19 rfl rfl)
theorem dX3_writes_20 : decode cX3_writes 20 = .ok (.iinc 2 (-1), 3) := dk_132 2 255 (dk_at dksX3_writes_0 20 rfl rfl)
theorem dX3_writes_23 : decode cX3_writes 23 = .ok (.goto (-21), 3) := dk_167 255 235 (dk_at dksX3_writes_1 0 rfl rfl)
theorem dX3_writes_26 : decode cX3_writes 26 = .ok (.aload_n 0, 1) := dk_42 (dk_at dksX3_writes_1 3 rfl rfl)
theorem dX3_writes_27 : decode cX3_writes 27 = .ok (.getfield 11, 3) := dk_180 0 11 (dk_at dksX3_writes_1 4 rfl rfl)
theorem dX3_writes_30 : decode cX3_writes 30 = .ok (.iconst 0, 1) := dk_3 (dk_at dksX3_writes_1 7 rfl rfl)
theorem dX3_writes_31 : decode cX3_writes 31 = .ok (.aload_n 1, 1) := dk_43 (dk_at dksX3_writes_1 8 rfl rfl)
theorem dX3_writes_32 : decode cX3_writes 32 = .ok (.aastore, 1) := dk_83 (dk_at dksX3_writes_1 9 rfl rfl)
theorem dX3_writes_33 : decode cX3_writes 33 = .ok (.aload_n 0, 1) := dk_42 (dk_at dksX3_writes_1 10 rfl rfl)
theorem dX3_writes_34 : decode cX3_writes 34 = .ok (.iconst 5, 1) := dk_8 (dk_at dksX3_writes_1 11 rfl rfl)
theorem dX3_writes_35 : decode cX3_writes 35 = .ok (.aload_n 0, 1) := dk_42 (dk_at dksX3_writes_1 12 rfl rfl)
theorem dX3_writes_36 : decode cX3_writes 36 = .ok (.getfield 17, 3) := dk_180 0 17 (dk_at dksX3_writes_1 13 rfl rfl)
theorem dX3_writes_39 : decode cX3_writes 39 = .ok (.iconst 1, 1) := dk_4 (dk_at dksX3_writes_1 16 rfl rfl)
theorem dX3_writes_40 : decode cX3_writes 40 = .ok (.iadd, 1) := dk_96 (dk_at dksX3_writes_1 17 rfl rfl)
theorem dX3_writes_41 : decode cX3_writes 41 = .ok (.invokestatic 21, 3) := dk_184 0 21 (dk_at dksX3_writes_1 18 rfl rfl)
theorem dX3_writes_44 : decode cX3_writes 44 = .ok (.putfield 17, 3) := dk_181 0 17 (dk_at dksX3_writes_1 21 rfl rfl)
theorem dX3_writes_47 : decode cX3_writes 47 = .ok (.return_, 1) := dk_177 (dk_at dksX3_writes_2 0 rfl rfl)
abbrev cX3_iterator : ByteArray := prog_6_method_4_code
def yX3_iterator : MethodName := ⟨RX3, "iterator", "()Ljava/util/Iterator;"⟩
def dkwX3_iterator_0 : List UInt8 := [187, 0, 33, 89, 42, 183, 0, 35, 176]
abbrev dktX3_iterator_0 : List UInt8 := dkwX3_iterator_0 ++ []
theorem dksX3_iterator_0 : cX3_iterator.data.toList.drop 0 = dktX3_iterator_0 := by decide +kernel
theorem dX3_iterator_0 : decode cX3_iterator 0 = .ok (.new 33, 3) := dk_187 0 33 (dk_at dksX3_iterator_0 0 rfl rfl)
theorem dX3_iterator_3 : decode cX3_iterator 3 = .ok (.dup, 1) := dk_89 (dk_at dksX3_iterator_0 3 rfl rfl)
theorem dX3_iterator_4 : decode cX3_iterator 4 = .ok (.aload_n 0, 1) := dk_42 (dk_at dksX3_iterator_0 4 rfl rfl)
theorem dX3_iterator_5 : decode cX3_iterator 5 = .ok (.invokespecial 35, 3) := dk_183 0 35 (dk_at dksX3_iterator_0 5 rfl rfl)
theorem dX3_iterator_8 : decode cX3_iterator 8 = .ok (.areturn, 1) := dk_176 (dk_at dksX3_iterator_0 8 rfl rfl)
theorem q115 : (Jvm.Cond.initialized "StaffRailway$Box") ∈ lw_all := lw_g (lw_at lw_m1 22 rfl) rfl
theorem q511 : (Jvm.Cond.instantiable "StaffRailway$Box" (2 : Nat)) ∈ lw_all := lw_g (lw_at lw_m2 178 rfl) rfl
theorem q513 : (Jvm.Cond.instanceMethod ({ cls := "StaffRailway$Box", name := "<init>", desc := "()V" } : Jvm.MethodName)) ∈ lw_all := lw_g (lw_at lw_m2 180 rfl) rfl
theorem q514 : (Jvm.Cond.code ({ cls := "StaffRailway$Box", name := "<init>", desc := "()V" } : Jvm.MethodName) prog_6_method_1_code (1 : Nat) (Option.none : Option Jvm.ClassFile.FieldType)) ∈ lw_all := lw_g (lw_at lw_m2 181 rfl) rfl
theorem q515 : (Jvm.Cond.methodLink "StaffRailway$Box" (3 : Nat) ({ cls := "java/lang/Object", name := "<init>", desc := "()V" } : Jvm.MethodName)) ∈ lw_all := lw_g (lw_at lw_m2 182 rfl) rfl
theorem q516 : (Jvm.Cond.classLink "StaffRailway$Box" (9 : Nat) "StaffRailway$Entry") ∈ lw_all := lw_g (lw_at lw_m2 183 rfl) rfl
theorem q518 : (Jvm.Cond.fieldLink "StaffRailway$Box" (11 : Nat) "StaffRailway$Box" "row" "[LStaffRailway$Entry;") ∈ lw_all := lw_g (lw_at lw_m2 185 rfl) rfl
theorem q522 : (Jvm.Cond.fieldLink "StaffRailway$Box" (17 : Nat) "StaffRailway$Box" "many" "I") ∈ lw_all := lw_g (lw_at lw_m2 189 rfl) rfl
theorem q524 : (Jvm.Cond.laysFinal "StaffRailway$Box" "StaffRailway$Box" "row" "[LStaffRailway$Entry;") ∈ lw_all := lw_g (lw_at lw_m2 191 rfl) rfl
theorem q525 : (Jvm.Cond.soleField "StaffRailway$Box" "row") ∈ lw_all := lw_g (lw_at lw_m2 192 rfl) rfl
theorem q526 : (Jvm.Cond.lays "StaffRailway$Box" "StaffRailway$Box" "many" "I") ∈ lw_all := lw_g (lw_at lw_m2 193 rfl) rfl
theorem q527 : (Jvm.Cond.soleField "StaffRailway$Box" "many") ∈ lw_all := lw_g (lw_at lw_m2 194 rfl) rfl
theorem q528 : (Jvm.Cond.superclass "StaffRailway$Box" "java/lang/Object") ∈ lw_all := lw_g (lw_at lw_m2 195 rfl) rfl
theorem q947 : (Jvm.Cond.instanceMethod ({ cls := "StaffRailway$Box", name := "becomes", desc := "(LStaffRailway$Box;)V" } : Jvm.MethodName)) ∈ lw_all := lw_g (lw_at lw_m4 134 rfl) rfl
theorem q948 : (Jvm.Cond.selects "StaffRailway$Box" ({ cls := "StaffRailway$Box", name := "becomes", desc := "(LStaffRailway$Box;)V" } : Jvm.MethodName) ({ cls := "StaffRailway$Box", name := "becomes", desc := "(LStaffRailway$Box;)V" } : Jvm.MethodName)) ∈ lw_all := lw_g (lw_at lw_m4 135 rfl) rfl
theorem q949 : (Jvm.Cond.code ({ cls := "StaffRailway$Box", name := "becomes", desc := "(LStaffRailway$Box;)V" } : Jvm.MethodName) prog_6_method_3_code (2 : Nat) (Option.none : Option Jvm.ClassFile.FieldType)) ∈ lw_all := lw_g (lw_at lw_m4 136 rfl) rfl
theorem q950 : (Jvm.Cond.methodLink "StaffRailway$Box" (27 : Nat) ({ cls := "java/lang/System", name := "arraycopy", desc := "(Ljava/lang/Object;ILjava/lang/Object;II)V" } : Jvm.MethodName)) ∈ lw_all := lw_g (lw_at lw_m4 137 rfl) rfl
theorem q1012 : (Jvm.Cond.selects "StaffRailway$Box" ({ cls := "java/lang/Object", name := "getClass", desc := "()Ljava/lang/Class;" } : Jvm.MethodName) ({ cls := "java/lang/Object", name := "getClass", desc := "()Ljava/lang/Class;" } : Jvm.MethodName)) ∈ lw_all := lw_g (lw_at lw_m4 199 rfl) rfl
theorem q1422 : (Jvm.Cond.instanceMethod ({ cls := "StaffRailway$Box", name := "writes", desc := "(LStaffRailway$Entry;)V" } : Jvm.MethodName)) ∈ lw_all := lw_g (lw_at lw_m6 129 rfl) rfl
theorem q1423 : (Jvm.Cond.selects "StaffRailway$Box" ({ cls := "StaffRailway$Box", name := "writes", desc := "(LStaffRailway$Entry;)V" } : Jvm.MethodName) ({ cls := "StaffRailway$Box", name := "writes", desc := "(LStaffRailway$Entry;)V" } : Jvm.MethodName)) ∈ lw_all := lw_g (lw_at lw_m6 130 rfl) rfl
theorem q1424 : (Jvm.Cond.code ({ cls := "StaffRailway$Box", name := "writes", desc := "(LStaffRailway$Entry;)V" } : Jvm.MethodName) prog_6_method_2_code (3 : Nat) (Option.none : Option Jvm.ClassFile.FieldType)) ∈ lw_all := lw_g (lw_at lw_m6 131 rfl) rfl
theorem q1425 : (Jvm.Cond.methodLink "StaffRailway$Box" (21 : Nat) ({ cls := "java/lang/Math", name := "min", desc := "(II)I" } : Jvm.MethodName)) ∈ lw_all := lw_g (lw_at lw_m6 132 rfl) rfl
theorem q1674 : (Jvm.Cond.castable "StaffRailway$Box" "java/lang/Iterable") ∈ lw_tbl := lw_at lw_m7 141 rfl
theorem q1675 : (Jvm.Cond.selects "StaffRailway$Box" ({ cls := "java/lang/Iterable", name := "iterator", desc := "()Ljava/util/Iterator;" } : Jvm.MethodName) ({ cls := "StaffRailway$Box", name := "iterator", desc := "()Ljava/util/Iterator;" } : Jvm.MethodName)) ∈ lw_all := lw_g (lw_at lw_m7 142 rfl) rfl
theorem q1676 : (Jvm.Cond.unhidden "StaffRailway$Box" "iterator" "()Ljava/util/Iterator;") ∈ lw_tbl := lw_at lw_m7 143 rfl
theorem q1677 : (Jvm.Cond.instanceMethod ({ cls := "StaffRailway$Box", name := "iterator", desc := "()Ljava/util/Iterator;" } : Jvm.MethodName)) ∈ lw_all := lw_g (lw_at lw_m7 144 rfl) rfl
theorem q1678 : (Jvm.Cond.publicMethod ({ cls := "StaffRailway$Box", name := "iterator", desc := "()Ljava/util/Iterator;" } : Jvm.MethodName)) ∈ lw_tbl := lw_at lw_m7 145 rfl
theorem q1679 : (Jvm.Cond.code ({ cls := "StaffRailway$Box", name := "iterator", desc := "()Ljava/util/Iterator;" } : Jvm.MethodName) prog_6_method_4_code (1 : Nat) (Option.some (Jvm.ClassFile.FieldType.object "java/util/Iterator"))) ∈ lw_all := lw_g (lw_at lw_m7 146 rfl) rfl
theorem q1680 : (Jvm.Cond.classLink "StaffRailway$Box" (33 : Nat) "StaffRailway$Box$Pages") ∈ lw_all := lw_g (lw_at lw_m7 147 rfl) rfl
theorem q1682 : (Jvm.Cond.methodLinkNest "StaffRailway$Box" (35 : Nat) ({ cls := "StaffRailway$Box$Pages", name := "<init>", desc := "(LStaffRailway$Box;)V" } : Jvm.MethodName) "StaffRailway") ∈ lw_tbl := lw_at lw_m7 149 rfl
theorem q2638 : (Jvm.Cond.selects "StaffRailway$Box" ({ cls := "StaffRailway$Box", name := "iterator", desc := "()Ljava/util/Iterator;" } : Jvm.MethodName) ({ cls := "StaffRailway$Box", name := "iterator", desc := "()Ljava/util/Iterator;" } : Jvm.MethodName)) ∈ lw_all := lw_g (lw_at lw_m11 145 rfl) rfl
theorem q2647 : (Jvm.Cond.castable "StaffRailway$Box" "java/lang/Object") ∈ lw_tbl := lw_at lw_m11 154 rfl
theorem in_X3 : ∀ w ∈ wsX30, w ∈ lw_all := lw_in wsX30 [524, 526] (by decide +kernel) (by decide +kernel)
/-! StaffRailway$Stretch -/
set_option maxRecDepth 100000
def RX4 : String := "StaffRailway$Stretch"
def TX4 : u_T := fun k => match k with
  | 0 => ("StaffRailway$Stretch", "tablets", "I", false)
  | 1 => ("StaffRailway$Stretch", "length", "I", false)
  | 2 => ("StaffRailway$Stretch", "limit", "I", false)
  | 3 => ("StaffRailway$Stretch", "left", "I", false)
  | 4 => ("StaffRailway$Stretch", "right", "I", false)
  | _ => ("StaffRailway$Stretch", "isLost", "Z", false)
def tyX4 : Nat → FieldType := fun k => match k with
  | 0 => .int
  | 1 => .int
  | 2 => .int
  | 3 => .int
  | 4 => .int
  | _ => .boolean
abbrev wsX40 : List Cond := u_ws RX4 TX4 6
theorem nmX4 : ∀ a, a < 6 → ∀ b, b < 6 → a ≠ b → (TX4 a).2.1 ≠ (TX4 b).2.1 := by decide +kernel
theorem tyX4_ok : ∀ k, k < 6 → parseFieldDescriptor (TX4 k).2.2.1 = some (tyX4 k) := by decide +kernel
abbrev cX4_init : ByteArray := prog_16_method_1_code
def yX4_init : MethodName := ⟨RX4, "<init>", "()V"⟩
def dkwX4_init_0 : List UInt8 := [42, 183, 0, 1, 42, 3, 8, 16, 10, 182, 0, 7, 177]
abbrev dktX4_init_0 : List UInt8 := dkwX4_init_0 ++ []
theorem dksX4_init_0 : cX4_init.data.toList.drop 0 = dktX4_init_0 := by decide +kernel
theorem dX4_init_0 : decode cX4_init 0 = .ok (.aload_n 0, 1) := dk_42 (dk_at dksX4_init_0 0 rfl rfl)
theorem dX4_init_1 : decode cX4_init 1 = .ok (.invokespecial 1, 3) := dk_183 0 1 (dk_at dksX4_init_0 1 rfl rfl)
theorem dX4_init_4 : decode cX4_init 4 = .ok (.aload_n 0, 1) := dk_42 (dk_at dksX4_init_0 4 rfl rfl)
theorem dX4_init_5 : decode cX4_init 5 = .ok (.iconst 0, 1) := dk_3 (dk_at dksX4_init_0 5 rfl rfl)
theorem dX4_init_6 : decode cX4_init 6 = .ok (.iconst 5, 1) := dk_8 (dk_at dksX4_init_0 6 rfl rfl)
theorem dX4_init_7 : decode cX4_init 7 = .ok (.bipush 10, 2) := dk_16 10 (dk_at dksX4_init_0 7 rfl rfl)
theorem dX4_init_9 : decode cX4_init 9 = .ok (.invokevirtual 7, 3) := dk_182 0 7 (dk_at dksX4_init_0 9 rfl rfl)
theorem dX4_init_12 : decode cX4_init 12 = .ok (.return_, 1) := dk_177 (dk_at dksX4_init_0 12 rfl rfl)
abbrev cX4_sets : ByteArray := prog_16_method_2_code
def yX4_sets : MethodName := ⟨RX4, "sets", "(III)V"⟩
def dkwX4_sets_1 : List UInt8 := [27, 4, 96, 5, 108, 181, 0, 23, 42, 27, 154, 0, 7, 3, 167, 0, 6, 27, 5, 108, 181, 0, 26, 177]
abbrev dktX4_sets_1 : List UInt8 := dkwX4_sets_1 ++ []
def dkwX4_sets_0 : List UInt8 := [42, 27, 181, 0, 13, 42, 28, 181, 0, 17, 42, 29, 181, 0, 20, 42, 27, 154, 0, 7, 4, 167, 0, 8]
abbrev dktX4_sets_0 : List UInt8 := dkwX4_sets_0 ++ dktX4_sets_1
theorem dksX4_sets_0 : cX4_sets.data.toList.drop 0 = dktX4_sets_0 := by decide +kernel
theorem dksX4_sets_1 : cX4_sets.data.toList.drop 24 = dktX4_sets_1 := dk_seg dksX4_sets_0 24 rfl rfl
theorem dX4_sets_0 : decode cX4_sets 0 = .ok (.aload_n 0, 1) := dk_42 (dk_at dksX4_sets_0 0 rfl rfl)
theorem dX4_sets_1 : decode cX4_sets 1 = .ok (.iload_n 1, 1) := dk_27 (dk_at dksX4_sets_0 1 rfl rfl)
theorem dX4_sets_2 : decode cX4_sets 2 = .ok (.putfield 13, 3) := dk_181 0 13 (dk_at dksX4_sets_0 2 rfl rfl)
theorem dX4_sets_5 : decode cX4_sets 5 = .ok (.aload_n 0, 1) := dk_42 (dk_at dksX4_sets_0 5 rfl rfl)
theorem dX4_sets_6 : decode cX4_sets 6 = .ok (.iload_n 2, 1) := dk_28 (dk_at dksX4_sets_0 6 rfl rfl)
theorem dX4_sets_7 : decode cX4_sets 7 = .ok (.putfield 17, 3) := dk_181 0 17 (dk_at dksX4_sets_0 7 rfl rfl)
theorem dX4_sets_10 : decode cX4_sets 10 = .ok (.aload_n 0, 1) := dk_42 (dk_at dksX4_sets_0 10 rfl rfl)
theorem dX4_sets_11 : decode cX4_sets 11 = .ok (.iload_n 3, 1) := dk_29 (dk_at dksX4_sets_0 11 rfl rfl)
theorem dX4_sets_12 : decode cX4_sets 12 = .ok (.putfield 20, 3) := dk_181 0 20 (dk_at dksX4_sets_0 12 rfl rfl)
theorem dX4_sets_15 : decode cX4_sets 15 = .ok (.aload_n 0, 1) := dk_42 (dk_at dksX4_sets_0 15 rfl rfl)
theorem dX4_sets_16 : decode cX4_sets 16 = .ok (.iload_n 1, 1) := dk_27 (dk_at dksX4_sets_0 16 rfl rfl)
theorem dX4_sets_17 : decode cX4_sets 17 = .ok (.ifCond .ne 7, 3) := dk_154 0 7 (dk_at dksX4_sets_0 17 rfl rfl)
theorem dX4_sets_20 : decode cX4_sets 20 = .ok (.iconst 1, 1) := dk_4 (dk_at dksX4_sets_0 20 rfl rfl)
theorem dX4_sets_21 : decode cX4_sets 21 = .ok (.goto 8, 3) := dk_167 0 8 (dk_at dksX4_sets_0 21 rfl rfl)
theorem dX4_sets_24 : decode cX4_sets 24 = .ok (.iload_n 1, 1) := dk_27 (dk_at dksX4_sets_1 0 rfl rfl)
theorem dX4_sets_25 : decode cX4_sets 25 = .ok (.iconst 1, 1) := dk_4 (dk_at dksX4_sets_1 1 rfl rfl)
theorem dX4_sets_26 : decode cX4_sets 26 = .ok (.iadd, 1) := dk_96 (dk_at dksX4_sets_1 2 rfl rfl)
theorem dX4_sets_27 : decode cX4_sets 27 = .ok (.iconst 2, 1) := dk_5 (dk_at dksX4_sets_1 3 rfl rfl)
theorem dX4_sets_28 : decode cX4_sets 28 = .ok (.idiv, 1) := dk_108 (dk_at dksX4_sets_1 4 rfl rfl)
theorem dX4_sets_29 : decode cX4_sets 29 = .ok (.putfield 23, 3) := dk_181 0 23 (dk_at dksX4_sets_1 5 rfl rfl)
theorem dX4_sets_32 : decode cX4_sets 32 = .ok (.aload_n 0, 1) := dk_42 (dk_at dksX4_sets_1 8 rfl rfl)
theorem dX4_sets_33 : decode cX4_sets 33 = .ok (.iload_n 1, 1) := dk_27 (dk_at dksX4_sets_1 9 rfl rfl)
theorem dX4_sets_34 : decode cX4_sets 34 = .ok (.ifCond .ne 7, 3) := dk_154 0 7 (dk_at dksX4_sets_1 10 rfl rfl)
theorem dX4_sets_37 : decode cX4_sets 37 = .ok (.iconst 0, 1) := dk_3 (dk_at dksX4_sets_1 13 rfl rfl)
theorem dX4_sets_38 : decode cX4_sets 38 = .ok (.goto 6, 3) := dk_167 0 6 (dk_at dksX4_sets_1 14 rfl rfl)
theorem dX4_sets_41 : decode cX4_sets 41 = .ok (.iload_n 1, 1) := dk_27 (dk_at dksX4_sets_1 17 rfl rfl)
theorem dX4_sets_42 : decode cX4_sets 42 = .ok (.iconst 2, 1) := dk_5 (dk_at dksX4_sets_1 18 rfl rfl)
theorem dX4_sets_43 : decode cX4_sets 43 = .ok (.idiv, 1) := dk_108 (dk_at dksX4_sets_1 19 rfl rfl)
theorem dX4_sets_44 : decode cX4_sets 44 = .ok (.putfield 26, 3) := dk_181 0 26 (dk_at dksX4_sets_1 20 rfl rfl)
theorem dX4_sets_47 : decode cX4_sets 47 = .ok (.return_, 1) := dk_177 (dk_at dksX4_sets_1 23 rfl rfl)
abbrev cX4_tokens : ByteArray := prog_16_method_7_code
def yX4_tokens : MethodName := ⟨RX4, "tokens", "(Z)I"⟩
def dkwX4_tokens_0 : List UInt8 := [27, 153, 0, 10, 42, 180, 0, 23, 167, 0, 7, 42, 180, 0, 26, 172]
abbrev dktX4_tokens_0 : List UInt8 := dkwX4_tokens_0 ++ []
theorem dksX4_tokens_0 : cX4_tokens.data.toList.drop 0 = dktX4_tokens_0 := by decide +kernel
theorem dX4_tokens_0 : decode cX4_tokens 0 = .ok (.iload_n 1, 1) := dk_27 (dk_at dksX4_tokens_0 0 rfl rfl)
theorem dX4_tokens_1 : decode cX4_tokens 1 = .ok (.ifCond .eq 10, 3) := dk_153 0 10 (dk_at dksX4_tokens_0 1 rfl rfl)
theorem dX4_tokens_4 : decode cX4_tokens 4 = .ok (.aload_n 0, 1) := dk_42 (dk_at dksX4_tokens_0 4 rfl rfl)
theorem dX4_tokens_5 : decode cX4_tokens 5 = .ok (.getfield 23, 3) := dk_180 0 23 (dk_at dksX4_tokens_0 5 rfl rfl)
theorem dX4_tokens_8 : decode cX4_tokens 8 = .ok (.goto 7, 3) := dk_167 0 7 (dk_at dksX4_tokens_0 8 rfl rfl)
theorem dX4_tokens_11 : decode cX4_tokens 11 = .ok (.aload_n 0, 1) := dk_42 (dk_at dksX4_tokens_0 11 rfl rfl)
theorem dX4_tokens_12 : decode cX4_tokens 12 = .ok (.getfield 26, 3) := dk_180 0 26 (dk_at dksX4_tokens_0 12 rfl rfl)
theorem dX4_tokens_15 : decode cX4_tokens 15 = .ok (.ireturn, 1) := dk_172 (dk_at dksX4_tokens_0 15 rfl rfl)
abbrev cX4_isTooHeavy : ByteArray := prog_16_method_5_code
def yX4_isTooHeavy : MethodName := ⟨RX4, "isTooHeavy", "(I)Z"⟩
def dkwX4_isTooHeavy_0 : List UInt8 := [27, 4, 96, 5, 108, 42, 180, 0, 20, 164, 0, 7, 4, 167, 0, 4, 3, 172]
abbrev dktX4_isTooHeavy_0 : List UInt8 := dkwX4_isTooHeavy_0 ++ []
theorem dksX4_isTooHeavy_0 : cX4_isTooHeavy.data.toList.drop 0 = dktX4_isTooHeavy_0 := by decide +kernel
theorem dX4_isTooHeavy_0 : decode cX4_isTooHeavy 0 = .ok (.iload_n 1, 1) := dk_27 (dk_at dksX4_isTooHeavy_0 0 rfl rfl)
theorem dX4_isTooHeavy_1 : decode cX4_isTooHeavy 1 = .ok (.iconst 1, 1) := dk_4 (dk_at dksX4_isTooHeavy_0 1 rfl rfl)
theorem dX4_isTooHeavy_2 : decode cX4_isTooHeavy 2 = .ok (.iadd, 1) := dk_96 (dk_at dksX4_isTooHeavy_0 2 rfl rfl)
theorem dX4_isTooHeavy_3 : decode cX4_isTooHeavy 3 = .ok (.iconst 2, 1) := dk_5 (dk_at dksX4_isTooHeavy_0 3 rfl rfl)
theorem dX4_isTooHeavy_4 : decode cX4_isTooHeavy 4 = .ok (.idiv, 1) := dk_108 (dk_at dksX4_isTooHeavy_0 4 rfl rfl)
theorem dX4_isTooHeavy_5 : decode cX4_isTooHeavy 5 = .ok (.aload_n 0, 1) := dk_42 (dk_at dksX4_isTooHeavy_0 5 rfl rfl)
theorem dX4_isTooHeavy_6 : decode cX4_isTooHeavy 6 = .ok (.getfield 20, 3) := dk_180 0 20 (dk_at dksX4_isTooHeavy_0 6 rfl rfl)
theorem dX4_isTooHeavy_9 : decode cX4_isTooHeavy 9 = .ok (.if_icmp .le 7, 3) := dk_164 0 7 (dk_at dksX4_isTooHeavy_0 9 rfl rfl)
theorem dX4_isTooHeavy_12 : decode cX4_isTooHeavy 12 = .ok (.iconst 1, 1) := dk_4 (dk_at dksX4_isTooHeavy_0 12 rfl rfl)
theorem dX4_isTooHeavy_13 : decode cX4_isTooHeavy 13 = .ok (.goto 4, 3) := dk_167 0 4 (dk_at dksX4_isTooHeavy_0 13 rfl rfl)
theorem dX4_isTooHeavy_16 : decode cX4_isTooHeavy 16 = .ok (.iconst 0, 1) := dk_3 (dk_at dksX4_isTooHeavy_0 16 rfl rfl)
theorem dX4_isTooHeavy_17 : decode cX4_isTooHeavy 17 = .ok (.ireturn, 1) := dk_172 (dk_at dksX4_isTooHeavy_0 17 rfl rfl)
abbrev cX4_copy : ByteArray := prog_16_method_3_code
def yX4_copy : MethodName := ⟨RX4, "copy", "()LStaffRailway$Stretch;"⟩
def dkwX4_copy_2 : List UInt8 := [43, 42, 180, 0, 30, 181, 0, 30, 43, 176]
abbrev dktX4_copy_2 : List UInt8 := dkwX4_copy_2 ++ []
def dkwX4_copy_1 : List UInt8 := [43, 42, 180, 0, 20, 181, 0, 20, 43, 42, 180, 0, 23, 181, 0, 23, 43, 42, 180, 0, 26, 181, 0, 26]
abbrev dktX4_copy_1 : List UInt8 := dkwX4_copy_1 ++ dktX4_copy_2
def dkwX4_copy_0 : List UInt8 := [187, 0, 8, 89, 183, 0, 29, 76, 43, 42, 180, 0, 13, 181, 0, 13, 43, 42, 180, 0, 17, 181, 0, 17]
abbrev dktX4_copy_0 : List UInt8 := dkwX4_copy_0 ++ dktX4_copy_1
theorem dksX4_copy_0 : cX4_copy.data.toList.drop 0 = dktX4_copy_0 := by decide +kernel
theorem dksX4_copy_1 : cX4_copy.data.toList.drop 24 = dktX4_copy_1 := dk_seg dksX4_copy_0 24 rfl rfl
theorem dksX4_copy_2 : cX4_copy.data.toList.drop 48 = dktX4_copy_2 := dk_seg dksX4_copy_1 24 rfl rfl
theorem dX4_copy_0 : decode cX4_copy 0 = .ok (.new 8, 3) := dk_187 0 8 (dk_at dksX4_copy_0 0 rfl rfl)
theorem dX4_copy_3 : decode cX4_copy 3 = .ok (.dup, 1) := dk_89 (dk_at dksX4_copy_0 3 rfl rfl)
theorem dX4_copy_4 : decode cX4_copy 4 = .ok (.invokespecial 29, 3) := dk_183 0 29 (dk_at dksX4_copy_0 4 rfl rfl)
theorem dX4_copy_7 : decode cX4_copy 7 = .ok (.astore_n 1, 1) := dk_76 (dk_at dksX4_copy_0 7 rfl rfl)
theorem dX4_copy_8 : decode cX4_copy 8 = .ok (.aload_n 1, 1) := dk_43 (dk_at dksX4_copy_0 8 rfl rfl)
theorem dX4_copy_9 : decode cX4_copy 9 = .ok (.aload_n 0, 1) := dk_42 (dk_at dksX4_copy_0 9 rfl rfl)
theorem dX4_copy_10 : decode cX4_copy 10 = .ok (.getfield 13, 3) := dk_180 0 13 (dk_at dksX4_copy_0 10 rfl rfl)
theorem dX4_copy_13 : decode cX4_copy 13 = .ok (.putfield 13, 3) := dk_181 0 13 (dk_at dksX4_copy_0 13 rfl rfl)
theorem dX4_copy_16 : decode cX4_copy 16 = .ok (.aload_n 1, 1) := dk_43 (dk_at dksX4_copy_0 16 rfl rfl)
theorem dX4_copy_17 : decode cX4_copy 17 = .ok (.aload_n 0, 1) := dk_42 (dk_at dksX4_copy_0 17 rfl rfl)
theorem dX4_copy_18 : decode cX4_copy 18 = .ok (.getfield 17, 3) := dk_180 0 17 (dk_at dksX4_copy_0 18 rfl rfl)
theorem dX4_copy_21 : decode cX4_copy 21 = .ok (.putfield 17, 3) := dk_181 0 17 (dk_at dksX4_copy_0 21 rfl rfl)
theorem dX4_copy_24 : decode cX4_copy 24 = .ok (.aload_n 1, 1) := dk_43 (dk_at dksX4_copy_1 0 rfl rfl)
theorem dX4_copy_25 : decode cX4_copy 25 = .ok (.aload_n 0, 1) := dk_42 (dk_at dksX4_copy_1 1 rfl rfl)
theorem dX4_copy_26 : decode cX4_copy 26 = .ok (.getfield 20, 3) := dk_180 0 20 (dk_at dksX4_copy_1 2 rfl rfl)
theorem dX4_copy_29 : decode cX4_copy 29 = .ok (.putfield 20, 3) := dk_181 0 20 (dk_at dksX4_copy_1 5 rfl rfl)
theorem dX4_copy_32 : decode cX4_copy 32 = .ok (.aload_n 1, 1) := dk_43 (dk_at dksX4_copy_1 8 rfl rfl)
theorem dX4_copy_33 : decode cX4_copy 33 = .ok (.aload_n 0, 1) := dk_42 (dk_at dksX4_copy_1 9 rfl rfl)
theorem dX4_copy_34 : decode cX4_copy 34 = .ok (.getfield 23, 3) := dk_180 0 23 (dk_at dksX4_copy_1 10 rfl rfl)
theorem dX4_copy_37 : decode cX4_copy 37 = .ok (.putfield 23, 3) := dk_181 0 23 (dk_at dksX4_copy_1 13 rfl rfl)
theorem dX4_copy_40 : decode cX4_copy 40 = .ok (.aload_n 1, 1) := dk_43 (dk_at dksX4_copy_1 16 rfl rfl)
theorem dX4_copy_41 : decode cX4_copy 41 = .ok (.aload_n 0, 1) := dk_42 (dk_at dksX4_copy_1 17 rfl rfl)
theorem dX4_copy_42 : decode cX4_copy 42 = .ok (.getfield 26, 3) := dk_180 0 26 (dk_at dksX4_copy_1 18 rfl rfl)
theorem dX4_copy_45 : decode cX4_copy 45 = .ok (.putfield 26, 3) := dk_181 0 26 (dk_at dksX4_copy_1 21 rfl rfl)
theorem dX4_copy_48 : decode cX4_copy 48 = .ok (.aload_n 1, 1) := dk_43 (dk_at dksX4_copy_2 0 rfl rfl)
theorem dX4_copy_49 : decode cX4_copy 49 = .ok (.aload_n 0, 1) := dk_42 (dk_at dksX4_copy_2 1 rfl rfl)
theorem dX4_copy_50 : decode cX4_copy 50 = .ok (.getfield 30, 3) := dk_180 0 30 (dk_at dksX4_copy_2 2 rfl rfl)
theorem dX4_copy_53 : decode cX4_copy 53 = .ok (.putfield 30, 3) := dk_181 0 30 (dk_at dksX4_copy_2 5 rfl rfl)
theorem dX4_copy_56 : decode cX4_copy 56 = .ok (.aload_n 1, 1) := dk_43 (dk_at dksX4_copy_2 8 rfl rfl)
theorem dX4_copy_57 : decode cX4_copy 57 = .ok (.areturn, 1) := dk_176 (dk_at dksX4_copy_2 9 rfl rfl)
abbrev cX4_minutes : ByteArray := prog_16_method_6_code
def yX4_minutes : MethodName := ⟨RX4, "minutes", "(I)I"⟩
def dkwX4_minutes_0 : List UInt8 := [42, 27, 182, 0, 34, 153, 0, 10, 42, 180, 0, 17, 167, 0, 9, 6, 42, 180, 0, 17, 104, 172]
abbrev dktX4_minutes_0 : List UInt8 := dkwX4_minutes_0 ++ []
theorem dksX4_minutes_0 : cX4_minutes.data.toList.drop 0 = dktX4_minutes_0 := by decide +kernel
theorem dX4_minutes_0 : decode cX4_minutes 0 = .ok (.aload_n 0, 1) := dk_42 (dk_at dksX4_minutes_0 0 rfl rfl)
theorem dX4_minutes_1 : decode cX4_minutes 1 = .ok (.iload_n 1, 1) := dk_27 (dk_at dksX4_minutes_0 1 rfl rfl)
theorem dX4_minutes_2 : decode cX4_minutes 2 = .ok (.invokevirtual 34, 3) := dk_182 0 34 (dk_at dksX4_minutes_0 2 rfl rfl)
theorem dX4_minutes_5 : decode cX4_minutes 5 = .ok (.ifCond .eq 10, 3) := dk_153 0 10 (dk_at dksX4_minutes_0 5 rfl rfl)
theorem dX4_minutes_8 : decode cX4_minutes 8 = .ok (.aload_n 0, 1) := dk_42 (dk_at dksX4_minutes_0 8 rfl rfl)
theorem dX4_minutes_9 : decode cX4_minutes 9 = .ok (.getfield 17, 3) := dk_180 0 17 (dk_at dksX4_minutes_0 9 rfl rfl)
theorem dX4_minutes_12 : decode cX4_minutes 12 = .ok (.goto 9, 3) := dk_167 0 9 (dk_at dksX4_minutes_0 12 rfl rfl)
theorem dX4_minutes_15 : decode cX4_minutes 15 = .ok (.iconst 3, 1) := dk_6 (dk_at dksX4_minutes_0 15 rfl rfl)
theorem dX4_minutes_16 : decode cX4_minutes 16 = .ok (.aload_n 0, 1) := dk_42 (dk_at dksX4_minutes_0 16 rfl rfl)
theorem dX4_minutes_17 : decode cX4_minutes 17 = .ok (.getfield 17, 3) := dk_180 0 17 (dk_at dksX4_minutes_0 17 rfl rfl)
theorem dX4_minutes_20 : decode cX4_minutes 20 = .ok (.imul, 1) := dk_104 (dk_at dksX4_minutes_0 20 rfl rfl)
theorem dX4_minutes_21 : decode cX4_minutes 21 = .ok (.ireturn, 1) := dk_172 (dk_at dksX4_minutes_0 21 rfl rfl)
abbrev cX4_isLight : ByteArray := prog_16_method_4_code
def yX4_isLight : MethodName := ⟨RX4, "isLight", "(I)Z"⟩
def dkwX4_isLight_0 : List UInt8 := [27, 42, 180, 0, 20, 163, 0, 7, 4, 167, 0, 4, 3, 172]
abbrev dktX4_isLight_0 : List UInt8 := dkwX4_isLight_0 ++ []
theorem dksX4_isLight_0 : cX4_isLight.data.toList.drop 0 = dktX4_isLight_0 := by decide +kernel
theorem dX4_isLight_0 : decode cX4_isLight 0 = .ok (.iload_n 1, 1) := dk_27 (dk_at dksX4_isLight_0 0 rfl rfl)
theorem dX4_isLight_1 : decode cX4_isLight 1 = .ok (.aload_n 0, 1) := dk_42 (dk_at dksX4_isLight_0 1 rfl rfl)
theorem dX4_isLight_2 : decode cX4_isLight 2 = .ok (.getfield 20, 3) := dk_180 0 20 (dk_at dksX4_isLight_0 2 rfl rfl)
theorem dX4_isLight_5 : decode cX4_isLight 5 = .ok (.if_icmp .gt 7, 3) := dk_163 0 7 (dk_at dksX4_isLight_0 5 rfl rfl)
theorem dX4_isLight_8 : decode cX4_isLight 8 = .ok (.iconst 1, 1) := dk_4 (dk_at dksX4_isLight_0 8 rfl rfl)
theorem dX4_isLight_9 : decode cX4_isLight 9 = .ok (.goto 4, 3) := dk_167 0 4 (dk_at dksX4_isLight_0 9 rfl rfl)
theorem dX4_isLight_12 : decode cX4_isLight 12 = .ok (.iconst 0, 1) := dk_3 (dk_at dksX4_isLight_0 12 rfl rfl)
theorem dX4_isLight_13 : decode cX4_isLight 13 = .ok (.ireturn, 1) := dk_172 (dk_at dksX4_isLight_0 13 rfl rfl)
abbrev cX4_adds : ByteArray := prog_16_method_8_code
def yX4_adds : MethodName := ⟨RX4, "adds", "(ZI)V"⟩
def dkwX4_adds_1 : List UInt8 := [153, 0, 7, 3, 167, 0, 4, 28, 96, 181, 0, 26, 177]
abbrev dktX4_adds_1 : List UInt8 := dkwX4_adds_1 ++ []
def dkwX4_adds_0 : List UInt8 := [42, 89, 180, 0, 23, 27, 153, 0, 7, 28, 167, 0, 4, 3, 96, 181, 0, 23, 42, 89, 180, 0, 26, 27]
abbrev dktX4_adds_0 : List UInt8 := dkwX4_adds_0 ++ dktX4_adds_1
theorem dksX4_adds_0 : cX4_adds.data.toList.drop 0 = dktX4_adds_0 := by decide +kernel
theorem dksX4_adds_1 : cX4_adds.data.toList.drop 24 = dktX4_adds_1 := dk_seg dksX4_adds_0 24 rfl rfl
theorem dX4_adds_0 : decode cX4_adds 0 = .ok (.aload_n 0, 1) := dk_42 (dk_at dksX4_adds_0 0 rfl rfl)
theorem dX4_adds_1 : decode cX4_adds 1 = .ok (.dup, 1) := dk_89 (dk_at dksX4_adds_0 1 rfl rfl)
theorem dX4_adds_2 : decode cX4_adds 2 = .ok (.getfield 23, 3) := dk_180 0 23 (dk_at dksX4_adds_0 2 rfl rfl)
theorem dX4_adds_5 : decode cX4_adds 5 = .ok (.iload_n 1, 1) := dk_27 (dk_at dksX4_adds_0 5 rfl rfl)
theorem dX4_adds_6 : decode cX4_adds 6 = .ok (.ifCond .eq 7, 3) := dk_153 0 7 (dk_at dksX4_adds_0 6 rfl rfl)
theorem dX4_adds_9 : decode cX4_adds 9 = .ok (.iload_n 2, 1) := dk_28 (dk_at dksX4_adds_0 9 rfl rfl)
theorem dX4_adds_10 : decode cX4_adds 10 = .ok (.goto 4, 3) := dk_167 0 4 (dk_at dksX4_adds_0 10 rfl rfl)
theorem dX4_adds_13 : decode cX4_adds 13 = .ok (.iconst 0, 1) := dk_3 (dk_at dksX4_adds_0 13 rfl rfl)
theorem dX4_adds_14 : decode cX4_adds 14 = .ok (.iadd, 1) := dk_96 (dk_at dksX4_adds_0 14 rfl rfl)
theorem dX4_adds_15 : decode cX4_adds 15 = .ok (.putfield 23, 3) := dk_181 0 23 (dk_at dksX4_adds_0 15 rfl rfl)
theorem dX4_adds_18 : decode cX4_adds 18 = .ok (.aload_n 0, 1) := dk_42 (dk_at dksX4_adds_0 18 rfl rfl)
theorem dX4_adds_19 : decode cX4_adds 19 = .ok (.dup, 1) := dk_89 (dk_at dksX4_adds_0 19 rfl rfl)
theorem dX4_adds_20 : decode cX4_adds 20 = .ok (.getfield 26, 3) := dk_180 0 26 (dk_at dksX4_adds_0 20 rfl rfl)
theorem dX4_adds_23 : decode cX4_adds 23 = .ok (.iload_n 1, 1) := dk_27 (dk_at dksX4_adds_0 23 rfl rfl)
theorem dX4_adds_24 : decode cX4_adds 24 = .ok (.ifCond .eq 7, 3) := dk_153 0 7 (dk_at dksX4_adds_1 0 rfl rfl)
theorem dX4_adds_27 : decode cX4_adds 27 = .ok (.iconst 0, 1) := dk_3 (dk_at dksX4_adds_1 3 rfl rfl)
theorem dX4_adds_28 : decode cX4_adds 28 = .ok (.goto 4, 3) := dk_167 0 4 (dk_at dksX4_adds_1 4 rfl rfl)
theorem dX4_adds_31 : decode cX4_adds 31 = .ok (.iload_n 2, 1) := dk_28 (dk_at dksX4_adds_1 7 rfl rfl)
theorem dX4_adds_32 : decode cX4_adds 32 = .ok (.iadd, 1) := dk_96 (dk_at dksX4_adds_1 8 rfl rfl)
theorem dX4_adds_33 : decode cX4_adds 33 = .ok (.putfield 26, 3) := dk_181 0 26 (dk_at dksX4_adds_1 9 rfl rfl)
theorem dX4_adds_36 : decode cX4_adds 36 = .ok (.return_, 1) := dk_177 (dk_at dksX4_adds_1 12 rfl rfl)
theorem q116 : (Jvm.Cond.initialized "StaffRailway$Stretch") ∈ lw_all := lw_g (lw_at lw_m1 23 rfl) rfl
theorem q529 : (Jvm.Cond.instantiable "StaffRailway$Stretch" (6 : Nat)) ∈ lw_all := lw_g (lw_at lw_m2 196 rfl) rfl
theorem q531 : (Jvm.Cond.instanceMethod ({ cls := "StaffRailway$Stretch", name := "<init>", desc := "()V" } : Jvm.MethodName)) ∈ lw_all := lw_g (lw_at lw_m2 198 rfl) rfl
theorem q532 : (Jvm.Cond.code ({ cls := "StaffRailway$Stretch", name := "<init>", desc := "()V" } : Jvm.MethodName) prog_16_method_1_code (1 : Nat) (Option.none : Option Jvm.ClassFile.FieldType)) ∈ lw_all := lw_g (lw_at lw_m2 199 rfl) rfl
theorem q533 : (Jvm.Cond.methodLink "StaffRailway$Stretch" (1 : Nat) ({ cls := "java/lang/Object", name := "<init>", desc := "()V" } : Jvm.MethodName)) ∈ lw_all := lw_g (lw_at lw_m2 200 rfl) rfl
theorem q534 : (Jvm.Cond.methodLink "StaffRailway$Stretch" (7 : Nat) ({ cls := "StaffRailway$Stretch", name := "sets", desc := "(III)V" } : Jvm.MethodName)) ∈ lw_all := lw_g (lw_at lw_m2 201 rfl) rfl
theorem q535 : (Jvm.Cond.instanceMethod ({ cls := "StaffRailway$Stretch", name := "sets", desc := "(III)V" } : Jvm.MethodName)) ∈ lw_all := lw_g (lw_at lw_m2 202 rfl) rfl
theorem q536 : (Jvm.Cond.selects "StaffRailway$Stretch" ({ cls := "StaffRailway$Stretch", name := "sets", desc := "(III)V" } : Jvm.MethodName) ({ cls := "StaffRailway$Stretch", name := "sets", desc := "(III)V" } : Jvm.MethodName)) ∈ lw_all := lw_g (lw_at lw_m2 203 rfl) rfl
theorem q537 : (Jvm.Cond.code ({ cls := "StaffRailway$Stretch", name := "sets", desc := "(III)V" } : Jvm.MethodName) prog_16_method_2_code (4 : Nat) (Option.none : Option Jvm.ClassFile.FieldType)) ∈ lw_all := lw_g (lw_at lw_m2 204 rfl) rfl
theorem q538 : (Jvm.Cond.fieldLink "StaffRailway$Stretch" (13 : Nat) "StaffRailway$Stretch" "tablets" "I") ∈ lw_all := lw_g (lw_at lw_m2 205 rfl) rfl
theorem q541 : (Jvm.Cond.fieldLink "StaffRailway$Stretch" (17 : Nat) "StaffRailway$Stretch" "length" "I") ∈ lw_all := lw_g (lw_at lw_m2 208 rfl) rfl
theorem q543 : (Jvm.Cond.fieldLink "StaffRailway$Stretch" (20 : Nat) "StaffRailway$Stretch" "limit" "I") ∈ lw_all := lw_g (lw_at lw_m2 210 rfl) rfl
theorem q546 : (Jvm.Cond.fieldLink "StaffRailway$Stretch" (23 : Nat) "StaffRailway$Stretch" "left" "I") ∈ lw_all := lw_g (lw_at lw_m2 213 rfl) rfl
theorem q548 : (Jvm.Cond.fieldLink "StaffRailway$Stretch" (26 : Nat) "StaffRailway$Stretch" "right" "I") ∈ lw_all := lw_g (lw_at lw_m2 215 rfl) rfl
theorem q550 : (Jvm.Cond.fieldLink "StaffRailway$Stretch" (30 : Nat) "StaffRailway$Stretch" "isLost" "Z") ∈ lw_all := lw_g (lw_at lw_m2 217 rfl) rfl
theorem q553 : (Jvm.Cond.lays "StaffRailway$Stretch" "StaffRailway$Stretch" "tablets" "I") ∈ lw_all := lw_g (lw_at lw_m2 220 rfl) rfl
theorem q554 : (Jvm.Cond.soleField "StaffRailway$Stretch" "tablets") ∈ lw_all := lw_g (lw_at lw_m2 221 rfl) rfl
theorem q555 : (Jvm.Cond.lays "StaffRailway$Stretch" "StaffRailway$Stretch" "length" "I") ∈ lw_all := lw_g (lw_at lw_m2 222 rfl) rfl
theorem q556 : (Jvm.Cond.soleField "StaffRailway$Stretch" "length") ∈ lw_all := lw_g (lw_at lw_m2 223 rfl) rfl
theorem q557 : (Jvm.Cond.lays "StaffRailway$Stretch" "StaffRailway$Stretch" "limit" "I") ∈ lw_all := lw_g (lw_at lw_m2 224 rfl) rfl
theorem q558 : (Jvm.Cond.soleField "StaffRailway$Stretch" "limit") ∈ lw_all := lw_g (lw_at lw_m2 225 rfl) rfl
theorem q559 : (Jvm.Cond.lays "StaffRailway$Stretch" "StaffRailway$Stretch" "left" "I") ∈ lw_all := lw_g (lw_at lw_m2 226 rfl) rfl
theorem q560 : (Jvm.Cond.soleField "StaffRailway$Stretch" "left") ∈ lw_all := lw_g (lw_at lw_m2 227 rfl) rfl
theorem q561 : (Jvm.Cond.lays "StaffRailway$Stretch" "StaffRailway$Stretch" "right" "I") ∈ lw_all := lw_g (lw_at lw_m2 228 rfl) rfl
theorem q562 : (Jvm.Cond.soleField "StaffRailway$Stretch" "right") ∈ lw_all := lw_g (lw_at lw_m2 229 rfl) rfl
theorem q563 : (Jvm.Cond.lays "StaffRailway$Stretch" "StaffRailway$Stretch" "isLost" "Z") ∈ lw_all := lw_g (lw_at lw_m2 230 rfl) rfl
theorem q564 : (Jvm.Cond.soleField "StaffRailway$Stretch" "isLost") ∈ lw_all := lw_g (lw_at lw_m2 231 rfl) rfl
theorem q565 : (Jvm.Cond.superclass "StaffRailway$Stretch" "java/lang/Object") ∈ lw_all := lw_g (lw_at lw_m2 232 rfl) rfl
theorem q906 : (Jvm.Cond.instanceMethod ({ cls := "StaffRailway$Stretch", name := "tokens", desc := "(Z)I" } : Jvm.MethodName)) ∈ lw_all := lw_g (lw_at lw_m4 93 rfl) rfl
theorem q907 : (Jvm.Cond.selects "StaffRailway$Stretch" ({ cls := "StaffRailway$Stretch", name := "tokens", desc := "(Z)I" } : Jvm.MethodName) ({ cls := "StaffRailway$Stretch", name := "tokens", desc := "(Z)I" } : Jvm.MethodName)) ∈ lw_all := lw_g (lw_at lw_m4 94 rfl) rfl
theorem q908 : (Jvm.Cond.code ({ cls := "StaffRailway$Stretch", name := "tokens", desc := "(Z)I" } : Jvm.MethodName) prog_16_method_7_code (2 : Nat) (Option.some Jvm.ClassFile.FieldType.int)) ∈ lw_all := lw_g (lw_at lw_m4 95 rfl) rfl
theorem q910 : (Jvm.Cond.instanceMethod ({ cls := "StaffRailway$Stretch", name := "isTooHeavy", desc := "(I)Z" } : Jvm.MethodName)) ∈ lw_all := lw_g (lw_at lw_m4 97 rfl) rfl
theorem q911 : (Jvm.Cond.selects "StaffRailway$Stretch" ({ cls := "StaffRailway$Stretch", name := "isTooHeavy", desc := "(I)Z" } : Jvm.MethodName) ({ cls := "StaffRailway$Stretch", name := "isTooHeavy", desc := "(I)Z" } : Jvm.MethodName)) ∈ lw_all := lw_g (lw_at lw_m4 98 rfl) rfl
theorem q912 : (Jvm.Cond.code ({ cls := "StaffRailway$Stretch", name := "isTooHeavy", desc := "(I)Z" } : Jvm.MethodName) prog_16_method_5_code (2 : Nat) (Option.some Jvm.ClassFile.FieldType.boolean)) ∈ lw_all := lw_g (lw_at lw_m4 99 rfl) rfl
theorem q952 : (Jvm.Cond.instanceMethod ({ cls := "StaffRailway$Stretch", name := "copy", desc := "()LStaffRailway$Stretch;" } : Jvm.MethodName)) ∈ lw_all := lw_g (lw_at lw_m4 139 rfl) rfl
theorem q953 : (Jvm.Cond.selects "StaffRailway$Stretch" ({ cls := "StaffRailway$Stretch", name := "copy", desc := "()LStaffRailway$Stretch;" } : Jvm.MethodName) ({ cls := "StaffRailway$Stretch", name := "copy", desc := "()LStaffRailway$Stretch;" } : Jvm.MethodName)) ∈ lw_all := lw_g (lw_at lw_m4 140 rfl) rfl
theorem q954 : (Jvm.Cond.code ({ cls := "StaffRailway$Stretch", name := "copy", desc := "()LStaffRailway$Stretch;" } : Jvm.MethodName) prog_16_method_3_code (2 : Nat) (Option.some (Jvm.ClassFile.FieldType.object "StaffRailway$Stretch"))) ∈ lw_all := lw_g (lw_at lw_m4 141 rfl) rfl
theorem q955 : (Jvm.Cond.classLink "StaffRailway$Stretch" (8 : Nat) "StaffRailway$Stretch") ∈ lw_all := lw_g (lw_at lw_m4 142 rfl) rfl
theorem q956 : (Jvm.Cond.methodLink "StaffRailway$Stretch" (29 : Nat) ({ cls := "StaffRailway$Stretch", name := "<init>", desc := "()V" } : Jvm.MethodName)) ∈ lw_all := lw_g (lw_at lw_m4 143 rfl) rfl
theorem q1019 : (Jvm.Cond.selects "StaffRailway$Stretch" ({ cls := "java/lang/Object", name := "getClass", desc := "()Ljava/lang/Class;" } : Jvm.MethodName) ({ cls := "java/lang/Object", name := "getClass", desc := "()Ljava/lang/Class;" } : Jvm.MethodName)) ∈ lw_all := lw_g (lw_at lw_m4 206 rfl) rfl
theorem q1427 : (Jvm.Cond.instanceMethod ({ cls := "StaffRailway$Stretch", name := "minutes", desc := "(I)I" } : Jvm.MethodName)) ∈ lw_all := lw_g (lw_at lw_m6 134 rfl) rfl
theorem q1428 : (Jvm.Cond.selects "StaffRailway$Stretch" ({ cls := "StaffRailway$Stretch", name := "minutes", desc := "(I)I" } : Jvm.MethodName) ({ cls := "StaffRailway$Stretch", name := "minutes", desc := "(I)I" } : Jvm.MethodName)) ∈ lw_all := lw_g (lw_at lw_m6 135 rfl) rfl
theorem q1429 : (Jvm.Cond.code ({ cls := "StaffRailway$Stretch", name := "minutes", desc := "(I)I" } : Jvm.MethodName) prog_16_method_6_code (2 : Nat) (Option.some Jvm.ClassFile.FieldType.int)) ∈ lw_all := lw_g (lw_at lw_m6 136 rfl) rfl
theorem q1430 : (Jvm.Cond.methodLink "StaffRailway$Stretch" (34 : Nat) ({ cls := "StaffRailway$Stretch", name := "isLight", desc := "(I)Z" } : Jvm.MethodName)) ∈ lw_all := lw_g (lw_at lw_m6 137 rfl) rfl
theorem q1431 : (Jvm.Cond.instanceMethod ({ cls := "StaffRailway$Stretch", name := "isLight", desc := "(I)Z" } : Jvm.MethodName)) ∈ lw_all := lw_g (lw_at lw_m6 138 rfl) rfl
theorem q1432 : (Jvm.Cond.selects "StaffRailway$Stretch" ({ cls := "StaffRailway$Stretch", name := "isLight", desc := "(I)Z" } : Jvm.MethodName) ({ cls := "StaffRailway$Stretch", name := "isLight", desc := "(I)Z" } : Jvm.MethodName)) ∈ lw_all := lw_g (lw_at lw_m6 139 rfl) rfl
theorem q1433 : (Jvm.Cond.code ({ cls := "StaffRailway$Stretch", name := "isLight", desc := "(I)Z" } : Jvm.MethodName) prog_16_method_4_code (2 : Nat) (Option.some Jvm.ClassFile.FieldType.boolean)) ∈ lw_all := lw_g (lw_at lw_m6 140 rfl) rfl
theorem q1436 : (Jvm.Cond.instanceMethod ({ cls := "StaffRailway$Stretch", name := "adds", desc := "(ZI)V" } : Jvm.MethodName)) ∈ lw_all := lw_g (lw_at lw_m6 143 rfl) rfl
theorem q1437 : (Jvm.Cond.selects "StaffRailway$Stretch" ({ cls := "StaffRailway$Stretch", name := "adds", desc := "(ZI)V" } : Jvm.MethodName) ({ cls := "StaffRailway$Stretch", name := "adds", desc := "(ZI)V" } : Jvm.MethodName)) ∈ lw_all := lw_g (lw_at lw_m6 144 rfl) rfl
theorem q1438 : (Jvm.Cond.code ({ cls := "StaffRailway$Stretch", name := "adds", desc := "(ZI)V" } : Jvm.MethodName) prog_16_method_8_code (3 : Nat) (Option.none : Option Jvm.ClassFile.FieldType)) ∈ lw_all := lw_g (lw_at lw_m6 145 rfl) rfl
theorem q2646 : (Jvm.Cond.castable "StaffRailway$Stretch" "java/lang/Object") ∈ lw_tbl := lw_at lw_m11 153 rfl
theorem in_X4 : ∀ w ∈ wsX40, w ∈ lw_all := lw_in wsX40 [553, 555, 557, 559, 561, 563] (by decide +kernel) (by decide +kernel)
/-! StaffRailway$Refused -/
set_option maxRecDepth 100000
def RX6 : String := "StaffRailway$Refused"
def TX6 : u_T := fun k => match k with
  | 0 => ("java/lang/Throwable", "cause", "Ljava/lang/Throwable;", false)
  | 1 => ("java/lang/Throwable", "stackTrace", "[Ljava/lang/StackTraceElement;", false)
  | 2 => ("java/lang/Throwable", "suppressedExceptions", "Ljava/util/List;", false)
  | 3 => ("java/lang/Throwable", "detailMessage", "Ljava/lang/String;", false)
  | 4 => ("java/lang/Throwable", "backtrace", "Ljava/lang/Object;", false)
  | 5 => ("java/lang/Throwable", "depth", "I", false)
  | 6 => ("StaffRailway$Refused", "reason", "I", true)
  | _ => ("StaffRailway$Refused", "detail", "I", true)
def tyX6 : Nat → FieldType := fun k => match k with
  | 0 => .object "java/lang/Throwable"
  | 1 => .array (.object "java/lang/StackTraceElement")
  | 2 => .object "java/util/List"
  | 3 => .object "java/lang/String"
  | 4 => .object "java/lang/Object"
  | 5 => .int
  | 6 => .int
  | _ => .int
abbrev wsX60 : List Cond := u_ws RX6 TX6 8
theorem nmX6 : ∀ a, a < 8 → ∀ b, b < 8 → a ≠ b → (TX6 a).2.1 ≠ (TX6 b).2.1 := by decide +kernel
theorem tyX6_ok : ∀ k, k < 8 → parseFieldDescriptor (TX6 k).2.2.1 = some (tyX6 k) := by decide +kernel
abbrev cX6_init : ByteArray := prog_15_method_1_code
def yX6_init : MethodName := ⟨RX6, "<init>", "(II)V"⟩
def dkwX6_init_0 : List UInt8 := [42, 27, 28, 1, 183, 0, 1, 177]
abbrev dktX6_init_0 : List UInt8 := dkwX6_init_0 ++ []
theorem dksX6_init_0 : cX6_init.data.toList.drop 0 = dktX6_init_0 := by decide +kernel
theorem dX6_init_0 : decode cX6_init 0 = .ok (.aload_n 0, 1) := dk_42 (dk_at dksX6_init_0 0 rfl rfl)
theorem dX6_init_1 : decode cX6_init 1 = .ok (.iload_n 1, 1) := dk_27 (dk_at dksX6_init_0 1 rfl rfl)
theorem dX6_init_2 : decode cX6_init 2 = .ok (.iload_n 2, 1) := dk_28 (dk_at dksX6_init_0 2 rfl rfl)
theorem dX6_init_3 : decode cX6_init 3 = .ok (.aconst_null, 1) := dk_1 (dk_at dksX6_init_0 3 rfl rfl)
theorem dX6_init_4 : decode cX6_init 4 = .ok (.invokespecial 1, 3) := dk_183 0 1 (dk_at dksX6_init_0 4 rfl rfl)
theorem dX6_init_7 : decode cX6_init 7 = .ok (.return_, 1) := dk_177 (dk_at dksX6_init_0 7 rfl rfl)
abbrev cX6_init_2 : ByteArray := prog_15_method_2_code
def yX6_init_2 : MethodName := ⟨RX6, "<init>", "(IILStaffRailway$Refused;)V"⟩
def dkwX6_init_2_0 : List UInt8 := [42, 1, 45, 3, 3, 183, 0, 7, 42, 27, 181, 0, 12, 42, 28, 181, 0, 16, 177]
abbrev dktX6_init_2_0 : List UInt8 := dkwX6_init_2_0 ++ []
theorem dksX6_init_2_0 : cX6_init_2.data.toList.drop 0 = dktX6_init_2_0 := by decide +kernel
theorem dX6_init_2_0 : decode cX6_init_2 0 = .ok (.aload_n 0, 1) := dk_42 (dk_at dksX6_init_2_0 0 rfl rfl)
theorem dX6_init_2_1 : decode cX6_init_2 1 = .ok (.aconst_null, 1) := dk_1 (dk_at dksX6_init_2_0 1 rfl rfl)
theorem dX6_init_2_2 : decode cX6_init_2 2 = .ok (.aload_n 3, 1) := dk_45 (dk_at dksX6_init_2_0 2 rfl rfl)
theorem dX6_init_2_3 : decode cX6_init_2 3 = .ok (.iconst 0, 1) := dk_3 (dk_at dksX6_init_2_0 3 rfl rfl)
theorem dX6_init_2_4 : decode cX6_init_2 4 = .ok (.iconst 0, 1) := dk_3 (dk_at dksX6_init_2_0 4 rfl rfl)
theorem dX6_init_2_5 : decode cX6_init_2 5 = .ok (.invokespecial 7, 3) := dk_183 0 7 (dk_at dksX6_init_2_0 5 rfl rfl)
theorem dX6_init_2_8 : decode cX6_init_2 8 = .ok (.aload_n 0, 1) := dk_42 (dk_at dksX6_init_2_0 8 rfl rfl)
theorem dX6_init_2_9 : decode cX6_init_2 9 = .ok (.iload_n 1, 1) := dk_27 (dk_at dksX6_init_2_0 9 rfl rfl)
theorem dX6_init_2_10 : decode cX6_init_2 10 = .ok (.putfield 12, 3) := dk_181 0 12 (dk_at dksX6_init_2_0 10 rfl rfl)
theorem dX6_init_2_13 : decode cX6_init_2 13 = .ok (.aload_n 0, 1) := dk_42 (dk_at dksX6_init_2_0 13 rfl rfl)
theorem dX6_init_2_14 : decode cX6_init_2 14 = .ok (.iload_n 2, 1) := dk_28 (dk_at dksX6_init_2_0 14 rfl rfl)
theorem dX6_init_2_15 : decode cX6_init_2 15 = .ok (.putfield 16, 3) := dk_181 0 16 (dk_at dksX6_init_2_0 15 rfl rfl)
theorem dX6_init_2_18 : decode cX6_init_2 18 = .ok (.return_, 1) := dk_177 (dk_at dksX6_init_2_0 18 rfl rfl)
abbrev cX6_behind : ByteArray := prog_15_method_3_code
def yX6_behind : MethodName := ⟨RX6, "behind", "(I)LStaffRailway$Refused;"⟩
def dkwX6_behind_1 : List UInt8 := [44, 192, 0, 2, 176]
abbrev dktX6_behind_1 : List UInt8 := dkwX6_behind_1 ++ []
def dkwX6_behind_0 : List UInt8 := [42, 77, 3, 62, 29, 27, 162, 0, 18, 44, 198, 0, 14, 44, 182, 0, 19, 77, 132, 3, 1, 167, 255, 239]
abbrev dktX6_behind_0 : List UInt8 := dkwX6_behind_0 ++ dktX6_behind_1
theorem dksX6_behind_0 : cX6_behind.data.toList.drop 0 = dktX6_behind_0 := by decide +kernel
theorem dksX6_behind_1 : cX6_behind.data.toList.drop 24 = dktX6_behind_1 := dk_seg dksX6_behind_0 24 rfl rfl
theorem dX6_behind_0 : decode cX6_behind 0 = .ok (.aload_n 0, 1) := dk_42 (dk_at dksX6_behind_0 0 rfl rfl)
theorem dX6_behind_1 : decode cX6_behind 1 = .ok (.astore_n 2, 1) := dk_77 (dk_at dksX6_behind_0 1 rfl rfl)
theorem dX6_behind_2 : decode cX6_behind 2 = .ok (.iconst 0, 1) := dk_3 (dk_at dksX6_behind_0 2 rfl rfl)
theorem dX6_behind_3 : decode cX6_behind 3 = .ok (.istore_n 3, 1) := dk_62 (dk_at dksX6_behind_0 3 rfl rfl)
theorem dX6_behind_4 : decode cX6_behind 4 = .ok (.iload_n 3, 1) := dk_29 (dk_at dksX6_behind_0 4 rfl rfl)
theorem dX6_behind_5 : decode cX6_behind 5 = .ok (.iload_n 1, 1) := dk_27 (dk_at dksX6_behind_0 5 rfl rfl)
theorem dX6_behind_6 : decode cX6_behind 6 = .ok (.if_icmp .ge 18, 3) := dk_162 0 18 (dk_at dksX6_behind_0 6 rfl rfl)
theorem dX6_behind_9 : decode cX6_behind 9 = .ok (.aload_n 2, 1) := dk_44 (dk_at dksX6_behind_0 9 rfl rfl)
theorem dX6_behind_10 : decode cX6_behind 10 = .ok (.ifnull 14, 3) := dk_198 0 14 (dk_at dksX6_behind_0 10 rfl rfl)
theorem dX6_behind_13 : decode cX6_behind 13 = .ok (.aload_n 2, 1) := dk_44 (dk_at dksX6_behind_0 13 rfl rfl)
theorem dX6_behind_14 : decode cX6_behind 14 = .ok (.invokevirtual 19, 3) := dk_182 0 19 (dk_at dksX6_behind_0 14 rfl rfl)
theorem dX6_behind_17 : decode cX6_behind 17 = .ok (.astore_n 2, 1) := dk_77 (dk_at dksX6_behind_0 17 rfl rfl)
theorem dX6_behind_18 : decode cX6_behind 18 = .ok (.iinc 3 1, 3) := dk_132 3 1 (dk_at dksX6_behind_0 18 rfl rfl)
theorem dX6_behind_21 : decode cX6_behind 21 = .ok (.goto (-17), 3) := dk_167 255 239 (dk_at dksX6_behind_0 21 rfl rfl)
theorem dX6_behind_24 : decode cX6_behind 24 = .ok (.aload_n 2, 1) := dk_44 (dk_at dksX6_behind_1 0 rfl rfl)
theorem dX6_behind_25 : decode cX6_behind 25 = .ok (.checkcast 2, 3) := dk_192 0 2 (dk_at dksX6_behind_1 1 rfl rfl)
theorem dX6_behind_28 : decode cX6_behind 28 = .ok (.areturn, 1) := dk_176 (dk_at dksX6_behind_1 4 rfl rfl)
abbrev cX6_told : ByteArray := prog_15_method_4_code
def yX6_told : MethodName := ⟨RX6, "told", "(Z)I"⟩
def dkwX6_told_0 : List UInt8 := [27, 153, 0, 10, 42, 180, 0, 16, 167, 0, 7, 42, 180, 0, 12, 172]
abbrev dktX6_told_0 : List UInt8 := dkwX6_told_0 ++ []
theorem dksX6_told_0 : cX6_told.data.toList.drop 0 = dktX6_told_0 := by decide +kernel
theorem dX6_told_0 : decode cX6_told 0 = .ok (.iload_n 1, 1) := dk_27 (dk_at dksX6_told_0 0 rfl rfl)
theorem dX6_told_1 : decode cX6_told 1 = .ok (.ifCond .eq 10, 3) := dk_153 0 10 (dk_at dksX6_told_0 1 rfl rfl)
theorem dX6_told_4 : decode cX6_told 4 = .ok (.aload_n 0, 1) := dk_42 (dk_at dksX6_told_0 4 rfl rfl)
theorem dX6_told_5 : decode cX6_told 5 = .ok (.getfield 16, 3) := dk_180 0 16 (dk_at dksX6_told_0 5 rfl rfl)
theorem dX6_told_8 : decode cX6_told 8 = .ok (.goto 7, 3) := dk_167 0 7 (dk_at dksX6_told_0 8 rfl rfl)
theorem dX6_told_11 : decode cX6_told 11 = .ok (.aload_n 0, 1) := dk_42 (dk_at dksX6_told_0 11 rfl rfl)
theorem dX6_told_12 : decode cX6_told 12 = .ok (.getfield 12, 3) := dk_180 0 12 (dk_at dksX6_told_0 12 rfl rfl)
theorem dX6_told_15 : decode cX6_told 15 = .ok (.ireturn, 1) := dk_172 (dk_at dksX6_told_0 15 rfl rfl)
theorem q123 : (Jvm.Cond.initialized "StaffRailway$Refused") ∈ lw_all := lw_g (lw_at lw_m1 30 rfl) rfl
theorem q208 : (Jvm.Cond.selects "StaffRailway$Refused" ({ cls := "java/lang/Throwable", name := "fillInStackTrace", desc := "()Ljava/lang/Throwable;" } : Jvm.MethodName) ({ cls := "java/lang/Throwable", name := "fillInStackTrace", desc := "()Ljava/lang/Throwable;" } : Jvm.MethodName)) ∈ lw_all := lw_g (lw_at lw_m1 115 rfl) rfl
theorem q700 : (Jvm.Cond.instantiable "StaffRailway$Refused" (8 : Nat)) ∈ lw_all := lw_g (lw_at lw_m3 127 rfl) rfl
theorem q701 : (Jvm.Cond.castable "StaffRailway$Refused" "StaffRailway$Refused") ∈ lw_tbl := lw_at lw_m3 128 rfl
theorem q702 : (Jvm.Cond.selects "StaffRailway$Refused" ({ cls := "java/lang/Throwable", name := "fillInStackTrace", desc := "(I)Ljava/lang/Throwable;" } : Jvm.MethodName) ({ cls := "java/lang/Throwable", name := "fillInStackTrace", desc := "(I)Ljava/lang/Throwable;" } : Jvm.MethodName)) ∈ lw_all := lw_g (lw_at lw_m3 129 rfl) rfl
theorem q703 : (Jvm.Cond.lays "StaffRailway$Refused" "java/lang/Throwable" "cause" "Ljava/lang/Throwable;") ∈ lw_all := lw_g (lw_at lw_m3 130 rfl) rfl
theorem q704 : (Jvm.Cond.lays "StaffRailway$Refused" "java/lang/Throwable" "stackTrace" "[Ljava/lang/StackTraceElement;") ∈ lw_all := lw_g (lw_at lw_m3 131 rfl) rfl
theorem q705 : (Jvm.Cond.lays "StaffRailway$Refused" "java/lang/Throwable" "suppressedExceptions" "Ljava/util/List;") ∈ lw_all := lw_g (lw_at lw_m3 132 rfl) rfl
theorem q706 : (Jvm.Cond.lays "StaffRailway$Refused" "java/lang/Throwable" "detailMessage" "Ljava/lang/String;") ∈ lw_all := lw_g (lw_at lw_m3 133 rfl) rfl
theorem q707 : (Jvm.Cond.lays "StaffRailway$Refused" "java/lang/Throwable" "backtrace" "Ljava/lang/Object;") ∈ lw_all := lw_g (lw_at lw_m3 134 rfl) rfl
theorem q709 : (Jvm.Cond.instanceMethod ({ cls := "StaffRailway$Refused", name := "<init>", desc := "(II)V" } : Jvm.MethodName)) ∈ lw_all := lw_g (lw_at lw_m3 136 rfl) rfl
theorem q710 : (Jvm.Cond.code ({ cls := "StaffRailway$Refused", name := "<init>", desc := "(II)V" } : Jvm.MethodName) prog_15_method_1_code (3 : Nat) (Option.none : Option Jvm.ClassFile.FieldType)) ∈ lw_all := lw_g (lw_at lw_m3 137 rfl) rfl
theorem q711 : (Jvm.Cond.methodLink "StaffRailway$Refused" (1 : Nat) ({ cls := "StaffRailway$Refused", name := "<init>", desc := "(IILStaffRailway$Refused;)V" } : Jvm.MethodName)) ∈ lw_all := lw_g (lw_at lw_m3 138 rfl) rfl
theorem q712 : (Jvm.Cond.instanceMethod ({ cls := "StaffRailway$Refused", name := "<init>", desc := "(IILStaffRailway$Refused;)V" } : Jvm.MethodName)) ∈ lw_all := lw_g (lw_at lw_m3 139 rfl) rfl
theorem q713 : (Jvm.Cond.code ({ cls := "StaffRailway$Refused", name := "<init>", desc := "(IILStaffRailway$Refused;)V" } : Jvm.MethodName) prog_15_method_2_code (4 : Nat) (Option.none : Option Jvm.ClassFile.FieldType)) ∈ lw_all := lw_g (lw_at lw_m3 140 rfl) rfl
theorem q714 : (Jvm.Cond.methodLink "StaffRailway$Refused" (7 : Nat) ({ cls := "java/lang/Exception", name := "<init>", desc := "(Ljava/lang/String;Ljava/lang/Throwable;ZZ)V" } : Jvm.MethodName)) ∈ lw_all := lw_g (lw_at lw_m3 141 rfl) rfl
theorem q720 : (Jvm.Cond.fieldLink "StaffRailway$Refused" (12 : Nat) "StaffRailway$Refused" "reason" "I") ∈ lw_all := lw_g (lw_at lw_m3 147 rfl) rfl
theorem q721 : (Jvm.Cond.fieldLink "StaffRailway$Refused" (16 : Nat) "StaffRailway$Refused" "detail" "I") ∈ lw_all := lw_g (lw_at lw_m3 148 rfl) rfl
theorem q722 : (Jvm.Cond.laysFinal "StaffRailway$Refused" "StaffRailway$Refused" "reason" "I") ∈ lw_all := lw_g (lw_at lw_m3 149 rfl) rfl
theorem q723 : (Jvm.Cond.soleField "StaffRailway$Refused" "reason") ∈ lw_all := lw_g (lw_at lw_m3 150 rfl) rfl
theorem q724 : (Jvm.Cond.laysFinal "StaffRailway$Refused" "StaffRailway$Refused" "detail" "I") ∈ lw_all := lw_g (lw_at lw_m3 151 rfl) rfl
theorem q725 : (Jvm.Cond.soleField "StaffRailway$Refused" "detail") ∈ lw_all := lw_g (lw_at lw_m3 152 rfl) rfl
theorem q726 : (Jvm.Cond.lays "StaffRailway$Refused" "java/lang/Throwable" "depth" "I") ∈ lw_all := lw_g (lw_at lw_m3 153 rfl) rfl
theorem q727 : (Jvm.Cond.superclass "StaffRailway$Refused" "java/lang/Exception") ∈ lw_all := lw_g (lw_at lw_m3 154 rfl) rfl
theorem q1018 : (Jvm.Cond.selects "StaffRailway$Refused" ({ cls := "java/lang/Object", name := "getClass", desc := "()Ljava/lang/Class;" } : Jvm.MethodName) ({ cls := "java/lang/Object", name := "getClass", desc := "()Ljava/lang/Class;" } : Jvm.MethodName)) ∈ lw_all := lw_g (lw_at lw_m4 205 rfl) rfl
theorem q1584 : (Jvm.Cond.instanceMethod ({ cls := "StaffRailway$Refused", name := "behind", desc := "(I)LStaffRailway$Refused;" } : Jvm.MethodName)) ∈ lw_all := lw_g (lw_at lw_m7 51 rfl) rfl
theorem q1585 : (Jvm.Cond.selects "StaffRailway$Refused" ({ cls := "StaffRailway$Refused", name := "behind", desc := "(I)LStaffRailway$Refused;" } : Jvm.MethodName) ({ cls := "StaffRailway$Refused", name := "behind", desc := "(I)LStaffRailway$Refused;" } : Jvm.MethodName)) ∈ lw_all := lw_g (lw_at lw_m7 52 rfl) rfl
theorem q1586 : (Jvm.Cond.code ({ cls := "StaffRailway$Refused", name := "behind", desc := "(I)LStaffRailway$Refused;" } : Jvm.MethodName) prog_15_method_3_code (4 : Nat) (Option.some (Jvm.ClassFile.FieldType.object "StaffRailway$Refused"))) ∈ lw_all := lw_g (lw_at lw_m7 53 rfl) rfl
theorem q1587 : (Jvm.Cond.methodLink "StaffRailway$Refused" (19 : Nat) ({ cls := "java/lang/Throwable", name := "getCause", desc := "()Ljava/lang/Throwable;" } : Jvm.MethodName)) ∈ lw_all := lw_g (lw_at lw_m7 54 rfl) rfl
theorem q1591 : (Jvm.Cond.selects "StaffRailway$Refused" ({ cls := "java/lang/Throwable", name := "getCause", desc := "()Ljava/lang/Throwable;" } : Jvm.MethodName) ({ cls := "java/lang/Throwable", name := "getCause", desc := "()Ljava/lang/Throwable;" } : Jvm.MethodName)) ∈ lw_all := lw_g (lw_at lw_m7 58 rfl) rfl
theorem q1602 : (Jvm.Cond.classLink "StaffRailway$Refused" (2 : Nat) "StaffRailway$Refused") ∈ lw_all := lw_g (lw_at lw_m7 69 rfl) rfl
theorem q1609 : (Jvm.Cond.instanceMethod ({ cls := "StaffRailway$Refused", name := "told", desc := "(Z)I" } : Jvm.MethodName)) ∈ lw_all := lw_g (lw_at lw_m7 76 rfl) rfl
theorem q1610 : (Jvm.Cond.selects "StaffRailway$Refused" ({ cls := "StaffRailway$Refused", name := "told", desc := "(Z)I" } : Jvm.MethodName) ({ cls := "StaffRailway$Refused", name := "told", desc := "(Z)I" } : Jvm.MethodName)) ∈ lw_all := lw_g (lw_at lw_m7 77 rfl) rfl
theorem q1611 : (Jvm.Cond.code ({ cls := "StaffRailway$Refused", name := "told", desc := "(Z)I" } : Jvm.MethodName) prog_15_method_4_code (2 : Nat) (Option.some Jvm.ClassFile.FieldType.int)) ∈ lw_all := lw_g (lw_at lw_m7 78 rfl) rfl
theorem q2661 : (Jvm.Cond.castable "StaffRailway$Refused" "java/lang/Object") ∈ lw_tbl := lw_at lw_m11 168 rfl
theorem in_X6 : ∀ w ∈ wsX60, w ∈ lw_all := lw_in wsX60 [703, 704, 705, 706, 707, 726, 722, 724] (by decide +kernel) (by decide +kernel)
/-! StaffRailway$Pilotman -/
set_option maxRecDepth 100000
def RX7 : String := "StaffRailway$Pilotman"
def TX7 : u_T := fun k => match k with
  | 0 => ("StaffRailway$Pilotman", "number", "I", true)
  | 1 => ("StaffRailway$Pilotman", "station", "I", false)
  | _ => ("StaffRailway$Pilotman", "stretch", "I", false)
def tyX7 : Nat → FieldType := fun k => match k with
  | 0 => .int
  | 1 => .int
  | _ => .int
abbrev wsX70 : List Cond := u_ws RX7 TX7 3
theorem nmX7 : ∀ a, a < 3 → ∀ b, b < 3 → a ≠ b → (TX7 a).2.1 ≠ (TX7 b).2.1 := by decide +kernel
theorem tyX7_ok : ∀ k, k < 3 → parseFieldDescriptor (TX7 k).2.2.1 = some (tyX7 k) := by decide +kernel
abbrev cX7_isFree : ByteArray := prog_13_method_3_code
def yX7_isFree : MethodName := ⟨RX7, "isFree", "()Z"⟩
def dkwX7_isFree_0 : List UInt8 := [42, 180, 0, 18, 2, 160, 0, 7, 4, 167, 0, 4, 3, 172]
abbrev dktX7_isFree_0 : List UInt8 := dkwX7_isFree_0 ++ []
theorem dksX7_isFree_0 : cX7_isFree.data.toList.drop 0 = dktX7_isFree_0 := by decide +kernel
theorem dX7_isFree_0 : decode cX7_isFree 0 = .ok (.aload_n 0, 1) := dk_42 (dk_at dksX7_isFree_0 0 rfl rfl)
theorem dX7_isFree_1 : decode cX7_isFree 1 = .ok (.getfield 18, 3) := dk_180 0 18 (dk_at dksX7_isFree_0 1 rfl rfl)
theorem dX7_isFree_4 : decode cX7_isFree 4 = .ok (.iconst (-1), 1) := dk_2 (dk_at dksX7_isFree_0 4 rfl rfl)
theorem dX7_isFree_5 : decode cX7_isFree 5 = .ok (.if_icmp .ne 7, 3) := dk_160 0 7 (dk_at dksX7_isFree_0 5 rfl rfl)
theorem dX7_isFree_8 : decode cX7_isFree 8 = .ok (.iconst 1, 1) := dk_4 (dk_at dksX7_isFree_0 8 rfl rfl)
theorem dX7_isFree_9 : decode cX7_isFree 9 = .ok (.goto 4, 3) := dk_167 0 4 (dk_at dksX7_isFree_0 9 rfl rfl)
theorem dX7_isFree_12 : decode cX7_isFree 12 = .ok (.iconst 0, 1) := dk_3 (dk_at dksX7_isFree_0 12 rfl rfl)
theorem dX7_isFree_13 : decode cX7_isFree 13 = .ok (.ireturn, 1) := dk_172 (dk_at dksX7_isFree_0 13 rfl rfl)
abbrev cX7_copy : ByteArray := prog_13_method_2_code
def yX7_copy : MethodName := ⟨RX7, "copy", "()LStaffRailway$Pilotman;"⟩
def dkwX7_copy_1 : List UInt8 := [43, 176]
abbrev dktX7_copy_1 : List UInt8 := dkwX7_copy_1 ++ []
def dkwX7_copy_0 : List UInt8 := [187, 0, 10, 89, 42, 180, 0, 9, 42, 180, 0, 15, 183, 0, 21, 76, 43, 42, 180, 0, 18, 181, 0, 18]
abbrev dktX7_copy_0 : List UInt8 := dkwX7_copy_0 ++ dktX7_copy_1
theorem dksX7_copy_0 : cX7_copy.data.toList.drop 0 = dktX7_copy_0 := by decide +kernel
theorem dksX7_copy_1 : cX7_copy.data.toList.drop 24 = dktX7_copy_1 := dk_seg dksX7_copy_0 24 rfl rfl
theorem dX7_copy_0 : decode cX7_copy 0 = .ok (.new 10, 3) := dk_187 0 10 (dk_at dksX7_copy_0 0 rfl rfl)
theorem dX7_copy_3 : decode cX7_copy 3 = .ok (.dup, 1) := dk_89 (dk_at dksX7_copy_0 3 rfl rfl)
theorem dX7_copy_4 : decode cX7_copy 4 = .ok (.aload_n 0, 1) := dk_42 (dk_at dksX7_copy_0 4 rfl rfl)
theorem dX7_copy_5 : decode cX7_copy 5 = .ok (.getfield 9, 3) := dk_180 0 9 (dk_at dksX7_copy_0 5 rfl rfl)
theorem dX7_copy_8 : decode cX7_copy 8 = .ok (.aload_n 0, 1) := dk_42 (dk_at dksX7_copy_0 8 rfl rfl)
theorem dX7_copy_9 : decode cX7_copy 9 = .ok (.getfield 15, 3) := dk_180 0 15 (dk_at dksX7_copy_0 9 rfl rfl)
theorem dX7_copy_12 : decode cX7_copy 12 = .ok (.invokespecial 21, 3) := dk_183 0 21 (dk_at dksX7_copy_0 12 rfl rfl)
theorem dX7_copy_15 : decode cX7_copy 15 = .ok (.astore_n 1, 1) := dk_76 (dk_at dksX7_copy_0 15 rfl rfl)
theorem dX7_copy_16 : decode cX7_copy 16 = .ok (.aload_n 1, 1) := dk_43 (dk_at dksX7_copy_0 16 rfl rfl)
theorem dX7_copy_17 : decode cX7_copy 17 = .ok (.aload_n 0, 1) := dk_42 (dk_at dksX7_copy_0 17 rfl rfl)
theorem dX7_copy_18 : decode cX7_copy 18 = .ok (.getfield 18, 3) := dk_180 0 18 (dk_at dksX7_copy_0 18 rfl rfl)
theorem dX7_copy_21 : decode cX7_copy 21 = .ok (.putfield 18, 3) := dk_181 0 18 (dk_at dksX7_copy_0 21 rfl rfl)
theorem dX7_copy_24 : decode cX7_copy 24 = .ok (.aload_n 1, 1) := dk_43 (dk_at dksX7_copy_1 0 rfl rfl)
theorem dX7_copy_25 : decode cX7_copy 25 = .ok (.areturn, 1) := dk_176 (dk_at dksX7_copy_1 1 rfl rfl)
abbrev cX7_init : ByteArray := prog_13_method_1_code
def yX7_init : MethodName := ⟨RX7, "<init>", "(II)V"⟩
def dkwX7_init_0 : List UInt8 := [42, 183, 0, 3, 42, 27, 181, 0, 9, 42, 28, 181, 0, 15, 42, 2, 181, 0, 18, 177]
abbrev dktX7_init_0 : List UInt8 := dkwX7_init_0 ++ []
theorem dksX7_init_0 : cX7_init.data.toList.drop 0 = dktX7_init_0 := by decide +kernel
theorem dX7_init_0 : decode cX7_init 0 = .ok (.aload_n 0, 1) := dk_42 (dk_at dksX7_init_0 0 rfl rfl)
theorem dX7_init_1 : decode cX7_init 1 = .ok (.invokespecial 3, 3) := dk_183 0 3 (dk_at dksX7_init_0 1 rfl rfl)
theorem dX7_init_4 : decode cX7_init 4 = .ok (.aload_n 0, 1) := dk_42 (dk_at dksX7_init_0 4 rfl rfl)
theorem dX7_init_5 : decode cX7_init 5 = .ok (.iload_n 1, 1) := dk_27 (dk_at dksX7_init_0 5 rfl rfl)
theorem dX7_init_6 : decode cX7_init 6 = .ok (.putfield 9, 3) := dk_181 0 9 (dk_at dksX7_init_0 6 rfl rfl)
theorem dX7_init_9 : decode cX7_init 9 = .ok (.aload_n 0, 1) := dk_42 (dk_at dksX7_init_0 9 rfl rfl)
theorem dX7_init_10 : decode cX7_init 10 = .ok (.iload_n 2, 1) := dk_28 (dk_at dksX7_init_0 10 rfl rfl)
theorem dX7_init_11 : decode cX7_init 11 = .ok (.putfield 15, 3) := dk_181 0 15 (dk_at dksX7_init_0 11 rfl rfl)
theorem dX7_init_14 : decode cX7_init 14 = .ok (.aload_n 0, 1) := dk_42 (dk_at dksX7_init_0 14 rfl rfl)
theorem dX7_init_15 : decode cX7_init 15 = .ok (.iconst (-1), 1) := dk_2 (dk_at dksX7_init_0 15 rfl rfl)
theorem dX7_init_16 : decode cX7_init 16 = .ok (.putfield 18, 3) := dk_181 0 18 (dk_at dksX7_init_0 16 rfl rfl)
theorem dX7_init_19 : decode cX7_init 19 = .ok (.return_, 1) := dk_177 (dk_at dksX7_init_0 19 rfl rfl)
theorem q126 : (Jvm.Cond.initialized "StaffRailway$Pilotman") ∈ lw_all := lw_g (lw_at lw_m1 33 rfl) rfl
theorem q897 : (Jvm.Cond.instanceMethod ({ cls := "StaffRailway$Pilotman", name := "isFree", desc := "()Z" } : Jvm.MethodName)) ∈ lw_all := lw_g (lw_at lw_m4 84 rfl) rfl
theorem q898 : (Jvm.Cond.selects "StaffRailway$Pilotman" ({ cls := "StaffRailway$Pilotman", name := "isFree", desc := "()Z" } : Jvm.MethodName) ({ cls := "StaffRailway$Pilotman", name := "isFree", desc := "()Z" } : Jvm.MethodName)) ∈ lw_all := lw_g (lw_at lw_m4 85 rfl) rfl
theorem q899 : (Jvm.Cond.code ({ cls := "StaffRailway$Pilotman", name := "isFree", desc := "()Z" } : Jvm.MethodName) prog_13_method_3_code (1 : Nat) (Option.some Jvm.ClassFile.FieldType.boolean)) ∈ lw_all := lw_g (lw_at lw_m4 86 rfl) rfl
theorem q958 : (Jvm.Cond.instanceMethod ({ cls := "StaffRailway$Pilotman", name := "copy", desc := "()LStaffRailway$Pilotman;" } : Jvm.MethodName)) ∈ lw_all := lw_g (lw_at lw_m4 145 rfl) rfl
theorem q959 : (Jvm.Cond.selects "StaffRailway$Pilotman" ({ cls := "StaffRailway$Pilotman", name := "copy", desc := "()LStaffRailway$Pilotman;" } : Jvm.MethodName) ({ cls := "StaffRailway$Pilotman", name := "copy", desc := "()LStaffRailway$Pilotman;" } : Jvm.MethodName)) ∈ lw_all := lw_g (lw_at lw_m4 146 rfl) rfl
theorem q960 : (Jvm.Cond.code ({ cls := "StaffRailway$Pilotman", name := "copy", desc := "()LStaffRailway$Pilotman;" } : Jvm.MethodName) prog_13_method_2_code (2 : Nat) (Option.some (Jvm.ClassFile.FieldType.object "StaffRailway$Pilotman"))) ∈ lw_all := lw_g (lw_at lw_m4 147 rfl) rfl
theorem q961 : (Jvm.Cond.classLink "StaffRailway$Pilotman" (10 : Nat) "StaffRailway$Pilotman") ∈ lw_all := lw_g (lw_at lw_m4 148 rfl) rfl
theorem q962 : (Jvm.Cond.instantiable "StaffRailway$Pilotman" (3 : Nat)) ∈ lw_all := lw_g (lw_at lw_m4 149 rfl) rfl
theorem q963 : (Jvm.Cond.methodLink "StaffRailway$Pilotman" (21 : Nat) ({ cls := "StaffRailway$Pilotman", name := "<init>", desc := "(II)V" } : Jvm.MethodName)) ∈ lw_all := lw_g (lw_at lw_m4 150 rfl) rfl
theorem q964 : (Jvm.Cond.instanceMethod ({ cls := "StaffRailway$Pilotman", name := "<init>", desc := "(II)V" } : Jvm.MethodName)) ∈ lw_all := lw_g (lw_at lw_m4 151 rfl) rfl
theorem q965 : (Jvm.Cond.code ({ cls := "StaffRailway$Pilotman", name := "<init>", desc := "(II)V" } : Jvm.MethodName) prog_13_method_1_code (3 : Nat) (Option.none : Option Jvm.ClassFile.FieldType)) ∈ lw_all := lw_g (lw_at lw_m4 152 rfl) rfl
theorem q966 : (Jvm.Cond.methodLink "StaffRailway$Pilotman" (3 : Nat) ({ cls := "java/lang/Object", name := "<init>", desc := "()V" } : Jvm.MethodName)) ∈ lw_all := lw_g (lw_at lw_m4 153 rfl) rfl
theorem q967 : (Jvm.Cond.fieldLink "StaffRailway$Pilotman" (9 : Nat) "StaffRailway$Pilotman" "number" "I") ∈ lw_all := lw_g (lw_at lw_m4 154 rfl) rfl
theorem q970 : (Jvm.Cond.fieldLink "StaffRailway$Pilotman" (15 : Nat) "StaffRailway$Pilotman" "station" "I") ∈ lw_all := lw_g (lw_at lw_m4 157 rfl) rfl
theorem q973 : (Jvm.Cond.fieldLink "StaffRailway$Pilotman" (18 : Nat) "StaffRailway$Pilotman" "stretch" "I") ∈ lw_all := lw_g (lw_at lw_m4 160 rfl) rfl
theorem q976 : (Jvm.Cond.laysFinal "StaffRailway$Pilotman" "StaffRailway$Pilotman" "number" "I") ∈ lw_all := lw_g (lw_at lw_m4 163 rfl) rfl
theorem q977 : (Jvm.Cond.soleField "StaffRailway$Pilotman" "number") ∈ lw_all := lw_g (lw_at lw_m4 164 rfl) rfl
theorem q978 : (Jvm.Cond.lays "StaffRailway$Pilotman" "StaffRailway$Pilotman" "station" "I") ∈ lw_all := lw_g (lw_at lw_m4 165 rfl) rfl
theorem q979 : (Jvm.Cond.soleField "StaffRailway$Pilotman" "station") ∈ lw_all := lw_g (lw_at lw_m4 166 rfl) rfl
theorem q980 : (Jvm.Cond.lays "StaffRailway$Pilotman" "StaffRailway$Pilotman" "stretch" "I") ∈ lw_all := lw_g (lw_at lw_m4 167 rfl) rfl
theorem q981 : (Jvm.Cond.soleField "StaffRailway$Pilotman" "stretch") ∈ lw_all := lw_g (lw_at lw_m4 168 rfl) rfl
theorem q982 : (Jvm.Cond.superclass "StaffRailway$Pilotman" "java/lang/Object") ∈ lw_all := lw_g (lw_at lw_m4 169 rfl) rfl
theorem q1016 : (Jvm.Cond.selects "StaffRailway$Pilotman" ({ cls := "java/lang/Object", name := "getClass", desc := "()Ljava/lang/Class;" } : Jvm.MethodName) ({ cls := "java/lang/Object", name := "getClass", desc := "()Ljava/lang/Class;" } : Jvm.MethodName)) ∈ lw_all := lw_g (lw_at lw_m4 203 rfl) rfl
theorem q2662 : (Jvm.Cond.castable "StaffRailway$Pilotman" "java/lang/Object") ∈ lw_tbl := lw_at lw_m11 169 rfl
theorem in_X7 : ∀ w ∈ wsX70, w ∈ lw_all := lw_in wsX70 [976, 978, 980] (by decide +kernel) (by decide +kernel)
/-! StaffRailway$Train -/
set_option maxRecDepth 100000
def RX8 : String := "StaffRailway$Train"
def TX8 : u_T := fun k => match k with
  | 0 => ("StaffRailway$Train", "wagons", "I", false)
  | 1 => ("StaffRailway$Train", "station", "I", false)
  | 2 => ("StaffRailway$Train", "stretch", "I", false)
  | 3 => ("StaffRailway$Train", "to", "I", false)
  | 4 => ("StaffRailway$Train", "minutes", "I", false)
  | 5 => ("StaffRailway$Train", "pilotman", "LStaffRailway$Pilotman;", false)
  | _ => ("StaffRailway$Train", "hasToken", "Z", false)
def tyX8 : Nat → FieldType := fun k => match k with
  | 0 => .int
  | 1 => .int
  | 2 => .int
  | 3 => .int
  | 4 => .int
  | 5 => .object "StaffRailway$Pilotman"
  | _ => .boolean
abbrev wsX80 : List Cond := u_ws RX8 TX8 7
theorem nmX8 : ∀ a, a < 7 → ∀ b, b < 7 → a ≠ b → (TX8 a).2.1 ≠ (TX8 b).2.1 := by decide +kernel
theorem tyX8_ok : ∀ k, k < 7 → parseFieldDescriptor (TX8 k).2.2.1 = some (tyX8 k) := by decide +kernel
abbrev cX8_isUnderWay : ByteArray := prog_17_method_3_code
def yX8_isUnderWay : MethodName := ⟨RX8, "isUnderWay", "()Z"⟩
def dkwX8_isUnderWay_0 : List UInt8 := [42, 180, 0, 22, 2, 159, 0, 7, 4, 167, 0, 4, 3, 172]
abbrev dktX8_isUnderWay_0 : List UInt8 := dkwX8_isUnderWay_0 ++ []
theorem dksX8_isUnderWay_0 : cX8_isUnderWay.data.toList.drop 0 = dktX8_isUnderWay_0 := by decide +kernel
theorem dX8_isUnderWay_0 : decode cX8_isUnderWay 0 = .ok (.aload_n 0, 1) := dk_42 (dk_at dksX8_isUnderWay_0 0 rfl rfl)
theorem dX8_isUnderWay_1 : decode cX8_isUnderWay 1 = .ok (.getfield 22, 3) := dk_180 0 22 (dk_at dksX8_isUnderWay_0 1 rfl rfl)
theorem dX8_isUnderWay_4 : decode cX8_isUnderWay 4 = .ok (.iconst (-1), 1) := dk_2 (dk_at dksX8_isUnderWay_0 4 rfl rfl)
theorem dX8_isUnderWay_5 : decode cX8_isUnderWay 5 = .ok (.if_icmp .eq 7, 3) := dk_159 0 7 (dk_at dksX8_isUnderWay_0 5 rfl rfl)
theorem dX8_isUnderWay_8 : decode cX8_isUnderWay 8 = .ok (.iconst 1, 1) := dk_4 (dk_at dksX8_isUnderWay_0 8 rfl rfl)
theorem dX8_isUnderWay_9 : decode cX8_isUnderWay 9 = .ok (.goto 4, 3) := dk_167 0 4 (dk_at dksX8_isUnderWay_0 9 rfl rfl)
theorem dX8_isUnderWay_12 : decode cX8_isUnderWay 12 = .ok (.iconst 0, 1) := dk_3 (dk_at dksX8_isUnderWay_0 12 rfl rfl)
theorem dX8_isUnderWay_13 : decode cX8_isUnderWay 13 = .ok (.ireturn, 1) := dk_172 (dk_at dksX8_isUnderWay_0 13 rfl rfl)
abbrev cX8_init : ByteArray := prog_17_method_1_code
def yX8_init : MethodName := ⟨RX8, "<init>", "(II)V"⟩
def dkwX8_init_0 : List UInt8 := [42, 183, 0, 3, 42, 27, 181, 0, 9, 42, 28, 181, 0, 15, 42, 27, 182, 0, 18, 177]
abbrev dktX8_init_0 : List UInt8 := dkwX8_init_0 ++ []
theorem dksX8_init_0 : cX8_init.data.toList.drop 0 = dktX8_init_0 := by decide +kernel
theorem dX8_init_0 : decode cX8_init 0 = .ok (.aload_n 0, 1) := dk_42 (dk_at dksX8_init_0 0 rfl rfl)
theorem dX8_init_1 : decode cX8_init 1 = .ok (.invokespecial 3, 3) := dk_183 0 3 (dk_at dksX8_init_0 1 rfl rfl)
theorem dX8_init_4 : decode cX8_init 4 = .ok (.aload_n 0, 1) := dk_42 (dk_at dksX8_init_0 4 rfl rfl)
theorem dX8_init_5 : decode cX8_init 5 = .ok (.iload_n 1, 1) := dk_27 (dk_at dksX8_init_0 5 rfl rfl)
theorem dX8_init_6 : decode cX8_init 6 = .ok (.putfield 9, 3) := dk_181 0 9 (dk_at dksX8_init_0 6 rfl rfl)
theorem dX8_init_9 : decode cX8_init 9 = .ok (.aload_n 0, 1) := dk_42 (dk_at dksX8_init_0 9 rfl rfl)
theorem dX8_init_10 : decode cX8_init 10 = .ok (.iload_n 2, 1) := dk_28 (dk_at dksX8_init_0 10 rfl rfl)
theorem dX8_init_11 : decode cX8_init 11 = .ok (.putfield 15, 3) := dk_181 0 15 (dk_at dksX8_init_0 11 rfl rfl)
theorem dX8_init_14 : decode cX8_init 14 = .ok (.aload_n 0, 1) := dk_42 (dk_at dksX8_init_0 14 rfl rfl)
theorem dX8_init_15 : decode cX8_init 15 = .ok (.iload_n 1, 1) := dk_27 (dk_at dksX8_init_0 15 rfl rfl)
theorem dX8_init_16 : decode cX8_init 16 = .ok (.invokevirtual 18, 3) := dk_182 0 18 (dk_at dksX8_init_0 16 rfl rfl)
theorem dX8_init_19 : decode cX8_init 19 = .ok (.return_, 1) := dk_177 (dk_at dksX8_init_0 19 rfl rfl)
abbrev cX8_stands : ByteArray := prog_17_method_2_code
def yX8_stands : MethodName := ⟨RX8, "stands", "(I)V"⟩
def dkwX8_stands_1 : List UInt8 := [181, 0, 31, 42, 3, 181, 0, 35, 177]
abbrev dktX8_stands_1 : List UInt8 := dkwX8_stands_1 ++ []
def dkwX8_stands_0 : List UInt8 := [42, 27, 181, 0, 9, 42, 2, 181, 0, 22, 42, 2, 181, 0, 25, 42, 2, 181, 0, 28, 42, 1]
abbrev dktX8_stands_0 : List UInt8 := dkwX8_stands_0 ++ dktX8_stands_1
theorem dksX8_stands_0 : cX8_stands.data.toList.drop 0 = dktX8_stands_0 := by decide +kernel
theorem dksX8_stands_1 : cX8_stands.data.toList.drop 22 = dktX8_stands_1 := dk_seg dksX8_stands_0 22 rfl rfl
theorem dX8_stands_0 : decode cX8_stands 0 = .ok (.aload_n 0, 1) := dk_42 (dk_at dksX8_stands_0 0 rfl rfl)
theorem dX8_stands_1 : decode cX8_stands 1 = .ok (.iload_n 1, 1) := dk_27 (dk_at dksX8_stands_0 1 rfl rfl)
theorem dX8_stands_2 : decode cX8_stands 2 = .ok (.putfield 9, 3) := dk_181 0 9 (dk_at dksX8_stands_0 2 rfl rfl)
theorem dX8_stands_5 : decode cX8_stands 5 = .ok (.aload_n 0, 1) := dk_42 (dk_at dksX8_stands_0 5 rfl rfl)
theorem dX8_stands_6 : decode cX8_stands 6 = .ok (.iconst (-1), 1) := dk_2 (dk_at dksX8_stands_0 6 rfl rfl)
theorem dX8_stands_7 : decode cX8_stands 7 = .ok (.putfield 22, 3) := dk_181 0 22 (dk_at dksX8_stands_0 7 rfl rfl)
theorem dX8_stands_10 : decode cX8_stands 10 = .ok (.aload_n 0, 1) := dk_42 (dk_at dksX8_stands_0 10 rfl rfl)
theorem dX8_stands_11 : decode cX8_stands 11 = .ok (.iconst (-1), 1) := dk_2 (dk_at dksX8_stands_0 11 rfl rfl)
theorem dX8_stands_12 : decode cX8_stands 12 = .ok (.putfield 25, 3) := dk_181 0 25 (dk_at dksX8_stands_0 12 rfl rfl)
theorem dX8_stands_15 : decode cX8_stands 15 = .ok (.aload_n 0, 1) := dk_42 (dk_at dksX8_stands_0 15 rfl rfl)
theorem dX8_stands_16 : decode cX8_stands 16 = .ok (.iconst (-1), 1) := dk_2 (dk_at dksX8_stands_0 16 rfl rfl)
theorem dX8_stands_17 : decode cX8_stands 17 = .ok (.putfield 28, 3) := dk_181 0 28 (dk_at dksX8_stands_0 17 rfl rfl)
theorem dX8_stands_20 : decode cX8_stands 20 = .ok (.aload_n 0, 1) := dk_42 (dk_at dksX8_stands_0 20 rfl rfl)
theorem dX8_stands_21 : decode cX8_stands 21 = .ok (.aconst_null, 1) := dk_1 (dk_at dksX8_stands_0 21 rfl rfl)
theorem dX8_stands_22 : decode cX8_stands 22 = .ok (.putfield 31, 3) := dk_181 0 31 (dk_at dksX8_stands_1 0 rfl rfl)
theorem dX8_stands_25 : decode cX8_stands 25 = .ok (.aload_n 0, 1) := dk_42 (dk_at dksX8_stands_1 3 rfl rfl)
theorem dX8_stands_26 : decode cX8_stands 26 = .ok (.iconst 0, 1) := dk_3 (dk_at dksX8_stands_1 4 rfl rfl)
theorem dX8_stands_27 : decode cX8_stands 27 = .ok (.putfield 35, 3) := dk_181 0 35 (dk_at dksX8_stands_1 5 rfl rfl)
theorem dX8_stands_30 : decode cX8_stands 30 = .ok (.return_, 1) := dk_177 (dk_at dksX8_stands_1 8 rfl rfl)
abbrev cX8_goes : ByteArray := prog_17_method_4_code
def yX8_goes : MethodName := ⟨RX8, "goes", "(III)V"⟩
def dkwX8_goes_0 : List UInt8 := [42, 2, 181, 0, 9, 42, 27, 181, 0, 22, 42, 28, 181, 0, 25, 42, 29, 181, 0, 28, 177]
abbrev dktX8_goes_0 : List UInt8 := dkwX8_goes_0 ++ []
theorem dksX8_goes_0 : cX8_goes.data.toList.drop 0 = dktX8_goes_0 := by decide +kernel
theorem dX8_goes_0 : decode cX8_goes 0 = .ok (.aload_n 0, 1) := dk_42 (dk_at dksX8_goes_0 0 rfl rfl)
theorem dX8_goes_1 : decode cX8_goes 1 = .ok (.iconst (-1), 1) := dk_2 (dk_at dksX8_goes_0 1 rfl rfl)
theorem dX8_goes_2 : decode cX8_goes 2 = .ok (.putfield 9, 3) := dk_181 0 9 (dk_at dksX8_goes_0 2 rfl rfl)
theorem dX8_goes_5 : decode cX8_goes 5 = .ok (.aload_n 0, 1) := dk_42 (dk_at dksX8_goes_0 5 rfl rfl)
theorem dX8_goes_6 : decode cX8_goes 6 = .ok (.iload_n 1, 1) := dk_27 (dk_at dksX8_goes_0 6 rfl rfl)
theorem dX8_goes_7 : decode cX8_goes 7 = .ok (.putfield 22, 3) := dk_181 0 22 (dk_at dksX8_goes_0 7 rfl rfl)
theorem dX8_goes_10 : decode cX8_goes 10 = .ok (.aload_n 0, 1) := dk_42 (dk_at dksX8_goes_0 10 rfl rfl)
theorem dX8_goes_11 : decode cX8_goes 11 = .ok (.iload_n 2, 1) := dk_28 (dk_at dksX8_goes_0 11 rfl rfl)
theorem dX8_goes_12 : decode cX8_goes 12 = .ok (.putfield 25, 3) := dk_181 0 25 (dk_at dksX8_goes_0 12 rfl rfl)
theorem dX8_goes_15 : decode cX8_goes 15 = .ok (.aload_n 0, 1) := dk_42 (dk_at dksX8_goes_0 15 rfl rfl)
theorem dX8_goes_16 : decode cX8_goes 16 = .ok (.iload_n 3, 1) := dk_29 (dk_at dksX8_goes_0 16 rfl rfl)
theorem dX8_goes_17 : decode cX8_goes 17 = .ok (.putfield 28, 3) := dk_181 0 28 (dk_at dksX8_goes_0 17 rfl rfl)
theorem dX8_goes_20 : decode cX8_goes 20 = .ok (.return_, 1) := dk_177 (dk_at dksX8_goes_0 20 rfl rfl)
theorem q127 : (Jvm.Cond.initialized "StaffRailway$Train") ∈ lw_all := lw_g (lw_at lw_m1 34 rfl) rfl
theorem q651 : (Jvm.Cond.instanceMethod ({ cls := "StaffRailway$Train", name := "isUnderWay", desc := "()Z" } : Jvm.MethodName)) ∈ lw_all := lw_g (lw_at lw_m3 78 rfl) rfl
theorem q652 : (Jvm.Cond.selects "StaffRailway$Train" ({ cls := "StaffRailway$Train", name := "isUnderWay", desc := "()Z" } : Jvm.MethodName) ({ cls := "StaffRailway$Train", name := "isUnderWay", desc := "()Z" } : Jvm.MethodName)) ∈ lw_all := lw_g (lw_at lw_m3 79 rfl) rfl
theorem q653 : (Jvm.Cond.code ({ cls := "StaffRailway$Train", name := "isUnderWay", desc := "()Z" } : Jvm.MethodName) prog_17_method_3_code (1 : Nat) (Option.some Jvm.ClassFile.FieldType.boolean)) ∈ lw_all := lw_g (lw_at lw_m3 80 rfl) rfl
theorem q1020 : (Jvm.Cond.selects "StaffRailway$Train" ({ cls := "java/lang/Object", name := "getClass", desc := "()Ljava/lang/Class;" } : Jvm.MethodName) ({ cls := "java/lang/Object", name := "getClass", desc := "()Ljava/lang/Class;" } : Jvm.MethodName)) ∈ lw_all := lw_g (lw_at lw_m4 207 rfl) rfl
theorem q1049 : (Jvm.Cond.instantiable "StaffRailway$Train" (7 : Nat)) ∈ lw_all := lw_g (lw_at lw_m4 236 rfl) rfl
theorem q1051 : (Jvm.Cond.instanceMethod ({ cls := "StaffRailway$Train", name := "<init>", desc := "(II)V" } : Jvm.MethodName)) ∈ lw_all := lw_g (lw_at lw_m4 238 rfl) rfl
theorem q1052 : (Jvm.Cond.code ({ cls := "StaffRailway$Train", name := "<init>", desc := "(II)V" } : Jvm.MethodName) prog_17_method_1_code (3 : Nat) (Option.none : Option Jvm.ClassFile.FieldType)) ∈ lw_all := lw_g (lw_at lw_m4 239 rfl) rfl
theorem q1053 : (Jvm.Cond.methodLink "StaffRailway$Train" (3 : Nat) ({ cls := "java/lang/Object", name := "<init>", desc := "()V" } : Jvm.MethodName)) ∈ lw_all := lw_g (lw_at lw_m5 0 rfl) rfl
theorem q1054 : (Jvm.Cond.methodLink "StaffRailway$Train" (18 : Nat) ({ cls := "StaffRailway$Train", name := "stands", desc := "(I)V" } : Jvm.MethodName)) ∈ lw_all := lw_g (lw_at lw_m5 1 rfl) rfl
theorem q1055 : (Jvm.Cond.instanceMethod ({ cls := "StaffRailway$Train", name := "stands", desc := "(I)V" } : Jvm.MethodName)) ∈ lw_all := lw_g (lw_at lw_m5 2 rfl) rfl
theorem q1056 : (Jvm.Cond.selects "StaffRailway$Train" ({ cls := "StaffRailway$Train", name := "stands", desc := "(I)V" } : Jvm.MethodName) ({ cls := "StaffRailway$Train", name := "stands", desc := "(I)V" } : Jvm.MethodName)) ∈ lw_all := lw_g (lw_at lw_m5 3 rfl) rfl
theorem q1057 : (Jvm.Cond.code ({ cls := "StaffRailway$Train", name := "stands", desc := "(I)V" } : Jvm.MethodName) prog_17_method_2_code (2 : Nat) (Option.none : Option Jvm.ClassFile.FieldType)) ∈ lw_all := lw_g (lw_at lw_m5 4 rfl) rfl
theorem q1058 : (Jvm.Cond.fieldLink "StaffRailway$Train" (15 : Nat) "StaffRailway$Train" "wagons" "I") ∈ lw_all := lw_g (lw_at lw_m5 5 rfl) rfl
theorem q1062 : (Jvm.Cond.fieldLink "StaffRailway$Train" (9 : Nat) "StaffRailway$Train" "station" "I") ∈ lw_all := lw_g (lw_at lw_m5 9 rfl) rfl
theorem q1066 : (Jvm.Cond.fieldLink "StaffRailway$Train" (22 : Nat) "StaffRailway$Train" "stretch" "I") ∈ lw_all := lw_g (lw_at lw_m5 13 rfl) rfl
theorem q1069 : (Jvm.Cond.fieldLink "StaffRailway$Train" (25 : Nat) "StaffRailway$Train" "to" "I") ∈ lw_all := lw_g (lw_at lw_m5 16 rfl) rfl
theorem q1072 : (Jvm.Cond.fieldLink "StaffRailway$Train" (28 : Nat) "StaffRailway$Train" "minutes" "I") ∈ lw_all := lw_g (lw_at lw_m5 19 rfl) rfl
theorem q1075 : (Jvm.Cond.fieldLink "StaffRailway$Train" (31 : Nat) "StaffRailway$Train" "pilotman" "LStaffRailway$Pilotman;") ∈ lw_all := lw_g (lw_at lw_m5 22 rfl) rfl
theorem q1078 : (Jvm.Cond.fieldLink "StaffRailway$Train" (35 : Nat) "StaffRailway$Train" "hasToken" "Z") ∈ lw_all := lw_g (lw_at lw_m5 25 rfl) rfl
theorem q1081 : (Jvm.Cond.lays "StaffRailway$Train" "StaffRailway$Train" "wagons" "I") ∈ lw_all := lw_g (lw_at lw_m5 28 rfl) rfl
theorem q1082 : (Jvm.Cond.soleField "StaffRailway$Train" "wagons") ∈ lw_all := lw_g (lw_at lw_m5 29 rfl) rfl
theorem q1083 : (Jvm.Cond.lays "StaffRailway$Train" "StaffRailway$Train" "station" "I") ∈ lw_all := lw_g (lw_at lw_m5 30 rfl) rfl
theorem q1084 : (Jvm.Cond.soleField "StaffRailway$Train" "station") ∈ lw_all := lw_g (lw_at lw_m5 31 rfl) rfl
theorem q1085 : (Jvm.Cond.lays "StaffRailway$Train" "StaffRailway$Train" "stretch" "I") ∈ lw_all := lw_g (lw_at lw_m5 32 rfl) rfl
theorem q1086 : (Jvm.Cond.soleField "StaffRailway$Train" "stretch") ∈ lw_all := lw_g (lw_at lw_m5 33 rfl) rfl
theorem q1087 : (Jvm.Cond.lays "StaffRailway$Train" "StaffRailway$Train" "to" "I") ∈ lw_all := lw_g (lw_at lw_m5 34 rfl) rfl
theorem q1088 : (Jvm.Cond.soleField "StaffRailway$Train" "to") ∈ lw_all := lw_g (lw_at lw_m5 35 rfl) rfl
theorem q1089 : (Jvm.Cond.lays "StaffRailway$Train" "StaffRailway$Train" "minutes" "I") ∈ lw_all := lw_g (lw_at lw_m5 36 rfl) rfl
theorem q1090 : (Jvm.Cond.soleField "StaffRailway$Train" "minutes") ∈ lw_all := lw_g (lw_at lw_m5 37 rfl) rfl
theorem q1091 : (Jvm.Cond.lays "StaffRailway$Train" "StaffRailway$Train" "pilotman" "LStaffRailway$Pilotman;") ∈ lw_all := lw_g (lw_at lw_m5 38 rfl) rfl
theorem q1092 : (Jvm.Cond.soleField "StaffRailway$Train" "pilotman") ∈ lw_all := lw_g (lw_at lw_m5 39 rfl) rfl
theorem q1093 : (Jvm.Cond.lays "StaffRailway$Train" "StaffRailway$Train" "hasToken" "Z") ∈ lw_all := lw_g (lw_at lw_m5 40 rfl) rfl
theorem q1094 : (Jvm.Cond.soleField "StaffRailway$Train" "hasToken") ∈ lw_all := lw_g (lw_at lw_m5 41 rfl) rfl
theorem q1095 : (Jvm.Cond.superclass "StaffRailway$Train" "java/lang/Object") ∈ lw_all := lw_g (lw_at lw_m5 42 rfl) rfl
theorem q1097 : (Jvm.Cond.instanceMethod ({ cls := "StaffRailway$Train", name := "goes", desc := "(III)V" } : Jvm.MethodName)) ∈ lw_all := lw_g (lw_at lw_m5 44 rfl) rfl
theorem q1098 : (Jvm.Cond.selects "StaffRailway$Train" ({ cls := "StaffRailway$Train", name := "goes", desc := "(III)V" } : Jvm.MethodName) ({ cls := "StaffRailway$Train", name := "goes", desc := "(III)V" } : Jvm.MethodName)) ∈ lw_all := lw_g (lw_at lw_m5 45 rfl) rfl
theorem q1099 : (Jvm.Cond.code ({ cls := "StaffRailway$Train", name := "goes", desc := "(III)V" } : Jvm.MethodName) prog_17_method_4_code (4 : Nat) (Option.none : Option Jvm.ClassFile.FieldType)) ∈ lw_all := lw_g (lw_at lw_m5 46 rfl) rfl
theorem q2663 : (Jvm.Cond.castable "StaffRailway$Train" "java/lang/Object") ∈ lw_tbl := lw_at lw_m11 170 rfl
theorem in_X8 : ∀ w ∈ wsX80, w ∈ lw_all := lw_in wsX80 [1081, 1083, 1085, 1087, 1089, 1091, 1093] (by decide +kernel) (by decide +kernel)
/-! StaffRailway$Entry -/
set_option maxRecDepth 100000
def RX9 : String := "StaffRailway$Entry"
def TX9 : u_T := fun k => match k with
  | 0 => ("StaffRailway$Entry", "minute", "I", true)
  | 1 => ("StaffRailway$Entry", "kind", "I", true)
  | _ => ("StaffRailway$Entry", "number", "I", true)
def tyX9 : Nat → FieldType := fun k => match k with
  | 0 => .int
  | 1 => .int
  | _ => .int
abbrev wsX90 : List Cond := u_ws RX9 TX9 3
theorem nmX9 : ∀ a, a < 3 → ∀ b, b < 3 → a ≠ b → (TX9 a).2.1 ≠ (TX9 b).2.1 := by decide +kernel
theorem tyX9_ok : ∀ k, k < 3 → parseFieldDescriptor (TX9 k).2.2.1 = some (tyX9 k) := by decide +kernel
abbrev cX9_init : ByteArray := prog_9_method_1_code
def yX9_init : MethodName := ⟨RX9, "<init>", "(III)V"⟩
def dkwX9_init_0 : List UInt8 := [42, 183, 0, 1, 42, 27, 181, 0, 7, 42, 28, 181, 0, 13, 42, 29, 181, 0, 16, 177]
abbrev dktX9_init_0 : List UInt8 := dkwX9_init_0 ++ []
theorem dksX9_init_0 : cX9_init.data.toList.drop 0 = dktX9_init_0 := by decide +kernel
theorem dX9_init_0 : decode cX9_init 0 = .ok (.aload_n 0, 1) := dk_42 (dk_at dksX9_init_0 0 rfl rfl)
theorem dX9_init_1 : decode cX9_init 1 = .ok (.invokespecial 1, 3) := dk_183 0 1 (dk_at dksX9_init_0 1 rfl rfl)
theorem dX9_init_4 : decode cX9_init 4 = .ok (.aload_n 0, 1) := dk_42 (dk_at dksX9_init_0 4 rfl rfl)
theorem dX9_init_5 : decode cX9_init 5 = .ok (.iload_n 1, 1) := dk_27 (dk_at dksX9_init_0 5 rfl rfl)
theorem dX9_init_6 : decode cX9_init 6 = .ok (.putfield 7, 3) := dk_181 0 7 (dk_at dksX9_init_0 6 rfl rfl)
theorem dX9_init_9 : decode cX9_init 9 = .ok (.aload_n 0, 1) := dk_42 (dk_at dksX9_init_0 9 rfl rfl)
theorem dX9_init_10 : decode cX9_init 10 = .ok (.iload_n 2, 1) := dk_28 (dk_at dksX9_init_0 10 rfl rfl)
theorem dX9_init_11 : decode cX9_init 11 = .ok (.putfield 13, 3) := dk_181 0 13 (dk_at dksX9_init_0 11 rfl rfl)
theorem dX9_init_14 : decode cX9_init 14 = .ok (.aload_n 0, 1) := dk_42 (dk_at dksX9_init_0 14 rfl rfl)
theorem dX9_init_15 : decode cX9_init 15 = .ok (.iload_n 3, 1) := dk_29 (dk_at dksX9_init_0 15 rfl rfl)
theorem dX9_init_16 : decode cX9_init 16 = .ok (.putfield 16, 3) := dk_181 0 16 (dk_at dksX9_init_0 16 rfl rfl)
theorem dX9_init_19 : decode cX9_init 19 = .ok (.return_, 1) := dk_177 (dk_at dksX9_init_0 19 rfl rfl)
abbrev cX9_told : ByteArray := prog_9_method_2_code
def yX9_told : MethodName := ⟨RX9, "told", "(I)I"⟩
def dkwX9_told_1 : List UInt8 := [180, 0, 16, 172]
abbrev dktX9_told_1 : List UInt8 := dkwX9_told_1 ++ []
def dkwX9_told_0 : List UInt8 := [27, 154, 0, 10, 42, 180, 0, 7, 167, 0, 19, 27, 4, 160, 0, 10, 42, 180, 0, 13, 167, 0, 7, 42]
abbrev dktX9_told_0 : List UInt8 := dkwX9_told_0 ++ dktX9_told_1
theorem dksX9_told_0 : cX9_told.data.toList.drop 0 = dktX9_told_0 := by decide +kernel
theorem dksX9_told_1 : cX9_told.data.toList.drop 24 = dktX9_told_1 := dk_seg dksX9_told_0 24 rfl rfl
theorem dX9_told_0 : decode cX9_told 0 = .ok (.iload_n 1, 1) := dk_27 (dk_at dksX9_told_0 0 rfl rfl)
theorem dX9_told_1 : decode cX9_told 1 = .ok (.ifCond .ne 10, 3) := dk_154 0 10 (dk_at dksX9_told_0 1 rfl rfl)
theorem dX9_told_4 : decode cX9_told 4 = .ok (.aload_n 0, 1) := dk_42 (dk_at dksX9_told_0 4 rfl rfl)
theorem dX9_told_5 : decode cX9_told 5 = .ok (.getfield 7, 3) := dk_180 0 7 (dk_at dksX9_told_0 5 rfl rfl)
theorem dX9_told_8 : decode cX9_told 8 = .ok (.goto 19, 3) := dk_167 0 19 (dk_at dksX9_told_0 8 rfl rfl)
theorem dX9_told_11 : decode cX9_told 11 = .ok (.iload_n 1, 1) := dk_27 (dk_at dksX9_told_0 11 rfl rfl)
theorem dX9_told_12 : decode cX9_told 12 = .ok (.iconst 1, 1) := dk_4 (dk_at dksX9_told_0 12 rfl rfl)
theorem dX9_told_13 : decode cX9_told 13 = .ok (.if_icmp .ne 10, 3) := dk_160 0 10 (dk_at dksX9_told_0 13 rfl rfl)
theorem dX9_told_16 : decode cX9_told 16 = .ok (.aload_n 0, 1) := dk_42 (dk_at dksX9_told_0 16 rfl rfl)
theorem dX9_told_17 : decode cX9_told 17 = .ok (.getfield 13, 3) := dk_180 0 13 (dk_at dksX9_told_0 17 rfl rfl)
theorem dX9_told_20 : decode cX9_told 20 = .ok (.goto 7, 3) := dk_167 0 7 (dk_at dksX9_told_0 20 rfl rfl)
theorem dX9_told_23 : decode cX9_told 23 = .ok (.aload_n 0, 1) := dk_42 (dk_at dksX9_told_0 23 rfl rfl)
theorem dX9_told_24 : decode cX9_told 24 = .ok (.getfield 16, 3) := dk_180 0 16 (dk_at dksX9_told_1 0 rfl rfl)
theorem dX9_told_27 : decode cX9_told 27 = .ok (.ireturn, 1) := dk_172 (dk_at dksX9_told_1 3 rfl rfl)
theorem q130 : (Jvm.Cond.initialized "StaffRailway$Entry") ∈ lw_all := lw_g (lw_at lw_m1 37 rfl) rfl
theorem q1014 : (Jvm.Cond.selects "StaffRailway$Entry" ({ cls := "java/lang/Object", name := "getClass", desc := "()Ljava/lang/Class;" } : Jvm.MethodName) ({ cls := "java/lang/Object", name := "getClass", desc := "()Ljava/lang/Class;" } : Jvm.MethodName)) ∈ lw_all := lw_g (lw_at lw_m4 201 rfl) rfl
theorem q1405 : (Jvm.Cond.instantiable "StaffRailway$Entry" (3 : Nat)) ∈ lw_all := lw_g (lw_at lw_m6 112 rfl) rfl
theorem q1407 : (Jvm.Cond.instanceMethod ({ cls := "StaffRailway$Entry", name := "<init>", desc := "(III)V" } : Jvm.MethodName)) ∈ lw_all := lw_g (lw_at lw_m6 114 rfl) rfl
theorem q1408 : (Jvm.Cond.code ({ cls := "StaffRailway$Entry", name := "<init>", desc := "(III)V" } : Jvm.MethodName) prog_9_method_1_code (4 : Nat) (Option.none : Option Jvm.ClassFile.FieldType)) ∈ lw_all := lw_g (lw_at lw_m6 115 rfl) rfl
theorem q1409 : (Jvm.Cond.methodLink "StaffRailway$Entry" (1 : Nat) ({ cls := "java/lang/Object", name := "<init>", desc := "()V" } : Jvm.MethodName)) ∈ lw_all := lw_g (lw_at lw_m6 116 rfl) rfl
theorem q1410 : (Jvm.Cond.fieldLink "StaffRailway$Entry" (7 : Nat) "StaffRailway$Entry" "minute" "I") ∈ lw_all := lw_g (lw_at lw_m6 117 rfl) rfl
theorem q1411 : (Jvm.Cond.fieldLink "StaffRailway$Entry" (13 : Nat) "StaffRailway$Entry" "kind" "I") ∈ lw_all := lw_g (lw_at lw_m6 118 rfl) rfl
theorem q1413 : (Jvm.Cond.fieldLink "StaffRailway$Entry" (16 : Nat) "StaffRailway$Entry" "number" "I") ∈ lw_all := lw_g (lw_at lw_m6 120 rfl) rfl
theorem q1414 : (Jvm.Cond.laysFinal "StaffRailway$Entry" "StaffRailway$Entry" "minute" "I") ∈ lw_all := lw_g (lw_at lw_m6 121 rfl) rfl
theorem q1415 : (Jvm.Cond.soleField "StaffRailway$Entry" "minute") ∈ lw_all := lw_g (lw_at lw_m6 122 rfl) rfl
theorem q1416 : (Jvm.Cond.laysFinal "StaffRailway$Entry" "StaffRailway$Entry" "kind" "I") ∈ lw_all := lw_g (lw_at lw_m6 123 rfl) rfl
theorem q1417 : (Jvm.Cond.soleField "StaffRailway$Entry" "kind") ∈ lw_all := lw_g (lw_at lw_m6 124 rfl) rfl
theorem q1418 : (Jvm.Cond.laysFinal "StaffRailway$Entry" "StaffRailway$Entry" "number" "I") ∈ lw_all := lw_g (lw_at lw_m6 125 rfl) rfl
theorem q1419 : (Jvm.Cond.soleField "StaffRailway$Entry" "number") ∈ lw_all := lw_g (lw_at lw_m6 126 rfl) rfl
theorem q1420 : (Jvm.Cond.superclass "StaffRailway$Entry" "java/lang/Object") ∈ lw_all := lw_g (lw_at lw_m6 127 rfl) rfl
theorem q1760 : (Jvm.Cond.instanceMethod ({ cls := "StaffRailway$Entry", name := "told", desc := "(I)I" } : Jvm.MethodName)) ∈ lw_all := lw_g (lw_at lw_m7 227 rfl) rfl
theorem q1761 : (Jvm.Cond.selects "StaffRailway$Entry" ({ cls := "StaffRailway$Entry", name := "told", desc := "(I)I" } : Jvm.MethodName) ({ cls := "StaffRailway$Entry", name := "told", desc := "(I)I" } : Jvm.MethodName)) ∈ lw_all := lw_g (lw_at lw_m7 228 rfl) rfl
theorem q1762 : (Jvm.Cond.code ({ cls := "StaffRailway$Entry", name := "told", desc := "(I)I" } : Jvm.MethodName) prog_9_method_2_code (2 : Nat) (Option.some Jvm.ClassFile.FieldType.int)) ∈ lw_all := lw_g (lw_at lw_m7 229 rfl) rfl
theorem q2648 : (Jvm.Cond.castable "StaffRailway$Entry" "java/lang/Object") ∈ lw_tbl := lw_at lw_m11 155 rfl
theorem in_X9 : ∀ w ∈ wsX90, w ∈ lw_all := lw_in wsX90 [1414, 1416, 1418] (by decide +kernel) (by decide +kernel)
/-! StaffRailway$Astray -/
set_option maxRecDepth 100000
def RX10 : String := "StaffRailway$Astray"
def TX10 : u_T := fun k => match k with
  | 0 => ("java/lang/Throwable", "cause", "Ljava/lang/Throwable;", false)
  | 1 => ("java/lang/Throwable", "stackTrace", "[Ljava/lang/StackTraceElement;", false)
  | 2 => ("java/lang/Throwable", "suppressedExceptions", "Ljava/util/List;", false)
  | 3 => ("java/lang/Throwable", "detailMessage", "Ljava/lang/String;", false)
  | 4 => ("java/lang/Throwable", "backtrace", "Ljava/lang/Object;", false)
  | _ => ("java/lang/Throwable", "depth", "I", false)
def tyX10 : Nat → FieldType := fun k => match k with
  | 0 => .object "java/lang/Throwable"
  | 1 => .array (.object "java/lang/StackTraceElement")
  | 2 => .object "java/util/List"
  | 3 => .object "java/lang/String"
  | 4 => .object "java/lang/Object"
  | _ => .int
abbrev wsX100 : List Cond := u_ws RX10 TX10 6
theorem nmX10 : ∀ a, a < 6 → ∀ b, b < 6 → a ≠ b → (TX10 a).2.1 ≠ (TX10 b).2.1 := by decide +kernel
theorem tyX10_ok : ∀ k, k < 6 → parseFieldDescriptor (TX10 k).2.2.1 = some (tyX10 k) := by decide +kernel
abbrev cX10_init : ByteArray := prog_5_method_1_code
def yX10_init : MethodName := ⟨RX10, "<init>", "()V"⟩
def dkwX10_init_0 : List UInt8 := [42, 1, 1, 3, 3, 183, 0, 1, 177]
abbrev dktX10_init_0 : List UInt8 := dkwX10_init_0 ++ []
theorem dksX10_init_0 : cX10_init.data.toList.drop 0 = dktX10_init_0 := by decide +kernel
theorem dX10_init_0 : decode cX10_init 0 = .ok (.aload_n 0, 1) := dk_42 (dk_at dksX10_init_0 0 rfl rfl)
theorem dX10_init_1 : decode cX10_init 1 = .ok (.aconst_null, 1) := dk_1 (dk_at dksX10_init_0 1 rfl rfl)
theorem dX10_init_2 : decode cX10_init 2 = .ok (.aconst_null, 1) := dk_1 (dk_at dksX10_init_0 2 rfl rfl)
theorem dX10_init_3 : decode cX10_init 3 = .ok (.iconst 0, 1) := dk_3 (dk_at dksX10_init_0 3 rfl rfl)
theorem dX10_init_4 : decode cX10_init 4 = .ok (.iconst 0, 1) := dk_3 (dk_at dksX10_init_0 4 rfl rfl)
theorem dX10_init_5 : decode cX10_init 5 = .ok (.invokespecial 1, 3) := dk_183 0 1 (dk_at dksX10_init_0 5 rfl rfl)
theorem dX10_init_8 : decode cX10_init 8 = .ok (.return_, 1) := dk_177 (dk_at dksX10_init_0 8 rfl rfl)
theorem q131 : (Jvm.Cond.initialized "StaffRailway$Astray") ∈ lw_all := lw_g (lw_at lw_m1 38 rfl) rfl
theorem q207 : (Jvm.Cond.selects "StaffRailway$Astray" ({ cls := "java/lang/Throwable", name := "fillInStackTrace", desc := "()Ljava/lang/Throwable;" } : Jvm.MethodName) ({ cls := "java/lang/Throwable", name := "fillInStackTrace", desc := "()Ljava/lang/Throwable;" } : Jvm.MethodName)) ∈ lw_all := lw_g (lw_at lw_m1 114 rfl) rfl
theorem q1011 : (Jvm.Cond.selects "StaffRailway$Astray" ({ cls := "java/lang/Object", name := "getClass", desc := "()Ljava/lang/Class;" } : Jvm.MethodName) ({ cls := "java/lang/Object", name := "getClass", desc := "()Ljava/lang/Class;" } : Jvm.MethodName)) ∈ lw_all := lw_g (lw_at lw_m4 198 rfl) rfl
theorem q1504 : (Jvm.Cond.instantiable "StaffRailway$Astray" (6 : Nat)) ∈ lw_all := lw_g (lw_at lw_m6 211 rfl) rfl
theorem q1505 : (Jvm.Cond.castable "StaffRailway$Astray" "StaffRailway$Astray") ∈ lw_tbl := lw_at lw_m6 212 rfl
theorem q1506 : (Jvm.Cond.selects "StaffRailway$Astray" ({ cls := "java/lang/Throwable", name := "fillInStackTrace", desc := "(I)Ljava/lang/Throwable;" } : Jvm.MethodName) ({ cls := "java/lang/Throwable", name := "fillInStackTrace", desc := "(I)Ljava/lang/Throwable;" } : Jvm.MethodName)) ∈ lw_all := lw_g (lw_at lw_m6 213 rfl) rfl
theorem q1507 : (Jvm.Cond.lays "StaffRailway$Astray" "java/lang/Throwable" "cause" "Ljava/lang/Throwable;") ∈ lw_all := lw_g (lw_at lw_m6 214 rfl) rfl
theorem q1508 : (Jvm.Cond.lays "StaffRailway$Astray" "java/lang/Throwable" "stackTrace" "[Ljava/lang/StackTraceElement;") ∈ lw_all := lw_g (lw_at lw_m6 215 rfl) rfl
theorem q1509 : (Jvm.Cond.lays "StaffRailway$Astray" "java/lang/Throwable" "suppressedExceptions" "Ljava/util/List;") ∈ lw_all := lw_g (lw_at lw_m6 216 rfl) rfl
theorem q1510 : (Jvm.Cond.lays "StaffRailway$Astray" "java/lang/Throwable" "detailMessage" "Ljava/lang/String;") ∈ lw_all := lw_g (lw_at lw_m6 217 rfl) rfl
theorem q1511 : (Jvm.Cond.lays "StaffRailway$Astray" "java/lang/Throwable" "backtrace" "Ljava/lang/Object;") ∈ lw_all := lw_g (lw_at lw_m6 218 rfl) rfl
theorem q1513 : (Jvm.Cond.instanceMethod ({ cls := "StaffRailway$Astray", name := "<init>", desc := "()V" } : Jvm.MethodName)) ∈ lw_all := lw_g (lw_at lw_m6 220 rfl) rfl
theorem q1514 : (Jvm.Cond.code ({ cls := "StaffRailway$Astray", name := "<init>", desc := "()V" } : Jvm.MethodName) prog_5_method_1_code (1 : Nat) (Option.none : Option Jvm.ClassFile.FieldType)) ∈ lw_all := lw_g (lw_at lw_m6 221 rfl) rfl
theorem q1515 : (Jvm.Cond.methodLink "StaffRailway$Astray" (1 : Nat) ({ cls := "java/lang/Exception", name := "<init>", desc := "(Ljava/lang/String;Ljava/lang/Throwable;ZZ)V" } : Jvm.MethodName)) ∈ lw_all := lw_g (lw_at lw_m6 222 rfl) rfl
theorem q1516 : (Jvm.Cond.lays "StaffRailway$Astray" "java/lang/Throwable" "depth" "I") ∈ lw_all := lw_g (lw_at lw_m6 223 rfl) rfl
theorem q1517 : (Jvm.Cond.superclass "StaffRailway$Astray" "java/lang/Exception") ∈ lw_all := lw_g (lw_at lw_m6 224 rfl) rfl
theorem q1590 : (Jvm.Cond.selects "StaffRailway$Astray" ({ cls := "java/lang/Throwable", name := "getCause", desc := "()Ljava/lang/Throwable;" } : Jvm.MethodName) ({ cls := "java/lang/Throwable", name := "getCause", desc := "()Ljava/lang/Throwable;" } : Jvm.MethodName)) ∈ lw_all := lw_g (lw_at lw_m7 57 rfl) rfl
theorem q2666 : (Jvm.Cond.castable "StaffRailway$Astray" "java/lang/Object") ∈ lw_tbl := lw_at lw_m11 173 rfl
theorem in_X10 : ∀ w ∈ wsX100, w ∈ lw_all := lw_in wsX100 [1507, 1508, 1509, 1510, 1511, 1516] (by decide +kernel) (by decide +kernel)
/-! StaffRailway$1 -/
set_option maxRecDepth 100000
def RX11 : String := "StaffRailway$1"
def TX11 : u_T := fun k => match k with
  | 0 => ("StaffRailway$1", "val$step", "I", true)
  | 1 => ("StaffRailway$1", "val$train", "LStaffRailway$Train;", true)
  | _ => ("StaffRailway$1", "this$0", "LStaffRailway;", true)
def tyX11 : Nat → FieldType := fun k => match k with
  | 0 => .int
  | 1 => .object "StaffRailway$Train"
  | _ => .object "StaffRailway"
abbrev wsX110 : List Cond := u_ws RX11 TX11 3
theorem nmX11 : ∀ a, a < 3 → ∀ b, b < 3 → a ≠ b → (TX11 a).2.1 ≠ (TX11 b).2.1 := by decide +kernel
theorem tyX11_ok : ∀ k, k < 3 → parseFieldDescriptor (TX11 k).2.2.1 = some (tyX11 k) := by decide +kernel
abbrev cX11_init : ByteArray := prog_2_method_1_code
def yX11_init : MethodName := ⟨RX11, "<init>", "(LStaffRailway;ILStaffRailway$Train;)V"⟩
def dkwX11_init_0 : List UInt8 := [42, 43, 181, 0, 1, 42, 28, 181, 0, 7, 42, 45, 181, 0, 11, 42, 183, 0, 15, 177]
abbrev dktX11_init_0 : List UInt8 := dkwX11_init_0 ++ []
theorem dksX11_init_0 : cX11_init.data.toList.drop 0 = dktX11_init_0 := by decide +kernel
theorem dX11_init_0 : decode cX11_init 0 = .ok (.aload_n 0, 1) := dk_42 (dk_at dksX11_init_0 0 rfl rfl)
theorem dX11_init_1 : decode cX11_init 1 = .ok (.aload_n 1, 1) := dk_43 (dk_at dksX11_init_0 1 rfl rfl)
theorem dX11_init_2 : decode cX11_init 2 = .ok (.putfield 1, 3) := dk_181 0 1 (dk_at dksX11_init_0 2 rfl rfl)
theorem dX11_init_5 : decode cX11_init 5 = .ok (.aload_n 0, 1) := dk_42 (dk_at dksX11_init_0 5 rfl rfl)
theorem dX11_init_6 : decode cX11_init 6 = .ok (.iload_n 2, 1) := dk_28 (dk_at dksX11_init_0 6 rfl rfl)
theorem dX11_init_7 : decode cX11_init 7 = .ok (.putfield 7, 3) := dk_181 0 7 (dk_at dksX11_init_0 7 rfl rfl)
theorem dX11_init_10 : decode cX11_init 10 = .ok (.aload_n 0, 1) := dk_42 (dk_at dksX11_init_0 10 rfl rfl)
theorem dX11_init_11 : decode cX11_init 11 = .ok (.aload_n 3, 1) := dk_45 (dk_at dksX11_init_0 11 rfl rfl)
theorem dX11_init_12 : decode cX11_init 12 = .ok (.putfield 11, 3) := dk_181 0 11 (dk_at dksX11_init_0 12 rfl rfl)
theorem dX11_init_15 : decode cX11_init 15 = .ok (.aload_n 0, 1) := dk_42 (dk_at dksX11_init_0 15 rfl rfl)
theorem dX11_init_16 : decode cX11_init 16 = .ok (.invokespecial 15, 3) := dk_183 0 15 (dk_at dksX11_init_0 16 rfl rfl)
theorem dX11_init_19 : decode cX11_init 19 = .ok (.return_, 1) := dk_177 (dk_at dksX11_init_0 19 rfl rfl)
abbrev cX11_iterator : ByteArray := prog_2_method_2_code
def yX11_iterator : MethodName := ⟨RX11, "iterator", "()Ljava/util/Iterator;"⟩
def dkwX11_iterator_0 : List UInt8 := [187, 0, 21, 89, 42, 180, 0, 1, 42, 180, 0, 11, 42, 180, 0, 7, 183, 0, 23, 176]
abbrev dktX11_iterator_0 : List UInt8 := dkwX11_iterator_0 ++ []
theorem dksX11_iterator_0 : cX11_iterator.data.toList.drop 0 = dktX11_iterator_0 := by decide +kernel
theorem dX11_iterator_0 : decode cX11_iterator 0 = .ok (.new 21, 3) := dk_187 0 21 (dk_at dksX11_iterator_0 0 rfl rfl)
theorem dX11_iterator_3 : decode cX11_iterator 3 = .ok (.dup, 1) := dk_89 (dk_at dksX11_iterator_0 3 rfl rfl)
theorem dX11_iterator_4 : decode cX11_iterator 4 = .ok (.aload_n 0, 1) := dk_42 (dk_at dksX11_iterator_0 4 rfl rfl)
theorem dX11_iterator_5 : decode cX11_iterator 5 = .ok (.getfield 1, 3) := dk_180 0 1 (dk_at dksX11_iterator_0 5 rfl rfl)
theorem dX11_iterator_8 : decode cX11_iterator 8 = .ok (.aload_n 0, 1) := dk_42 (dk_at dksX11_iterator_0 8 rfl rfl)
theorem dX11_iterator_9 : decode cX11_iterator 9 = .ok (.getfield 11, 3) := dk_180 0 11 (dk_at dksX11_iterator_0 9 rfl rfl)
theorem dX11_iterator_12 : decode cX11_iterator 12 = .ok (.aload_n 0, 1) := dk_42 (dk_at dksX11_iterator_0 12 rfl rfl)
theorem dX11_iterator_13 : decode cX11_iterator 13 = .ok (.getfield 7, 3) := dk_180 0 7 (dk_at dksX11_iterator_0 13 rfl rfl)
theorem dX11_iterator_16 : decode cX11_iterator 16 = .ok (.invokespecial 23, 3) := dk_183 0 23 (dk_at dksX11_iterator_0 16 rfl rfl)
theorem dX11_iterator_19 : decode cX11_iterator 19 = .ok (.areturn, 1) := dk_176 (dk_at dksX11_iterator_0 19 rfl rfl)
theorem q132 : (Jvm.Cond.initialized "StaffRailway$1") ∈ lw_all := lw_g (lw_at lw_m1 39 rfl) rfl
theorem q1009 : (Jvm.Cond.selects "StaffRailway$1" ({ cls := "java/lang/Object", name := "getClass", desc := "()Ljava/lang/Class;" } : Jvm.MethodName) ({ cls := "java/lang/Object", name := "getClass", desc := "()Ljava/lang/Class;" } : Jvm.MethodName)) ∈ lw_all := lw_g (lw_at lw_m4 196 rfl) rfl
theorem q1630 : (Jvm.Cond.instantiable "StaffRailway$1" (3 : Nat)) ∈ lw_all := lw_g (lw_at lw_m7 97 rfl) rfl
theorem q1632 : (Jvm.Cond.instanceMethod ({ cls := "StaffRailway$1", name := "<init>", desc := "(LStaffRailway;ILStaffRailway$Train;)V" } : Jvm.MethodName)) ∈ lw_all := lw_g (lw_at lw_m7 99 rfl) rfl
theorem q1633 : (Jvm.Cond.code ({ cls := "StaffRailway$1", name := "<init>", desc := "(LStaffRailway;ILStaffRailway$Train;)V" } : Jvm.MethodName) prog_2_method_1_code (4 : Nat) (Option.none : Option Jvm.ClassFile.FieldType)) ∈ lw_all := lw_g (lw_at lw_m7 100 rfl) rfl
theorem q1634 : (Jvm.Cond.methodLink "StaffRailway$1" (15 : Nat) ({ cls := "java/lang/Object", name := "<init>", desc := "()V" } : Jvm.MethodName)) ∈ lw_all := lw_g (lw_at lw_m7 101 rfl) rfl
theorem q1635 : (Jvm.Cond.fieldLink "StaffRailway$1" (7 : Nat) "StaffRailway$1" "val$step" "I") ∈ lw_all := lw_g (lw_at lw_m7 102 rfl) rfl
theorem q1636 : (Jvm.Cond.fieldLink "StaffRailway$1" (11 : Nat) "StaffRailway$1" "val$train" "LStaffRailway$Train;") ∈ lw_all := lw_g (lw_at lw_m7 103 rfl) rfl
theorem q1637 : (Jvm.Cond.fieldLink "StaffRailway$1" (1 : Nat) "StaffRailway$1" "this$0" "LStaffRailway;") ∈ lw_all := lw_g (lw_at lw_m7 104 rfl) rfl
theorem q1638 : (Jvm.Cond.laysFinal "StaffRailway$1" "StaffRailway$1" "val$step" "I") ∈ lw_all := lw_g (lw_at lw_m7 105 rfl) rfl
theorem q1639 : (Jvm.Cond.soleField "StaffRailway$1" "val$step") ∈ lw_all := lw_g (lw_at lw_m7 106 rfl) rfl
theorem q1640 : (Jvm.Cond.laysFinal "StaffRailway$1" "StaffRailway$1" "val$train" "LStaffRailway$Train;") ∈ lw_all := lw_g (lw_at lw_m7 107 rfl) rfl
theorem q1641 : (Jvm.Cond.soleField "StaffRailway$1" "val$train") ∈ lw_all := lw_g (lw_at lw_m7 108 rfl) rfl
theorem q1642 : (Jvm.Cond.laysFinal "StaffRailway$1" "StaffRailway$1" "this$0" "LStaffRailway;") ∈ lw_all := lw_g (lw_at lw_m7 109 rfl) rfl
theorem q1643 : (Jvm.Cond.soleField "StaffRailway$1" "this$0") ∈ lw_all := lw_g (lw_at lw_m7 110 rfl) rfl
theorem q1644 : (Jvm.Cond.superclass "StaffRailway$1" "java/lang/Object") ∈ lw_all := lw_g (lw_at lw_m7 111 rfl) rfl
theorem q1649 : (Jvm.Cond.castable "StaffRailway$1" "java/lang/Iterable") ∈ lw_tbl := lw_at lw_m7 116 rfl
theorem q1650 : (Jvm.Cond.selects "StaffRailway$1" ({ cls := "java/lang/Iterable", name := "iterator", desc := "()Ljava/util/Iterator;" } : Jvm.MethodName) ({ cls := "StaffRailway$1", name := "iterator", desc := "()Ljava/util/Iterator;" } : Jvm.MethodName)) ∈ lw_all := lw_g (lw_at lw_m7 117 rfl) rfl
theorem q1651 : (Jvm.Cond.unhidden "StaffRailway$1" "iterator" "()Ljava/util/Iterator;") ∈ lw_tbl := lw_at lw_m7 118 rfl
theorem q1652 : (Jvm.Cond.instanceMethod ({ cls := "StaffRailway$1", name := "iterator", desc := "()Ljava/util/Iterator;" } : Jvm.MethodName)) ∈ lw_all := lw_g (lw_at lw_m7 119 rfl) rfl
theorem q1653 : (Jvm.Cond.publicMethod ({ cls := "StaffRailway$1", name := "iterator", desc := "()Ljava/util/Iterator;" } : Jvm.MethodName)) ∈ lw_tbl := lw_at lw_m7 120 rfl
theorem q1654 : (Jvm.Cond.code ({ cls := "StaffRailway$1", name := "iterator", desc := "()Ljava/util/Iterator;" } : Jvm.MethodName) prog_2_method_2_code (1 : Nat) (Option.some (Jvm.ClassFile.FieldType.object "java/util/Iterator"))) ∈ lw_all := lw_g (lw_at lw_m7 121 rfl) rfl
theorem q1655 : (Jvm.Cond.classLink "StaffRailway$1" (21 : Nat) "StaffRailway$1Going") ∈ lw_all := lw_g (lw_at lw_m7 122 rfl) rfl
theorem q1657 : (Jvm.Cond.methodLink "StaffRailway$1" (23 : Nat) ({ cls := "StaffRailway$1Going", name := "<init>", desc := "(LStaffRailway;LStaffRailway$Train;I)V" } : Jvm.MethodName)) ∈ lw_all := lw_g (lw_at lw_m7 124 rfl) rfl
theorem q2667 : (Jvm.Cond.castable "StaffRailway$1" "java/lang/Object") ∈ lw_tbl := lw_at lw_m11 174 rfl
theorem in_X11 : ∀ w ∈ wsX110, w ∈ lw_all := lw_in wsX110 [1638, 1640, 1642] (by decide +kernel) (by decide +kernel)
/-! StaffRailway$1Going -/
set_option maxRecDepth 100000
def RX12 : String := "StaffRailway$1Going"
def TX12 : u_T := fun k => match k with
  | 0 => ("StaffRailway$1Going", "at", "I", false)
  | 1 => ("StaffRailway$1Going", "val$train", "LStaffRailway$Train;", true)
  | 2 => ("StaffRailway$1Going", "val$step", "I", true)
  | _ => ("StaffRailway$1Going", "this$0", "LStaffRailway;", true)
def tyX12 : Nat → FieldType := fun k => match k with
  | 0 => .int
  | 1 => .object "StaffRailway$Train"
  | 2 => .int
  | _ => .object "StaffRailway"
abbrev wsX120 : List Cond := u_ws RX12 TX12 4
theorem nmX12 : ∀ a, a < 4 → ∀ b, b < 4 → a ≠ b → (TX12 a).2.1 ≠ (TX12 b).2.1 := by decide +kernel
theorem tyX12_ok : ∀ k, k < 4 → parseFieldDescriptor (TX12 k).2.2.1 = some (tyX12 k) := by decide +kernel
abbrev cX12_hasNext : ByteArray := prog_3_method_2_code
def yX12_hasNext : MethodName := ⟨RX12, "hasNext", "()Z"⟩
def dkwX12_hasNext_2 : List UInt8 := [167, 0, 4, 3, 172]
abbrev dktX12_hasNext_2 : List UInt8 := dkwX12_hasNext_2 ++ []
def dkwX12_hasNext_1 : List UInt8 := [180, 0, 26, 42, 180, 0, 11, 96, 42, 180, 0, 7, 180, 0, 35, 182, 0, 38, 153, 0, 7, 4]
abbrev dktX12_hasNext_1 : List UInt8 := dkwX12_hasNext_1 ++ dktX12_hasNext_2
def dkwX12_hasNext_0 : List UInt8 := [42, 180, 0, 26, 42, 180, 0, 11, 96, 184, 0, 29, 153, 0, 37, 42, 180, 0, 1, 42, 180, 0, 26, 42]
abbrev dktX12_hasNext_0 : List UInt8 := dkwX12_hasNext_0 ++ dktX12_hasNext_1
theorem dksX12_hasNext_0 : cX12_hasNext.data.toList.drop 0 = dktX12_hasNext_0 := by decide +kernel
theorem dksX12_hasNext_1 : cX12_hasNext.data.toList.drop 24 = dktX12_hasNext_1 := dk_seg dksX12_hasNext_0 24 rfl rfl
theorem dksX12_hasNext_2 : cX12_hasNext.data.toList.drop 46 = dktX12_hasNext_2 := dk_seg dksX12_hasNext_1 22 rfl rfl
theorem dX12_hasNext_0 : decode cX12_hasNext 0 = .ok (.aload_n 0, 1) := dk_42 (dk_at dksX12_hasNext_0 0 rfl rfl)
theorem dX12_hasNext_1 : decode cX12_hasNext 1 = .ok (.getfield 26, 3) := dk_180 0 26 (dk_at dksX12_hasNext_0 1 rfl rfl)
theorem dX12_hasNext_4 : decode cX12_hasNext 4 = .ok (.aload_n 0, 1) := dk_42 (dk_at dksX12_hasNext_0 4 rfl rfl)
theorem dX12_hasNext_5 : decode cX12_hasNext 5 = .ok (.getfield 11, 3) := dk_180 0 11 (dk_at dksX12_hasNext_0 5 rfl rfl)
theorem dX12_hasNext_8 : decode cX12_hasNext 8 = .ok (.iadd, 1) := dk_96 (dk_at dksX12_hasNext_0 8 rfl rfl)
theorem dX12_hasNext_9 : decode cX12_hasNext 9 = .ok (.invokestatic 29, 3) := dk_184 0 29 (dk_at dksX12_hasNext_0 9 rfl rfl)
theorem dX12_hasNext_12 : decode cX12_hasNext 12 = .ok (.ifCond .eq 37, 3) := dk_153 0 37 (dk_at dksX12_hasNext_0 12 rfl rfl)
theorem dX12_hasNext_15 : decode cX12_hasNext 15 = .ok (.aload_n 0, 1) := dk_42 (dk_at dksX12_hasNext_0 15 rfl rfl)
theorem dX12_hasNext_16 : decode cX12_hasNext 16 = .ok (.getfield 1, 3) := dk_180 0 1 (dk_at dksX12_hasNext_0 16 rfl rfl)
theorem dX12_hasNext_19 : decode cX12_hasNext 19 = .ok (.aload_n 0, 1) := dk_42 (dk_at dksX12_hasNext_0 19 rfl rfl)
theorem dX12_hasNext_20 : decode cX12_hasNext 20 = .ok (.getfield 26, 3) := dk_180 0 26 (dk_at dksX12_hasNext_0 20 rfl rfl)
theorem dX12_hasNext_23 : decode cX12_hasNext 23 = .ok (.aload_n 0, 1) := dk_42 (dk_at dksX12_hasNext_0 23 rfl rfl)
theorem dX12_hasNext_24 : decode cX12_hasNext 24 = .ok (.getfield 26, 3) := dk_180 0 26 (dk_at dksX12_hasNext_1 0 rfl rfl)
theorem dX12_hasNext_27 : decode cX12_hasNext 27 = .ok (.aload_n 0, 1) := dk_42 (dk_at dksX12_hasNext_1 3 rfl rfl)
theorem dX12_hasNext_28 : decode cX12_hasNext 28 = .ok (.getfield 11, 3) := dk_180 0 11 (dk_at dksX12_hasNext_1 4 rfl rfl)
theorem dX12_hasNext_31 : decode cX12_hasNext 31 = .ok (.iadd, 1) := dk_96 (dk_at dksX12_hasNext_1 7 rfl rfl)
theorem dX12_hasNext_32 : decode cX12_hasNext 32 = .ok (.aload_n 0, 1) := dk_42 (dk_at dksX12_hasNext_1 8 rfl rfl)
theorem dX12_hasNext_33 : decode cX12_hasNext 33 = .ok (.getfield 7, 3) := dk_180 0 7 (dk_at dksX12_hasNext_1 9 rfl rfl)
theorem dX12_hasNext_36 : decode cX12_hasNext 36 = .ok (.getfield 35, 3) := dk_180 0 35 (dk_at dksX12_hasNext_1 12 rfl rfl)
theorem dX12_hasNext_39 : decode cX12_hasNext 39 = .ok (.invokevirtual 38, 3) := dk_182 0 38 (dk_at dksX12_hasNext_1 15 rfl rfl)
theorem dX12_hasNext_42 : decode cX12_hasNext 42 = .ok (.ifCond .eq 7, 3) := dk_153 0 7 (dk_at dksX12_hasNext_1 18 rfl rfl)
theorem dX12_hasNext_45 : decode cX12_hasNext 45 = .ok (.iconst 1, 1) := dk_4 (dk_at dksX12_hasNext_1 21 rfl rfl)
theorem dX12_hasNext_46 : decode cX12_hasNext 46 = .ok (.goto 4, 3) := dk_167 0 4 (dk_at dksX12_hasNext_2 0 rfl rfl)
theorem dX12_hasNext_49 : decode cX12_hasNext 49 = .ok (.iconst 0, 1) := dk_3 (dk_at dksX12_hasNext_2 3 rfl rfl)
theorem dX12_hasNext_50 : decode cX12_hasNext 50 = .ok (.ireturn, 1) := dk_172 (dk_at dksX12_hasNext_2 4 rfl rfl)
abbrev cX12_next : ByteArray := prog_3_method_4_code
def yX12_next : MethodName := ⟨RX12, "next", "()Ljava/lang/Object;"⟩
theorem dX12_next_0 : decode cX12_next 0 = .ok (.aload_n 0, 1) := by decide +kernel
theorem dX12_next_1 : decode cX12_next 1 = .ok (.invokevirtual 48, 3) := by decide +kernel
theorem dX12_next_4 : decode cX12_next 4 = .ok (.areturn, 1) := by decide +kernel
abbrev cX12_next_2 : ByteArray := prog_3_method_3_code
def yX12_next_2 : MethodName := ⟨RX12, "next", "()Ljava/lang/Integer;"⟩
def dkwX12_next_2_0 : List UInt8 := [42, 89, 180, 0, 26, 42, 180, 0, 11, 96, 181, 0, 26, 42, 180, 0, 26, 184, 0, 42, 176]
abbrev dktX12_next_2_0 : List UInt8 := dkwX12_next_2_0 ++ []
theorem dksX12_next_2_0 : cX12_next_2.data.toList.drop 0 = dktX12_next_2_0 := by decide +kernel
theorem dX12_next_2_0 : decode cX12_next_2 0 = .ok (.aload_n 0, 1) := dk_42 (dk_at dksX12_next_2_0 0 rfl rfl)
theorem dX12_next_2_1 : decode cX12_next_2 1 = .ok (.dup, 1) := dk_89 (dk_at dksX12_next_2_0 1 rfl rfl)
theorem dX12_next_2_2 : decode cX12_next_2 2 = .ok (.getfield 26, 3) := dk_180 0 26 (dk_at dksX12_next_2_0 2 rfl rfl)
theorem dX12_next_2_5 : decode cX12_next_2 5 = .ok (.aload_n 0, 1) := dk_42 (dk_at dksX12_next_2_0 5 rfl rfl)
theorem dX12_next_2_6 : decode cX12_next_2 6 = .ok (.getfield 11, 3) := dk_180 0 11 (dk_at dksX12_next_2_0 6 rfl rfl)
theorem dX12_next_2_9 : decode cX12_next_2 9 = .ok (.iadd, 1) := dk_96 (dk_at dksX12_next_2_0 9 rfl rfl)
theorem dX12_next_2_10 : decode cX12_next_2 10 = .ok (.putfield 26, 3) := dk_181 0 26 (dk_at dksX12_next_2_0 10 rfl rfl)
theorem dX12_next_2_13 : decode cX12_next_2 13 = .ok (.aload_n 0, 1) := dk_42 (dk_at dksX12_next_2_0 13 rfl rfl)
theorem dX12_next_2_14 : decode cX12_next_2 14 = .ok (.getfield 26, 3) := dk_180 0 26 (dk_at dksX12_next_2_0 14 rfl rfl)
theorem dX12_next_2_17 : decode cX12_next_2 17 = .ok (.invokestatic 42, 3) := dk_184 0 42 (dk_at dksX12_next_2_0 17 rfl rfl)
theorem dX12_next_2_20 : decode cX12_next_2 20 = .ok (.areturn, 1) := dk_176 (dk_at dksX12_next_2_0 20 rfl rfl)
abbrev cX12_init : ByteArray := prog_3_method_1_code
def yX12_init : MethodName := ⟨RX12, "<init>", "(LStaffRailway;LStaffRailway$Train;I)V"⟩
def dkwX12_init_1 : List UInt8 := [180, 0, 21, 181, 0, 26, 177]
abbrev dktX12_init_1 : List UInt8 := dkwX12_init_1 ++ []
def dkwX12_init_0 : List UInt8 := [42, 43, 181, 0, 1, 42, 44, 181, 0, 7, 42, 29, 181, 0, 11, 42, 183, 0, 15, 42, 42, 180, 0, 7]
abbrev dktX12_init_0 : List UInt8 := dkwX12_init_0 ++ dktX12_init_1
theorem dksX12_init_0 : cX12_init.data.toList.drop 0 = dktX12_init_0 := by decide +kernel
theorem dksX12_init_1 : cX12_init.data.toList.drop 24 = dktX12_init_1 := dk_seg dksX12_init_0 24 rfl rfl
theorem dX12_init_0 : decode cX12_init 0 = .ok (.aload_n 0, 1) := dk_42 (dk_at dksX12_init_0 0 rfl rfl)
theorem dX12_init_1 : decode cX12_init 1 = .ok (.aload_n 1, 1) := dk_43 (dk_at dksX12_init_0 1 rfl rfl)
theorem dX12_init_2 : decode cX12_init 2 = .ok (.putfield 1, 3) := dk_181 0 1 (dk_at dksX12_init_0 2 rfl rfl)
theorem dX12_init_5 : decode cX12_init 5 = .ok (.aload_n 0, 1) := dk_42 (dk_at dksX12_init_0 5 rfl rfl)
theorem dX12_init_6 : decode cX12_init 6 = .ok (.aload_n 2, 1) := dk_44 (dk_at dksX12_init_0 6 rfl rfl)
theorem dX12_init_7 : decode cX12_init 7 = .ok (.putfield 7, 3) := dk_181 0 7 (dk_at dksX12_init_0 7 rfl rfl)
theorem dX12_init_10 : decode cX12_init 10 = .ok (.aload_n 0, 1) := dk_42 (dk_at dksX12_init_0 10 rfl rfl)
theorem dX12_init_11 : decode cX12_init 11 = .ok (.iload_n 3, 1) := dk_29 (dk_at dksX12_init_0 11 rfl rfl)
theorem dX12_init_12 : decode cX12_init 12 = .ok (.putfield 11, 3) := dk_181 0 11 (dk_at dksX12_init_0 12 rfl rfl)
theorem dX12_init_15 : decode cX12_init 15 = .ok (.aload_n 0, 1) := dk_42 (dk_at dksX12_init_0 15 rfl rfl)
theorem dX12_init_16 : decode cX12_init 16 = .ok (.invokespecial 15, 3) := dk_183 0 15 (dk_at dksX12_init_0 16 rfl rfl)
theorem dX12_init_19 : decode cX12_init 19 = .ok (.aload_n 0, 1) := dk_42 (dk_at dksX12_init_0 19 rfl rfl)
theorem dX12_init_20 : decode cX12_init 20 = .ok (.aload_n 0, 1) := dk_42 (dk_at dksX12_init_0 20 rfl rfl)
theorem dX12_init_21 : decode cX12_init 21 = .ok (.getfield 7, 3) := dk_180 0 7 (dk_at dksX12_init_0 21 rfl rfl)
theorem dX12_init_24 : decode cX12_init 24 = .ok (.getfield 21, 3) := dk_180 0 21 (dk_at dksX12_init_1 0 rfl rfl)
theorem dX12_init_27 : decode cX12_init 27 = .ok (.putfield 26, 3) := dk_181 0 26 (dk_at dksX12_init_1 3 rfl rfl)
theorem dX12_init_30 : decode cX12_init 30 = .ok (.return_, 1) := dk_177 (dk_at dksX12_init_1 6 rfl rfl)
theorem q133 : (Jvm.Cond.initialized "StaffRailway$1Going") ∈ lw_all := lw_g (lw_at lw_m1 40 rfl) rfl
theorem q778 : (Jvm.Cond.castable "StaffRailway$1Going" "java/util/Iterator") ∈ lw_tbl := lw_at lw_m3 205 rfl
theorem q779 : (Jvm.Cond.selects "StaffRailway$1Going" ({ cls := "java/util/Iterator", name := "hasNext", desc := "()Z" } : Jvm.MethodName) ({ cls := "StaffRailway$1Going", name := "hasNext", desc := "()Z" } : Jvm.MethodName)) ∈ lw_all := lw_g (lw_at lw_m3 206 rfl) rfl
theorem q780 : (Jvm.Cond.unhidden "StaffRailway$1Going" "hasNext" "()Z") ∈ lw_tbl := lw_at lw_m3 207 rfl
theorem q781 : (Jvm.Cond.instanceMethod ({ cls := "StaffRailway$1Going", name := "hasNext", desc := "()Z" } : Jvm.MethodName)) ∈ lw_all := lw_g (lw_at lw_m3 208 rfl) rfl
theorem q782 : (Jvm.Cond.publicMethod ({ cls := "StaffRailway$1Going", name := "hasNext", desc := "()Z" } : Jvm.MethodName)) ∈ lw_tbl := lw_at lw_m3 209 rfl
theorem q783 : (Jvm.Cond.code ({ cls := "StaffRailway$1Going", name := "hasNext", desc := "()Z" } : Jvm.MethodName) prog_3_method_2_code (1 : Nat) (Option.some Jvm.ClassFile.FieldType.boolean)) ∈ lw_all := lw_g (lw_at lw_m3 210 rfl) rfl
theorem q784 : (Jvm.Cond.methodLinkNest "StaffRailway$1Going" (29 : Nat) ({ cls := "StaffRailway", name := "isStation", desc := "(I)Z" } : Jvm.MethodName) "StaffRailway") ∈ lw_tbl := lw_at lw_m3 211 rfl
theorem q785 : (Jvm.Cond.methodLinkNest "StaffRailway$1Going" (38 : Nat) ({ cls := "StaffRailway", name := "canGo", desc := "(III)Z" } : Jvm.MethodName) "StaffRailway") ∈ lw_tbl := lw_at lw_m3 212 rfl
theorem q808 : (Jvm.Cond.selects "StaffRailway$1Going" ({ cls := "java/util/Iterator", name := "next", desc := "()Ljava/lang/Object;" } : Jvm.MethodName) ({ cls := "StaffRailway$1Going", name := "next", desc := "()Ljava/lang/Object;" } : Jvm.MethodName)) ∈ lw_all := lw_g (lw_at lw_m3 235 rfl) rfl
theorem q809 : (Jvm.Cond.unhidden "StaffRailway$1Going" "next" "()Ljava/lang/Object;") ∈ lw_tbl := lw_at lw_m3 236 rfl
theorem q810 : (Jvm.Cond.instanceMethod ({ cls := "StaffRailway$1Going", name := "next", desc := "()Ljava/lang/Object;" } : Jvm.MethodName)) ∈ lw_all := lw_g (lw_at lw_m3 237 rfl) rfl
theorem q811 : (Jvm.Cond.publicMethod ({ cls := "StaffRailway$1Going", name := "next", desc := "()Ljava/lang/Object;" } : Jvm.MethodName)) ∈ lw_tbl := lw_at lw_m3 238 rfl
theorem q812 : (Jvm.Cond.code ({ cls := "StaffRailway$1Going", name := "next", desc := "()Ljava/lang/Object;" } : Jvm.MethodName) prog_3_method_4_code (1 : Nat) (Option.some (Jvm.ClassFile.FieldType.object "java/lang/Object"))) ∈ lw_all := lw_g (lw_at lw_m3 239 rfl) rfl
theorem q813 : (Jvm.Cond.methodLink "StaffRailway$1Going" (48 : Nat) ({ cls := "StaffRailway$1Going", name := "next", desc := "()Ljava/lang/Integer;" } : Jvm.MethodName)) ∈ lw_all := lw_g (lw_at lw_m4 0 rfl) rfl
theorem q814 : (Jvm.Cond.instanceMethod ({ cls := "StaffRailway$1Going", name := "next", desc := "()Ljava/lang/Integer;" } : Jvm.MethodName)) ∈ lw_all := lw_g (lw_at lw_m4 1 rfl) rfl
theorem q815 : (Jvm.Cond.selects "StaffRailway$1Going" ({ cls := "StaffRailway$1Going", name := "next", desc := "()Ljava/lang/Integer;" } : Jvm.MethodName) ({ cls := "StaffRailway$1Going", name := "next", desc := "()Ljava/lang/Integer;" } : Jvm.MethodName)) ∈ lw_all := lw_g (lw_at lw_m4 2 rfl) rfl
theorem q816 : (Jvm.Cond.code ({ cls := "StaffRailway$1Going", name := "next", desc := "()Ljava/lang/Integer;" } : Jvm.MethodName) prog_3_method_3_code (1 : Nat) (Option.some (Jvm.ClassFile.FieldType.object "java/lang/Integer"))) ∈ lw_all := lw_g (lw_at lw_m4 3 rfl) rfl
theorem q817 : (Jvm.Cond.methodLink "StaffRailway$1Going" (42 : Nat) ({ cls := "java/lang/Integer", name := "valueOf", desc := "(I)Ljava/lang/Integer;" } : Jvm.MethodName)) ∈ lw_all := lw_g (lw_at lw_m4 4 rfl) rfl
theorem q1010 : (Jvm.Cond.selects "StaffRailway$1Going" ({ cls := "java/lang/Object", name := "getClass", desc := "()Ljava/lang/Class;" } : Jvm.MethodName) ({ cls := "java/lang/Object", name := "getClass", desc := "()Ljava/lang/Class;" } : Jvm.MethodName)) ∈ lw_all := lw_g (lw_at lw_m4 197 rfl) rfl
theorem q1059 : (Jvm.Cond.fieldLinkNest "StaffRailway$1Going" (35 : Nat) "StaffRailway$Train" "wagons" "I" "StaffRailway") ∈ lw_tbl := lw_at lw_m5 6 rfl
theorem q1063 : (Jvm.Cond.fieldLinkNest "StaffRailway$1Going" (21 : Nat) "StaffRailway$Train" "station" "I" "StaffRailway") ∈ lw_tbl := lw_at lw_m5 10 rfl
theorem q1656 : (Jvm.Cond.instantiable "StaffRailway$1Going" (4 : Nat)) ∈ lw_all := lw_g (lw_at lw_m7 123 rfl) rfl
theorem q1658 : (Jvm.Cond.instanceMethod ({ cls := "StaffRailway$1Going", name := "<init>", desc := "(LStaffRailway;LStaffRailway$Train;I)V" } : Jvm.MethodName)) ∈ lw_all := lw_g (lw_at lw_m7 125 rfl) rfl
theorem q1659 : (Jvm.Cond.code ({ cls := "StaffRailway$1Going", name := "<init>", desc := "(LStaffRailway;LStaffRailway$Train;I)V" } : Jvm.MethodName) prog_3_method_1_code (4 : Nat) (Option.none : Option Jvm.ClassFile.FieldType)) ∈ lw_all := lw_g (lw_at lw_m7 126 rfl) rfl
theorem q1660 : (Jvm.Cond.methodLink "StaffRailway$1Going" (15 : Nat) ({ cls := "java/lang/Object", name := "<init>", desc := "()V" } : Jvm.MethodName)) ∈ lw_all := lw_g (lw_at lw_m7 127 rfl) rfl
theorem q1661 : (Jvm.Cond.fieldLink "StaffRailway$1Going" (26 : Nat) "StaffRailway$1Going" "at" "I") ∈ lw_all := lw_g (lw_at lw_m7 128 rfl) rfl
theorem q1662 : (Jvm.Cond.fieldLink "StaffRailway$1Going" (7 : Nat) "StaffRailway$1Going" "val$train" "LStaffRailway$Train;") ∈ lw_all := lw_g (lw_at lw_m7 129 rfl) rfl
theorem q1663 : (Jvm.Cond.fieldLink "StaffRailway$1Going" (11 : Nat) "StaffRailway$1Going" "val$step" "I") ∈ lw_all := lw_g (lw_at lw_m7 130 rfl) rfl
theorem q1664 : (Jvm.Cond.fieldLink "StaffRailway$1Going" (1 : Nat) "StaffRailway$1Going" "this$0" "LStaffRailway;") ∈ lw_all := lw_g (lw_at lw_m7 131 rfl) rfl
theorem q1665 : (Jvm.Cond.lays "StaffRailway$1Going" "StaffRailway$1Going" "at" "I") ∈ lw_all := lw_g (lw_at lw_m7 132 rfl) rfl
theorem q1666 : (Jvm.Cond.soleField "StaffRailway$1Going" "at") ∈ lw_all := lw_g (lw_at lw_m7 133 rfl) rfl
theorem q1667 : (Jvm.Cond.laysFinal "StaffRailway$1Going" "StaffRailway$1Going" "val$train" "LStaffRailway$Train;") ∈ lw_all := lw_g (lw_at lw_m7 134 rfl) rfl
theorem q1668 : (Jvm.Cond.soleField "StaffRailway$1Going" "val$train") ∈ lw_all := lw_g (lw_at lw_m7 135 rfl) rfl
theorem q1669 : (Jvm.Cond.laysFinal "StaffRailway$1Going" "StaffRailway$1Going" "val$step" "I") ∈ lw_all := lw_g (lw_at lw_m7 136 rfl) rfl
theorem q1670 : (Jvm.Cond.soleField "StaffRailway$1Going" "val$step") ∈ lw_all := lw_g (lw_at lw_m7 137 rfl) rfl
theorem q1671 : (Jvm.Cond.laysFinal "StaffRailway$1Going" "StaffRailway$1Going" "this$0" "LStaffRailway;") ∈ lw_all := lw_g (lw_at lw_m7 138 rfl) rfl
theorem q1672 : (Jvm.Cond.soleField "StaffRailway$1Going" "this$0") ∈ lw_all := lw_g (lw_at lw_m7 139 rfl) rfl
theorem q1673 : (Jvm.Cond.superclass "StaffRailway$1Going" "java/lang/Object") ∈ lw_all := lw_g (lw_at lw_m7 140 rfl) rfl
theorem q2668 : (Jvm.Cond.castable "StaffRailway$1Going" "java/lang/Object") ∈ lw_tbl := lw_at lw_m11 175 rfl
theorem in_X12 : ∀ w ∈ wsX120, w ∈ lw_all := lw_in wsX120 [1665, 1667, 1669, 1671] (by decide +kernel) (by decide +kernel)
/-! StaffRailway$Box$Pages -/
set_option maxRecDepth 100000
def RX13 : String := "StaffRailway$Box$Pages"
def TX13 : u_T := fun k => match k with
  | 0 => ("StaffRailway$Box$Pages", "at", "I", false)
  | _ => ("StaffRailway$Box$Pages", "this$0", "LStaffRailway$Box;", true)
def tyX13 : Nat → FieldType := fun k => match k with
  | 0 => .int
  | _ => .object "StaffRailway$Box"
abbrev wsX130 : List Cond := u_ws RX13 TX13 2
theorem nmX13 : ∀ a, a < 2 → ∀ b, b < 2 → a ≠ b → (TX13 a).2.1 ≠ (TX13 b).2.1 := by decide +kernel
theorem tyX13_ok : ∀ k, k < 2 → parseFieldDescriptor (TX13 k).2.2.1 = some (tyX13 k) := by decide +kernel
abbrev cX13_hasNext : ByteArray := prog_7_method_2_code
def yX13_hasNext : MethodName := ⟨RX13, "hasNext", "()Z"⟩
def dkwX13_hasNext_0 : List UInt8 := [42, 180, 0, 13, 42, 180, 0, 1, 180, 0, 17, 162, 0, 7, 4, 167, 0, 4, 3, 172]
abbrev dktX13_hasNext_0 : List UInt8 := dkwX13_hasNext_0 ++ []
theorem dksX13_hasNext_0 : cX13_hasNext.data.toList.drop 0 = dktX13_hasNext_0 := by decide +kernel
theorem dX13_hasNext_0 : decode cX13_hasNext 0 = .ok (.aload_n 0, 1) := dk_42 (dk_at dksX13_hasNext_0 0 rfl rfl)
theorem dX13_hasNext_1 : decode cX13_hasNext 1 = .ok (.getfield 13, 3) := dk_180 0 13 (dk_at dksX13_hasNext_0 1 rfl rfl)
theorem dX13_hasNext_4 : decode cX13_hasNext 4 = .ok (.aload_n 0, 1) := dk_42 (dk_at dksX13_hasNext_0 4 rfl rfl)
theorem dX13_hasNext_5 : decode cX13_hasNext 5 = .ok (.getfield 1, 3) := dk_180 0 1 (dk_at dksX13_hasNext_0 5 rfl rfl)
theorem dX13_hasNext_8 : decode cX13_hasNext 8 = .ok (.getfield 17, 3) := dk_180 0 17 (dk_at dksX13_hasNext_0 8 rfl rfl)
theorem dX13_hasNext_11 : decode cX13_hasNext 11 = .ok (.if_icmp .ge 7, 3) := dk_162 0 7 (dk_at dksX13_hasNext_0 11 rfl rfl)
theorem dX13_hasNext_14 : decode cX13_hasNext 14 = .ok (.iconst 1, 1) := dk_4 (dk_at dksX13_hasNext_0 14 rfl rfl)
theorem dX13_hasNext_15 : decode cX13_hasNext 15 = .ok (.goto 4, 3) := dk_167 0 4 (dk_at dksX13_hasNext_0 15 rfl rfl)
theorem dX13_hasNext_18 : decode cX13_hasNext 18 = .ok (.iconst 0, 1) := dk_3 (dk_at dksX13_hasNext_0 18 rfl rfl)
theorem dX13_hasNext_19 : decode cX13_hasNext 19 = .ok (.ireturn, 1) := dk_172 (dk_at dksX13_hasNext_0 19 rfl rfl)
abbrev cX13_next : ByteArray := prog_7_method_4_code
def yX13_next : MethodName := ⟨RX13, "next", "()Ljava/lang/Object;"⟩
theorem dX13_next_0 : decode cX13_next 0 = .ok (.aload_n 0, 1) := by decide +kernel
theorem dX13_next_1 : decode cX13_next 1 = .ok (.invokevirtual 26, 3) := by decide +kernel
theorem dX13_next_4 : decode cX13_next 4 = .ok (.areturn, 1) := by decide +kernel
abbrev cX13_next_2 : ByteArray := prog_7_method_3_code
def yX13_next_2 : MethodName := ⟨RX13, "next", "()LStaffRailway$Entry;"⟩
def dkwX13_next_2_1 : List UInt8 := [176]
abbrev dktX13_next_2_1 : List UInt8 := dkwX13_next_2_1 ++ []
def dkwX13_next_2_0 : List UInt8 := [42, 89, 180, 0, 13, 4, 96, 181, 0, 13, 42, 180, 0, 1, 180, 0, 22, 42, 180, 0, 13, 4, 100, 50]
abbrev dktX13_next_2_0 : List UInt8 := dkwX13_next_2_0 ++ dktX13_next_2_1
theorem dksX13_next_2_0 : cX13_next_2.data.toList.drop 0 = dktX13_next_2_0 := by decide +kernel
theorem dksX13_next_2_1 : cX13_next_2.data.toList.drop 24 = dktX13_next_2_1 := dk_seg dksX13_next_2_0 24 rfl rfl
theorem dX13_next_2_0 : decode cX13_next_2 0 = .ok (.aload_n 0, 1) := dk_42 (dk_at dksX13_next_2_0 0 rfl rfl)
theorem dX13_next_2_1 : decode cX13_next_2 1 = .ok (.dup, 1) := dk_89 (dk_at dksX13_next_2_0 1 rfl rfl)
theorem dX13_next_2_2 : decode cX13_next_2 2 = .ok (.getfield 13, 3) := dk_180 0 13 (dk_at dksX13_next_2_0 2 rfl rfl)
theorem dX13_next_2_5 : decode cX13_next_2 5 = .ok (.iconst 1, 1) := dk_4 (dk_at dksX13_next_2_0 5 rfl rfl)
theorem dX13_next_2_6 : decode cX13_next_2 6 = .ok (.iadd, 1) := dk_96 (dk_at dksX13_next_2_0 6 rfl rfl)
theorem dX13_next_2_7 : decode cX13_next_2 7 = .ok (.putfield 13, 3) := dk_181 0 13 (dk_at dksX13_next_2_0 7 rfl rfl)
theorem dX13_next_2_10 : decode cX13_next_2 10 = .ok (.aload_n 0, 1) := dk_42 (dk_at dksX13_next_2_0 10 rfl rfl)
theorem dX13_next_2_11 : decode cX13_next_2 11 = .ok (.getfield 1, 3) := dk_180 0 1 (dk_at dksX13_next_2_0 11 rfl rfl)
theorem dX13_next_2_14 : decode cX13_next_2 14 = .ok (.getfield 22, 3) := dk_180 0 22 (dk_at dksX13_next_2_0 14 rfl rfl)
theorem dX13_next_2_17 : decode cX13_next_2 17 = .ok (.aload_n 0, 1) := dk_42 (dk_at dksX13_next_2_0 17 rfl rfl)
theorem dX13_next_2_18 : decode cX13_next_2 18 = .ok (.getfield 13, 3) := dk_180 0 13 (dk_at dksX13_next_2_0 18 rfl rfl)
theorem dX13_next_2_21 : decode cX13_next_2 21 = .ok (.iconst 1, 1) := dk_4 (dk_at dksX13_next_2_0 21 rfl rfl)
theorem dX13_next_2_22 : decode cX13_next_2 22 = .ok (.isub, 1) := dk_100 (dk_at dksX13_next_2_0 22 rfl rfl)
theorem dX13_next_2_23 : decode cX13_next_2 23 = .ok (.aaload, 1) := dk_50 (dk_at dksX13_next_2_0 23 rfl rfl)
theorem dX13_next_2_24 : decode cX13_next_2 24 = .ok (.areturn, 1) := dk_176 (dk_at dksX13_next_2_1 0 rfl rfl)
abbrev cX13_init : ByteArray := prog_7_method_1_code
def yX13_init : MethodName := ⟨RX13, "<init>", "(LStaffRailway$Box;)V"⟩
def dkwX13_init_0 : List UInt8 := [42, 43, 181, 0, 1, 42, 183, 0, 7, 177]
abbrev dktX13_init_0 : List UInt8 := dkwX13_init_0 ++ []
theorem dksX13_init_0 : cX13_init.data.toList.drop 0 = dktX13_init_0 := by decide +kernel
theorem dX13_init_0 : decode cX13_init 0 = .ok (.aload_n 0, 1) := dk_42 (dk_at dksX13_init_0 0 rfl rfl)
theorem dX13_init_1 : decode cX13_init 1 = .ok (.aload_n 1, 1) := dk_43 (dk_at dksX13_init_0 1 rfl rfl)
theorem dX13_init_2 : decode cX13_init 2 = .ok (.putfield 1, 3) := dk_181 0 1 (dk_at dksX13_init_0 2 rfl rfl)
theorem dX13_init_5 : decode cX13_init 5 = .ok (.aload_n 0, 1) := dk_42 (dk_at dksX13_init_0 5 rfl rfl)
theorem dX13_init_6 : decode cX13_init 6 = .ok (.invokespecial 7, 3) := dk_183 0 7 (dk_at dksX13_init_0 6 rfl rfl)
theorem dX13_init_9 : decode cX13_init 9 = .ok (.return_, 1) := dk_177 (dk_at dksX13_init_0 9 rfl rfl)
theorem q134 : (Jvm.Cond.initialized "StaffRailway$Box$Pages") ∈ lw_all := lw_g (lw_at lw_m1 41 rfl) rfl
theorem q519 : (Jvm.Cond.fieldLinkNest "StaffRailway$Box$Pages" (22 : Nat) "StaffRailway$Box" "row" "[LStaffRailway$Entry;" "StaffRailway") ∈ lw_tbl := lw_at lw_m2 186 rfl
theorem q521 : (Jvm.Cond.fieldLinkNest "StaffRailway$Box$Pages" (17 : Nat) "StaffRailway$Box" "many" "I" "StaffRailway") ∈ lw_tbl := lw_at lw_m2 188 rfl
theorem q786 : (Jvm.Cond.castable "StaffRailway$Box$Pages" "java/util/Iterator") ∈ lw_tbl := lw_at lw_m3 213 rfl
theorem q787 : (Jvm.Cond.selects "StaffRailway$Box$Pages" ({ cls := "java/util/Iterator", name := "hasNext", desc := "()Z" } : Jvm.MethodName) ({ cls := "StaffRailway$Box$Pages", name := "hasNext", desc := "()Z" } : Jvm.MethodName)) ∈ lw_all := lw_g (lw_at lw_m3 214 rfl) rfl
theorem q788 : (Jvm.Cond.unhidden "StaffRailway$Box$Pages" "hasNext" "()Z") ∈ lw_tbl := lw_at lw_m3 215 rfl
theorem q789 : (Jvm.Cond.instanceMethod ({ cls := "StaffRailway$Box$Pages", name := "hasNext", desc := "()Z" } : Jvm.MethodName)) ∈ lw_all := lw_g (lw_at lw_m3 216 rfl) rfl
theorem q790 : (Jvm.Cond.publicMethod ({ cls := "StaffRailway$Box$Pages", name := "hasNext", desc := "()Z" } : Jvm.MethodName)) ∈ lw_tbl := lw_at lw_m3 217 rfl
theorem q791 : (Jvm.Cond.code ({ cls := "StaffRailway$Box$Pages", name := "hasNext", desc := "()Z" } : Jvm.MethodName) prog_7_method_2_code (1 : Nat) (Option.some Jvm.ClassFile.FieldType.boolean)) ∈ lw_all := lw_g (lw_at lw_m3 218 rfl) rfl
theorem q837 : (Jvm.Cond.selects "StaffRailway$Box$Pages" ({ cls := "java/util/Iterator", name := "next", desc := "()Ljava/lang/Object;" } : Jvm.MethodName) ({ cls := "StaffRailway$Box$Pages", name := "next", desc := "()Ljava/lang/Object;" } : Jvm.MethodName)) ∈ lw_all := lw_g (lw_at lw_m4 24 rfl) rfl
theorem q838 : (Jvm.Cond.unhidden "StaffRailway$Box$Pages" "next" "()Ljava/lang/Object;") ∈ lw_tbl := lw_at lw_m4 25 rfl
theorem q839 : (Jvm.Cond.instanceMethod ({ cls := "StaffRailway$Box$Pages", name := "next", desc := "()Ljava/lang/Object;" } : Jvm.MethodName)) ∈ lw_all := lw_g (lw_at lw_m4 26 rfl) rfl
theorem q840 : (Jvm.Cond.publicMethod ({ cls := "StaffRailway$Box$Pages", name := "next", desc := "()Ljava/lang/Object;" } : Jvm.MethodName)) ∈ lw_tbl := lw_at lw_m4 27 rfl
theorem q841 : (Jvm.Cond.code ({ cls := "StaffRailway$Box$Pages", name := "next", desc := "()Ljava/lang/Object;" } : Jvm.MethodName) prog_7_method_4_code (1 : Nat) (Option.some (Jvm.ClassFile.FieldType.object "java/lang/Object"))) ∈ lw_all := lw_g (lw_at lw_m4 28 rfl) rfl
theorem q842 : (Jvm.Cond.methodLink "StaffRailway$Box$Pages" (26 : Nat) ({ cls := "StaffRailway$Box$Pages", name := "next", desc := "()LStaffRailway$Entry;" } : Jvm.MethodName)) ∈ lw_all := lw_g (lw_at lw_m4 29 rfl) rfl
theorem q843 : (Jvm.Cond.instanceMethod ({ cls := "StaffRailway$Box$Pages", name := "next", desc := "()LStaffRailway$Entry;" } : Jvm.MethodName)) ∈ lw_all := lw_g (lw_at lw_m4 30 rfl) rfl
theorem q844 : (Jvm.Cond.selects "StaffRailway$Box$Pages" ({ cls := "StaffRailway$Box$Pages", name := "next", desc := "()LStaffRailway$Entry;" } : Jvm.MethodName) ({ cls := "StaffRailway$Box$Pages", name := "next", desc := "()LStaffRailway$Entry;" } : Jvm.MethodName)) ∈ lw_all := lw_g (lw_at lw_m4 31 rfl) rfl
theorem q845 : (Jvm.Cond.code ({ cls := "StaffRailway$Box$Pages", name := "next", desc := "()LStaffRailway$Entry;" } : Jvm.MethodName) prog_7_method_3_code (1 : Nat) (Option.some (Jvm.ClassFile.FieldType.object "StaffRailway$Entry"))) ∈ lw_all := lw_g (lw_at lw_m4 32 rfl) rfl
theorem q1013 : (Jvm.Cond.selects "StaffRailway$Box$Pages" ({ cls := "java/lang/Object", name := "getClass", desc := "()Ljava/lang/Class;" } : Jvm.MethodName) ({ cls := "java/lang/Object", name := "getClass", desc := "()Ljava/lang/Class;" } : Jvm.MethodName)) ∈ lw_all := lw_g (lw_at lw_m4 200 rfl) rfl
theorem q1681 : (Jvm.Cond.instantiable "StaffRailway$Box$Pages" (2 : Nat)) ∈ lw_all := lw_g (lw_at lw_m7 148 rfl) rfl
theorem q1683 : (Jvm.Cond.instanceMethod ({ cls := "StaffRailway$Box$Pages", name := "<init>", desc := "(LStaffRailway$Box;)V" } : Jvm.MethodName)) ∈ lw_all := lw_g (lw_at lw_m7 150 rfl) rfl
theorem q1684 : (Jvm.Cond.code ({ cls := "StaffRailway$Box$Pages", name := "<init>", desc := "(LStaffRailway$Box;)V" } : Jvm.MethodName) prog_7_method_1_code (2 : Nat) (Option.none : Option Jvm.ClassFile.FieldType)) ∈ lw_all := lw_g (lw_at lw_m7 151 rfl) rfl
theorem q1685 : (Jvm.Cond.methodLink "StaffRailway$Box$Pages" (7 : Nat) ({ cls := "java/lang/Object", name := "<init>", desc := "()V" } : Jvm.MethodName)) ∈ lw_all := lw_g (lw_at lw_m7 152 rfl) rfl
theorem q1686 : (Jvm.Cond.fieldLink "StaffRailway$Box$Pages" (13 : Nat) "StaffRailway$Box$Pages" "at" "I") ∈ lw_all := lw_g (lw_at lw_m7 153 rfl) rfl
theorem q1687 : (Jvm.Cond.fieldLink "StaffRailway$Box$Pages" (1 : Nat) "StaffRailway$Box$Pages" "this$0" "LStaffRailway$Box;") ∈ lw_all := lw_g (lw_at lw_m7 154 rfl) rfl
theorem q1688 : (Jvm.Cond.lays "StaffRailway$Box$Pages" "StaffRailway$Box$Pages" "at" "I") ∈ lw_all := lw_g (lw_at lw_m7 155 rfl) rfl
theorem q1689 : (Jvm.Cond.soleField "StaffRailway$Box$Pages" "at") ∈ lw_all := lw_g (lw_at lw_m7 156 rfl) rfl
theorem q1690 : (Jvm.Cond.laysFinal "StaffRailway$Box$Pages" "StaffRailway$Box$Pages" "this$0" "LStaffRailway$Box;") ∈ lw_all := lw_g (lw_at lw_m7 157 rfl) rfl
theorem q1691 : (Jvm.Cond.soleField "StaffRailway$Box$Pages" "this$0") ∈ lw_all := lw_g (lw_at lw_m7 158 rfl) rfl
theorem q1692 : (Jvm.Cond.superclass "StaffRailway$Box$Pages" "java/lang/Object") ∈ lw_all := lw_g (lw_at lw_m7 159 rfl) rfl
theorem q2669 : (Jvm.Cond.castable "StaffRailway$Box$Pages" "java/lang/Object") ∈ lw_tbl := lw_at lw_m11 176 rfl
theorem in_X13 : ∀ w ∈ wsX130, w ∈ lw_all := lw_in wsX130 [1688, 1690] (by decide +kernel) (by decide +kernel)
/-! StaffRailway$Reader -/
set_option maxRecDepth 100000
def RX14 : String := "StaffRailway$Reader"
def TX14 : u_T := fun k => match k with
  | 0 => ("StaffRailway$Reader", "text", "Ljava/lang/CharSequence;", true)
  | 1 => ("StaffRailway$Reader", "at", "I", false)
  | _ => ("StaffRailway$Reader", "this$0", "LStaffRailway;", true)
def tyX14 : Nat → FieldType := fun k => match k with
  | 0 => .object "java/lang/CharSequence"
  | 1 => .int
  | _ => .object "StaffRailway"
abbrev wsX140 : List Cond := u_ws RX14 TX14 3
theorem nmX14 : ∀ a, a < 3 → ∀ b, b < 3 → a ≠ b → (TX14 a).2.1 ≠ (TX14 b).2.1 := by decide +kernel
theorem tyX14_ok : ∀ k, k < 3 → parseFieldDescriptor (TX14 k).2.2.1 = some (tyX14 k) := by decide +kernel
abbrev cX14_init : ByteArray := prog_14_method_1_code
def yX14_init : MethodName := ⟨RX14, "<init>", "(LStaffRailway;Ljava/lang/CharSequence;)V"⟩
def dkwX14_init_0 : List UInt8 := [42, 43, 181, 0, 3, 42, 183, 0, 9, 42, 44, 181, 0, 15, 177]
abbrev dktX14_init_0 : List UInt8 := dkwX14_init_0 ++ []
theorem dksX14_init_0 : cX14_init.data.toList.drop 0 = dktX14_init_0 := by decide +kernel
theorem dX14_init_0 : decode cX14_init 0 = .ok (.aload_n 0, 1) := dk_42 (dk_at dksX14_init_0 0 rfl rfl)
theorem dX14_init_1 : decode cX14_init 1 = .ok (.aload_n 1, 1) := dk_43 (dk_at dksX14_init_0 1 rfl rfl)
theorem dX14_init_2 : decode cX14_init 2 = .ok (.putfield 3, 3) := dk_181 0 3 (dk_at dksX14_init_0 2 rfl rfl)
theorem dX14_init_5 : decode cX14_init 5 = .ok (.aload_n 0, 1) := dk_42 (dk_at dksX14_init_0 5 rfl rfl)
theorem dX14_init_6 : decode cX14_init 6 = .ok (.invokespecial 9, 3) := dk_183 0 9 (dk_at dksX14_init_0 6 rfl rfl)
theorem dX14_init_9 : decode cX14_init 9 = .ok (.aload_n 0, 1) := dk_42 (dk_at dksX14_init_0 9 rfl rfl)
theorem dX14_init_10 : decode cX14_init 10 = .ok (.aload_n 2, 1) := dk_44 (dk_at dksX14_init_0 10 rfl rfl)
theorem dX14_init_11 : decode cX14_init 11 = .ok (.putfield 15, 3) := dk_181 0 15 (dk_at dksX14_init_0 11 rfl rfl)
theorem dX14_init_14 : decode cX14_init 14 = .ok (.return_, 1) := dk_177 (dk_at dksX14_init_0 14 rfl rfl)
abbrev cX14_orders : ByteArray := prog_14_method_16_code
def yX14_orders : MethodName := ⟨RX14, "orders", "()Ljava/util/ArrayList;"⟩
def dkwX14_orders_2 : List UInt8 := [185, 0, 23, 1, 0, 160, 0, 7, 4, 167, 0, 4, 3, 182, 0, 49, 43, 176]
abbrev dktX14_orders_2 : List UInt8 := dkwX14_orders_2 ++ []
def dkwX14_orders_1 : List UInt8 := [153, 0, 15, 43, 42, 182, 0, 102, 182, 0, 105, 87, 167, 255, 238, 42, 42, 180, 0, 19, 42, 180, 0, 15]
abbrev dktX14_orders_1 : List UInt8 := dkwX14_orders_1 ++ dktX14_orders_2
def dkwX14_orders_0 : List UInt8 := [187, 0, 99, 89, 183, 0, 101, 76, 43, 42, 182, 0, 102, 182, 0, 105, 87, 42, 16, 59, 182, 0, 53]
abbrev dktX14_orders_0 : List UInt8 := dkwX14_orders_0 ++ dktX14_orders_1
theorem dksX14_orders_0 : cX14_orders.data.toList.drop 0 = dktX14_orders_0 := by decide +kernel
theorem dksX14_orders_1 : cX14_orders.data.toList.drop 23 = dktX14_orders_1 := dk_seg dksX14_orders_0 23 rfl rfl
theorem dksX14_orders_2 : cX14_orders.data.toList.drop 47 = dktX14_orders_2 := dk_seg dksX14_orders_1 24 rfl rfl
theorem dX14_orders_0 : decode cX14_orders 0 = .ok (.new 99, 3) := dk_187 0 99 (dk_at dksX14_orders_0 0 rfl rfl)
theorem dX14_orders_3 : decode cX14_orders 3 = .ok (.dup, 1) := dk_89 (dk_at dksX14_orders_0 3 rfl rfl)
theorem dX14_orders_4 : decode cX14_orders 4 = .ok (.invokespecial 101, 3) := dk_183 0 101 (dk_at dksX14_orders_0 4 rfl rfl)
theorem dX14_orders_7 : decode cX14_orders 7 = .ok (.astore_n 1, 1) := dk_76 (dk_at dksX14_orders_0 7 rfl rfl)
theorem dX14_orders_8 : decode cX14_orders 8 = .ok (.aload_n 1, 1) := dk_43 (dk_at dksX14_orders_0 8 rfl rfl)
theorem dX14_orders_9 : decode cX14_orders 9 = .ok (.aload_n 0, 1) := dk_42 (dk_at dksX14_orders_0 9 rfl rfl)
theorem dX14_orders_10 : decode cX14_orders 10 = .ok (.invokevirtual 102, 3) := dk_182 0 102 (dk_at dksX14_orders_0 10 rfl rfl)
theorem dX14_orders_13 : decode cX14_orders 13 = .ok (.invokevirtual 105, 3) := dk_182 0 105 (dk_at dksX14_orders_0 13 rfl rfl)
theorem dX14_orders_16 : decode cX14_orders 16 = .ok (.pop, 1) := dk_87 (dk_at dksX14_orders_0 16 rfl rfl)
theorem dX14_orders_17 : decode cX14_orders 17 = .ok (.aload_n 0, 1) := dk_42 (dk_at dksX14_orders_0 17 rfl rfl)
theorem dX14_orders_18 : decode cX14_orders 18 = .ok (.bipush 59, 2) := dk_16 59 (dk_at dksX14_orders_0 18 rfl rfl)
theorem dX14_orders_20 : decode cX14_orders 20 = .ok (.invokevirtual 53, 3) := dk_182 0 53 (dk_at dksX14_orders_0 20 rfl rfl)
theorem dX14_orders_23 : decode cX14_orders 23 = .ok (.ifCond .eq 15, 3) := dk_153 0 15 (dk_at dksX14_orders_1 0 rfl rfl)
theorem dX14_orders_26 : decode cX14_orders 26 = .ok (.aload_n 1, 1) := dk_43 (dk_at dksX14_orders_1 3 rfl rfl)
theorem dX14_orders_27 : decode cX14_orders 27 = .ok (.aload_n 0, 1) := dk_42 (dk_at dksX14_orders_1 4 rfl rfl)
theorem dX14_orders_28 : decode cX14_orders 28 = .ok (.invokevirtual 102, 3) := dk_182 0 102 (dk_at dksX14_orders_1 5 rfl rfl)
theorem dX14_orders_31 : decode cX14_orders 31 = .ok (.invokevirtual 105, 3) := dk_182 0 105 (dk_at dksX14_orders_1 8 rfl rfl)
theorem dX14_orders_34 : decode cX14_orders 34 = .ok (.pop, 1) := dk_87 (dk_at dksX14_orders_1 11 rfl rfl)
theorem dX14_orders_35 : decode cX14_orders 35 = .ok (.goto (-18), 3) := dk_167 255 238 (dk_at dksX14_orders_1 12 rfl rfl)
theorem dX14_orders_38 : decode cX14_orders 38 = .ok (.aload_n 0, 1) := dk_42 (dk_at dksX14_orders_1 15 rfl rfl)
theorem dX14_orders_39 : decode cX14_orders 39 = .ok (.aload_n 0, 1) := dk_42 (dk_at dksX14_orders_1 16 rfl rfl)
theorem dX14_orders_40 : decode cX14_orders 40 = .ok (.getfield 19, 3) := dk_180 0 19 (dk_at dksX14_orders_1 17 rfl rfl)
theorem dX14_orders_43 : decode cX14_orders 43 = .ok (.aload_n 0, 1) := dk_42 (dk_at dksX14_orders_1 20 rfl rfl)
theorem dX14_orders_44 : decode cX14_orders 44 = .ok (.getfield 15, 3) := dk_180 0 15 (dk_at dksX14_orders_1 21 rfl rfl)
theorem dX14_orders_47 : decode cX14_orders 47 = .ok (.invokeinterface 23 1, 5) := by decide +kernel
theorem dX14_orders_52 : decode cX14_orders 52 = .ok (.if_icmp .ne 7, 3) := dk_160 0 7 (dk_at dksX14_orders_2 5 rfl rfl)
theorem dX14_orders_55 : decode cX14_orders 55 = .ok (.iconst 1, 1) := dk_4 (dk_at dksX14_orders_2 8 rfl rfl)
theorem dX14_orders_56 : decode cX14_orders 56 = .ok (.goto 4, 3) := dk_167 0 4 (dk_at dksX14_orders_2 9 rfl rfl)
theorem dX14_orders_59 : decode cX14_orders 59 = .ok (.iconst 0, 1) := dk_3 (dk_at dksX14_orders_2 12 rfl rfl)
theorem dX14_orders_60 : decode cX14_orders 60 = .ok (.invokevirtual 49, 3) := dk_182 0 49 (dk_at dksX14_orders_2 13 rfl rfl)
theorem dX14_orders_63 : decode cX14_orders 63 = .ok (.aload_n 1, 1) := dk_43 (dk_at dksX14_orders_2 16 rfl rfl)
theorem dX14_orders_64 : decode cX14_orders 64 = .ok (.areturn, 1) := dk_176 (dk_at dksX14_orders_2 17 rfl rfl)
abbrev cX14_order : ByteArray := prog_14_method_15_code
def yX14_order : MethodName := ⟨RX14, "order", "()LStaffRailway$Deed;"⟩
def dkwX14_order_4 : List UInt8 := [182, 0, 96, 176]
abbrev dktX14_order_4 : List UInt8 := dkwX14_order_4 ++ []
def dkwX14_order_3 : List UInt8 := [16, 100, 182, 0, 53, 153, 0, 8, 42, 182, 0, 93, 176, 42, 42, 16, 99, 182, 0, 53, 182, 0, 49, 42]
abbrev dktX14_order_3 : List UInt8 := dkwX14_order_3 ++ dktX14_order_4
def dkwX14_order_2 : List UInt8 := [153, 0, 8, 42, 182, 0, 87, 176, 42, 16, 112, 182, 0, 53, 153, 0, 8, 42, 182, 0, 90, 176, 42]
abbrev dktX14_order_2 : List UInt8 := dkwX14_order_2 ++ dktX14_order_3
def dkwX14_order_1 : List UInt8 := [182, 0, 81, 176, 42, 16, 108, 182, 0, 53, 153, 0, 8, 42, 182, 0, 84, 176, 42, 16, 102, 182, 0, 53]
abbrev dktX14_order_1 : List UInt8 := dkwX14_order_1 ++ dktX14_order_2
def dkwX14_order_0 : List UInt8 := [42, 16, 115, 182, 0, 53, 153, 0, 8, 42, 182, 0, 77, 176, 42, 16, 119, 182, 0, 53, 153, 0, 8, 42]
abbrev dktX14_order_0 : List UInt8 := dkwX14_order_0 ++ dktX14_order_1
theorem dksX14_order_0 : cX14_order.data.toList.drop 0 = dktX14_order_0 := by decide +kernel
theorem dksX14_order_1 : cX14_order.data.toList.drop 24 = dktX14_order_1 := dk_seg dksX14_order_0 24 rfl rfl
theorem dksX14_order_2 : cX14_order.data.toList.drop 48 = dktX14_order_2 := dk_seg dksX14_order_1 24 rfl rfl
theorem dksX14_order_3 : cX14_order.data.toList.drop 71 = dktX14_order_3 := dk_seg dksX14_order_2 23 rfl rfl
theorem dksX14_order_4 : cX14_order.data.toList.drop 95 = dktX14_order_4 := dk_seg dksX14_order_3 24 rfl rfl
theorem dX14_order_0 : decode cX14_order 0 = .ok (.aload_n 0, 1) := dk_42 (dk_at dksX14_order_0 0 rfl rfl)
theorem dX14_order_1 : decode cX14_order 1 = .ok (.bipush 115, 2) := dk_16 115 (dk_at dksX14_order_0 1 rfl rfl)
theorem dX14_order_3 : decode cX14_order 3 = .ok (.invokevirtual 53, 3) := dk_182 0 53 (dk_at dksX14_order_0 3 rfl rfl)
theorem dX14_order_6 : decode cX14_order 6 = .ok (.ifCond .eq 8, 3) := dk_153 0 8 (dk_at dksX14_order_0 6 rfl rfl)
theorem dX14_order_9 : decode cX14_order 9 = .ok (.aload_n 0, 1) := dk_42 (dk_at dksX14_order_0 9 rfl rfl)
theorem dX14_order_10 : decode cX14_order 10 = .ok (.invokevirtual 77, 3) := dk_182 0 77 (dk_at dksX14_order_0 10 rfl rfl)
theorem dX14_order_13 : decode cX14_order 13 = .ok (.areturn, 1) := dk_176 (dk_at dksX14_order_0 13 rfl rfl)
theorem dX14_order_14 : decode cX14_order 14 = .ok (.aload_n 0, 1) := dk_42 (dk_at dksX14_order_0 14 rfl rfl)
theorem dX14_order_15 : decode cX14_order 15 = .ok (.bipush 119, 2) := dk_16 119 (dk_at dksX14_order_0 15 rfl rfl)
theorem dX14_order_17 : decode cX14_order 17 = .ok (.invokevirtual 53, 3) := dk_182 0 53 (dk_at dksX14_order_0 17 rfl rfl)
theorem dX14_order_20 : decode cX14_order 20 = .ok (.ifCond .eq 8, 3) := dk_153 0 8 (dk_at dksX14_order_0 20 rfl rfl)
theorem dX14_order_23 : decode cX14_order 23 = .ok (.aload_n 0, 1) := dk_42 (dk_at dksX14_order_0 23 rfl rfl)
theorem dX14_order_24 : decode cX14_order 24 = .ok (.invokevirtual 81, 3) := dk_182 0 81 (dk_at dksX14_order_1 0 rfl rfl)
theorem dX14_order_27 : decode cX14_order 27 = .ok (.areturn, 1) := dk_176 (dk_at dksX14_order_1 3 rfl rfl)
theorem dX14_order_28 : decode cX14_order 28 = .ok (.aload_n 0, 1) := dk_42 (dk_at dksX14_order_1 4 rfl rfl)
theorem dX14_order_29 : decode cX14_order 29 = .ok (.bipush 108, 2) := dk_16 108 (dk_at dksX14_order_1 5 rfl rfl)
theorem dX14_order_31 : decode cX14_order 31 = .ok (.invokevirtual 53, 3) := dk_182 0 53 (dk_at dksX14_order_1 7 rfl rfl)
theorem dX14_order_34 : decode cX14_order 34 = .ok (.ifCond .eq 8, 3) := dk_153 0 8 (dk_at dksX14_order_1 10 rfl rfl)
theorem dX14_order_37 : decode cX14_order 37 = .ok (.aload_n 0, 1) := dk_42 (dk_at dksX14_order_1 13 rfl rfl)
theorem dX14_order_38 : decode cX14_order 38 = .ok (.invokevirtual 84, 3) := dk_182 0 84 (dk_at dksX14_order_1 14 rfl rfl)
theorem dX14_order_41 : decode cX14_order 41 = .ok (.areturn, 1) := dk_176 (dk_at dksX14_order_1 17 rfl rfl)
theorem dX14_order_42 : decode cX14_order 42 = .ok (.aload_n 0, 1) := dk_42 (dk_at dksX14_order_1 18 rfl rfl)
theorem dX14_order_43 : decode cX14_order 43 = .ok (.bipush 102, 2) := dk_16 102 (dk_at dksX14_order_1 19 rfl rfl)
theorem dX14_order_45 : decode cX14_order 45 = .ok (.invokevirtual 53, 3) := dk_182 0 53 (dk_at dksX14_order_1 21 rfl rfl)
theorem dX14_order_48 : decode cX14_order 48 = .ok (.ifCond .eq 8, 3) := dk_153 0 8 (dk_at dksX14_order_2 0 rfl rfl)
theorem dX14_order_51 : decode cX14_order 51 = .ok (.aload_n 0, 1) := dk_42 (dk_at dksX14_order_2 3 rfl rfl)
theorem dX14_order_52 : decode cX14_order 52 = .ok (.invokevirtual 87, 3) := dk_182 0 87 (dk_at dksX14_order_2 4 rfl rfl)
theorem dX14_order_55 : decode cX14_order 55 = .ok (.areturn, 1) := dk_176 (dk_at dksX14_order_2 7 rfl rfl)
theorem dX14_order_56 : decode cX14_order 56 = .ok (.aload_n 0, 1) := dk_42 (dk_at dksX14_order_2 8 rfl rfl)
theorem dX14_order_57 : decode cX14_order 57 = .ok (.bipush 112, 2) := dk_16 112 (dk_at dksX14_order_2 9 rfl rfl)
theorem dX14_order_59 : decode cX14_order 59 = .ok (.invokevirtual 53, 3) := dk_182 0 53 (dk_at dksX14_order_2 11 rfl rfl)
theorem dX14_order_62 : decode cX14_order 62 = .ok (.ifCond .eq 8, 3) := dk_153 0 8 (dk_at dksX14_order_2 14 rfl rfl)
theorem dX14_order_65 : decode cX14_order 65 = .ok (.aload_n 0, 1) := dk_42 (dk_at dksX14_order_2 17 rfl rfl)
theorem dX14_order_66 : decode cX14_order 66 = .ok (.invokevirtual 90, 3) := dk_182 0 90 (dk_at dksX14_order_2 18 rfl rfl)
theorem dX14_order_69 : decode cX14_order 69 = .ok (.areturn, 1) := dk_176 (dk_at dksX14_order_2 21 rfl rfl)
theorem dX14_order_70 : decode cX14_order 70 = .ok (.aload_n 0, 1) := dk_42 (dk_at dksX14_order_2 22 rfl rfl)
theorem dX14_order_71 : decode cX14_order 71 = .ok (.bipush 100, 2) := dk_16 100 (dk_at dksX14_order_3 0 rfl rfl)
theorem dX14_order_73 : decode cX14_order 73 = .ok (.invokevirtual 53, 3) := dk_182 0 53 (dk_at dksX14_order_3 2 rfl rfl)
theorem dX14_order_76 : decode cX14_order 76 = .ok (.ifCond .eq 8, 3) := dk_153 0 8 (dk_at dksX14_order_3 5 rfl rfl)
theorem dX14_order_79 : decode cX14_order 79 = .ok (.aload_n 0, 1) := dk_42 (dk_at dksX14_order_3 8 rfl rfl)
theorem dX14_order_80 : decode cX14_order 80 = .ok (.invokevirtual 93, 3) := dk_182 0 93 (dk_at dksX14_order_3 9 rfl rfl)
theorem dX14_order_83 : decode cX14_order 83 = .ok (.areturn, 1) := dk_176 (dk_at dksX14_order_3 12 rfl rfl)
theorem dX14_order_84 : decode cX14_order 84 = .ok (.aload_n 0, 1) := dk_42 (dk_at dksX14_order_3 13 rfl rfl)
theorem dX14_order_85 : decode cX14_order 85 = .ok (.aload_n 0, 1) := dk_42 (dk_at dksX14_order_3 14 rfl rfl)
theorem dX14_order_86 : decode cX14_order 86 = .ok (.bipush 99, 2) := dk_16 99 (dk_at dksX14_order_3 15 rfl rfl)
theorem dX14_order_88 : decode cX14_order 88 = .ok (.invokevirtual 53, 3) := dk_182 0 53 (dk_at dksX14_order_3 17 rfl rfl)
theorem dX14_order_91 : decode cX14_order 91 = .ok (.invokevirtual 49, 3) := dk_182 0 49 (dk_at dksX14_order_3 20 rfl rfl)
theorem dX14_order_94 : decode cX14_order 94 = .ok (.aload_n 0, 1) := dk_42 (dk_at dksX14_order_3 23 rfl rfl)
theorem dX14_order_95 : decode cX14_order 95 = .ok (.invokevirtual 96, 3) := dk_182 0 96 (dk_at dksX14_order_4 0 rfl rfl)
theorem dX14_order_98 : decode cX14_order 98 = .ok (.areturn, 1) := dk_176 (dk_at dksX14_order_4 3 rfl rfl)
abbrev cX14_takes : ByteArray := prog_14_method_3_code
def yX14_takes : MethodName := ⟨RX14, "takes", "(I)Z"⟩
def dkwX14_takes_1 : List UInt8 := [167, 0, 4, 3, 96, 181, 0, 19, 28, 172]
abbrev dktX14_takes_1 : List UInt8 := dkwX14_takes_1 ++ []
def dkwX14_takes_0 : List UInt8 := [42, 182, 0, 33, 27, 160, 0, 7, 4, 167, 0, 4, 3, 61, 42, 89, 180, 0, 19, 28, 153, 0, 7, 4]
abbrev dktX14_takes_0 : List UInt8 := dkwX14_takes_0 ++ dktX14_takes_1
theorem dksX14_takes_0 : cX14_takes.data.toList.drop 0 = dktX14_takes_0 := by decide +kernel
theorem dksX14_takes_1 : cX14_takes.data.toList.drop 24 = dktX14_takes_1 := dk_seg dksX14_takes_0 24 rfl rfl
theorem dX14_takes_0 : decode cX14_takes 0 = .ok (.aload_n 0, 1) := dk_42 (dk_at dksX14_takes_0 0 rfl rfl)
theorem dX14_takes_1 : decode cX14_takes 1 = .ok (.invokevirtual 33, 3) := dk_182 0 33 (dk_at dksX14_takes_0 1 rfl rfl)
theorem dX14_takes_4 : decode cX14_takes 4 = .ok (.iload_n 1, 1) := dk_27 (dk_at dksX14_takes_0 4 rfl rfl)
theorem dX14_takes_5 : decode cX14_takes 5 = .ok (.if_icmp .ne 7, 3) := dk_160 0 7 (dk_at dksX14_takes_0 5 rfl rfl)
theorem dX14_takes_8 : decode cX14_takes 8 = .ok (.iconst 1, 1) := dk_4 (dk_at dksX14_takes_0 8 rfl rfl)
theorem dX14_takes_9 : decode cX14_takes 9 = .ok (.goto 4, 3) := dk_167 0 4 (dk_at dksX14_takes_0 9 rfl rfl)
theorem dX14_takes_12 : decode cX14_takes 12 = .ok (.iconst 0, 1) := dk_3 (dk_at dksX14_takes_0 12 rfl rfl)
theorem dX14_takes_13 : decode cX14_takes 13 = .ok (.istore_n 2, 1) := dk_61 (dk_at dksX14_takes_0 13 rfl rfl)
theorem dX14_takes_14 : decode cX14_takes 14 = .ok (.aload_n 0, 1) := dk_42 (dk_at dksX14_takes_0 14 rfl rfl)
theorem dX14_takes_15 : decode cX14_takes 15 = .ok (.dup, 1) := dk_89 (dk_at dksX14_takes_0 15 rfl rfl)
theorem dX14_takes_16 : decode cX14_takes 16 = .ok (.getfield 19, 3) := dk_180 0 19 (dk_at dksX14_takes_0 16 rfl rfl)
theorem dX14_takes_19 : decode cX14_takes 19 = .ok (.iload_n 2, 1) := dk_28 (dk_at dksX14_takes_0 19 rfl rfl)
theorem dX14_takes_20 : decode cX14_takes 20 = .ok (.ifCond .eq 7, 3) := dk_153 0 7 (dk_at dksX14_takes_0 20 rfl rfl)
theorem dX14_takes_23 : decode cX14_takes 23 = .ok (.iconst 1, 1) := dk_4 (dk_at dksX14_takes_0 23 rfl rfl)
theorem dX14_takes_24 : decode cX14_takes 24 = .ok (.goto 4, 3) := dk_167 0 4 (dk_at dksX14_takes_1 0 rfl rfl)
theorem dX14_takes_27 : decode cX14_takes 27 = .ok (.iconst 0, 1) := dk_3 (dk_at dksX14_takes_1 3 rfl rfl)
theorem dX14_takes_28 : decode cX14_takes 28 = .ok (.iadd, 1) := dk_96 (dk_at dksX14_takes_1 4 rfl rfl)
theorem dX14_takes_29 : decode cX14_takes 29 = .ok (.putfield 19, 3) := dk_181 0 19 (dk_at dksX14_takes_1 5 rfl rfl)
theorem dX14_takes_32 : decode cX14_takes 32 = .ok (.iload_n 2, 1) := dk_28 (dk_at dksX14_takes_1 8 rfl rfl)
theorem dX14_takes_33 : decode cX14_takes 33 = .ok (.ireturn, 1) := dk_172 (dk_at dksX14_takes_1 9 rfl rfl)
abbrev cX14_here : ByteArray := prog_14_method_2_code
def yX14_here : MethodName := ⟨RX14, "here", "()I"⟩
def dkwX14_here_1 : List UInt8 := [185, 0, 29, 2, 0, 167, 0, 4, 2, 172]
abbrev dktX14_here_1 : List UInt8 := dkwX14_here_1 ++ []
def dkwX14_here_0 : List UInt8 := [42, 180, 0, 19, 42, 180, 0, 15, 185, 0, 23, 1, 0, 162, 0, 19, 42, 180, 0, 15, 42, 180, 0, 19]
abbrev dktX14_here_0 : List UInt8 := dkwX14_here_0 ++ dktX14_here_1
theorem dksX14_here_0 : cX14_here.data.toList.drop 0 = dktX14_here_0 := by decide +kernel
theorem dksX14_here_1 : cX14_here.data.toList.drop 24 = dktX14_here_1 := dk_seg dksX14_here_0 24 rfl rfl
theorem dX14_here_0 : decode cX14_here 0 = .ok (.aload_n 0, 1) := dk_42 (dk_at dksX14_here_0 0 rfl rfl)
theorem dX14_here_1 : decode cX14_here 1 = .ok (.getfield 19, 3) := dk_180 0 19 (dk_at dksX14_here_0 1 rfl rfl)
theorem dX14_here_4 : decode cX14_here 4 = .ok (.aload_n 0, 1) := dk_42 (dk_at dksX14_here_0 4 rfl rfl)
theorem dX14_here_5 : decode cX14_here 5 = .ok (.getfield 15, 3) := dk_180 0 15 (dk_at dksX14_here_0 5 rfl rfl)
theorem dX14_here_8 : decode cX14_here 8 = .ok (.invokeinterface 23 1, 5) := by decide +kernel
theorem dX14_here_13 : decode cX14_here 13 = .ok (.if_icmp .ge 19, 3) := dk_162 0 19 (dk_at dksX14_here_0 13 rfl rfl)
theorem dX14_here_16 : decode cX14_here 16 = .ok (.aload_n 0, 1) := dk_42 (dk_at dksX14_here_0 16 rfl rfl)
theorem dX14_here_17 : decode cX14_here 17 = .ok (.getfield 15, 3) := dk_180 0 15 (dk_at dksX14_here_0 17 rfl rfl)
theorem dX14_here_20 : decode cX14_here 20 = .ok (.aload_n 0, 1) := dk_42 (dk_at dksX14_here_0 20 rfl rfl)
theorem dX14_here_21 : decode cX14_here 21 = .ok (.getfield 19, 3) := dk_180 0 19 (dk_at dksX14_here_0 21 rfl rfl)
theorem dX14_here_24 : decode cX14_here 24 = .ok (.invokeinterface 29 2, 5) := by decide +kernel
theorem dX14_here_29 : decode cX14_here 29 = .ok (.goto 4, 3) := dk_167 0 4 (dk_at dksX14_here_1 5 rfl rfl)
theorem dX14_here_32 : decode cX14_here 32 = .ok (.iconst (-1), 1) := dk_2 (dk_at dksX14_here_1 8 rfl rfl)
theorem dX14_here_33 : decode cX14_here 33 = .ok (.ireturn, 1) := dk_172 (dk_at dksX14_here_1 9 rfl rfl)
abbrev cX14_sends : ByteArray := prog_14_method_8_code
def yX14_sends : MethodName := ⟨RX14, "sends", "()LStaffRailway$Deed;"⟩
def dkwX14_sends_0 : List UInt8 := [42, 4, 182, 0, 57, 60, 42, 16, 62, 4, 182, 0, 61, 61, 27, 28, 186, 0, 65, 0, 0, 176]
abbrev dktX14_sends_0 : List UInt8 := dkwX14_sends_0 ++ []
theorem dksX14_sends_0 : cX14_sends.data.toList.drop 0 = dktX14_sends_0 := by decide +kernel
theorem dX14_sends_0 : decode cX14_sends 0 = .ok (.aload_n 0, 1) := dk_42 (dk_at dksX14_sends_0 0 rfl rfl)
theorem dX14_sends_1 : decode cX14_sends 1 = .ok (.iconst 1, 1) := dk_4 (dk_at dksX14_sends_0 1 rfl rfl)
theorem dX14_sends_2 : decode cX14_sends 2 = .ok (.invokevirtual 57, 3) := dk_182 0 57 (dk_at dksX14_sends_0 2 rfl rfl)
theorem dX14_sends_5 : decode cX14_sends 5 = .ok (.istore_n 1, 1) := dk_60 (dk_at dksX14_sends_0 5 rfl rfl)
theorem dX14_sends_6 : decode cX14_sends 6 = .ok (.aload_n 0, 1) := dk_42 (dk_at dksX14_sends_0 6 rfl rfl)
theorem dX14_sends_7 : decode cX14_sends 7 = .ok (.bipush 62, 2) := dk_16 62 (dk_at dksX14_sends_0 7 rfl rfl)
theorem dX14_sends_9 : decode cX14_sends 9 = .ok (.iconst 1, 1) := dk_4 (dk_at dksX14_sends_0 9 rfl rfl)
theorem dX14_sends_10 : decode cX14_sends 10 = .ok (.invokevirtual 61, 3) := dk_182 0 61 (dk_at dksX14_sends_0 10 rfl rfl)
theorem dX14_sends_13 : decode cX14_sends 13 = .ok (.istore_n 2, 1) := dk_61 (dk_at dksX14_sends_0 13 rfl rfl)
theorem dX14_sends_14 : decode cX14_sends 14 = .ok (.iload_n 1, 1) := dk_27 (dk_at dksX14_sends_0 14 rfl rfl)
theorem dX14_sends_15 : decode cX14_sends 15 = .ok (.iload_n 2, 1) := dk_28 (dk_at dksX14_sends_0 15 rfl rfl)
theorem dX14_sends_16 : decode cX14_sends 16 = .ok (.invokedynamic 65, 5) := by decide +kernel
theorem dX14_sends_21 : decode cX14_sends 21 = .ok (.areturn, 1) := dk_176 (dk_at dksX14_sends_0 21 rfl rfl)
abbrev cX14_number : ByteArray := prog_14_method_6_code
def yX14_number : MethodName := ⟨RX14, "number", "(I)I"⟩
def dkwX14_number_2 : List UInt8 := [132, 3, 1, 167, 255, 218, 28, 172]
abbrev dktX14_number_2 : List UInt8 := dkwX14_number_2 ++ []
def dkwX14_number_1 : List UInt8 := [16, 10, 28, 104, 42, 182, 0, 33, 96, 16, 48, 100, 61, 42, 89, 180, 0, 19, 4, 96, 181, 0, 19]
abbrev dktX14_number_1 : List UInt8 := dkwX14_number_1 ++ dktX14_number_2
def dkwX14_number_0 : List UInt8 := [42, 42, 182, 0, 45, 182, 0, 49, 3, 61, 3, 62, 29, 27, 162, 0, 39, 42, 182, 0, 45, 153, 0, 32]
abbrev dktX14_number_0 : List UInt8 := dkwX14_number_0 ++ dktX14_number_1
theorem dksX14_number_0 : cX14_number.data.toList.drop 0 = dktX14_number_0 := by decide +kernel
theorem dksX14_number_1 : cX14_number.data.toList.drop 24 = dktX14_number_1 := dk_seg dksX14_number_0 24 rfl rfl
theorem dksX14_number_2 : cX14_number.data.toList.drop 47 = dktX14_number_2 := dk_seg dksX14_number_1 23 rfl rfl
theorem dX14_number_0 : decode cX14_number 0 = .ok (.aload_n 0, 1) := dk_42 (dk_at dksX14_number_0 0 rfl rfl)
theorem dX14_number_1 : decode cX14_number 1 = .ok (.aload_n 0, 1) := dk_42 (dk_at dksX14_number_0 1 rfl rfl)
theorem dX14_number_2 : decode cX14_number 2 = .ok (.invokevirtual 45, 3) := dk_182 0 45 (dk_at dksX14_number_0 2 rfl rfl)
theorem dX14_number_5 : decode cX14_number 5 = .ok (.invokevirtual 49, 3) := dk_182 0 49 (dk_at dksX14_number_0 5 rfl rfl)
theorem dX14_number_8 : decode cX14_number 8 = .ok (.iconst 0, 1) := dk_3 (dk_at dksX14_number_0 8 rfl rfl)
theorem dX14_number_9 : decode cX14_number 9 = .ok (.istore_n 2, 1) := dk_61 (dk_at dksX14_number_0 9 rfl rfl)
theorem dX14_number_10 : decode cX14_number 10 = .ok (.iconst 0, 1) := dk_3 (dk_at dksX14_number_0 10 rfl rfl)
theorem dX14_number_11 : decode cX14_number 11 = .ok (.istore_n 3, 1) := dk_62 (dk_at dksX14_number_0 11 rfl rfl)
theorem dX14_number_12 : decode cX14_number 12 = .ok (.iload_n 3, 1) := dk_29 (dk_at dksX14_number_0 12 rfl rfl)
theorem dX14_number_13 : decode cX14_number 13 = .ok (.iload_n 1, 1) := dk_27 (dk_at dksX14_number_0 13 rfl rfl)
theorem dX14_number_14 : decode cX14_number 14 = .ok (.if_icmp .ge 39, 3) := dk_162 0 39 (dk_at dksX14_number_0 14 rfl rfl)
theorem dX14_number_17 : decode cX14_number 17 = .ok (.aload_n 0, 1) := dk_42 (dk_at dksX14_number_0 17 rfl rfl)
theorem dX14_number_18 : decode cX14_number 18 = .ok (.invokevirtual 45, 3) := dk_182 0 45 (dk_at dksX14_number_0 18 rfl rfl)
theorem dX14_number_21 : decode cX14_number 21 = .ok (.ifCond .eq 32, 3) := dk_153 0 32 (dk_at dksX14_number_0 21 rfl rfl)
theorem dX14_number_24 : decode cX14_number 24 = .ok (.bipush 10, 2) := dk_16 10 (dk_at dksX14_number_1 0 rfl rfl)
theorem dX14_number_26 : decode cX14_number 26 = .ok (.iload_n 2, 1) := dk_28 (dk_at dksX14_number_1 2 rfl rfl)
theorem dX14_number_27 : decode cX14_number 27 = .ok (.imul, 1) := dk_104 (dk_at dksX14_number_1 3 rfl rfl)
theorem dX14_number_28 : decode cX14_number 28 = .ok (.aload_n 0, 1) := dk_42 (dk_at dksX14_number_1 4 rfl rfl)
theorem dX14_number_29 : decode cX14_number 29 = .ok (.invokevirtual 33, 3) := dk_182 0 33 (dk_at dksX14_number_1 5 rfl rfl)
theorem dX14_number_32 : decode cX14_number 32 = .ok (.iadd, 1) := dk_96 (dk_at dksX14_number_1 8 rfl rfl)
theorem dX14_number_33 : decode cX14_number 33 = .ok (.bipush 48, 2) := dk_16 48 (dk_at dksX14_number_1 9 rfl rfl)
theorem dX14_number_35 : decode cX14_number 35 = .ok (.isub, 1) := dk_100 (dk_at dksX14_number_1 11 rfl rfl)
theorem dX14_number_36 : decode cX14_number 36 = .ok (.istore_n 2, 1) := dk_61 (dk_at dksX14_number_1 12 rfl rfl)
theorem dX14_number_37 : decode cX14_number 37 = .ok (.aload_n 0, 1) := dk_42 (dk_at dksX14_number_1 13 rfl rfl)
theorem dX14_number_38 : decode cX14_number 38 = .ok (.dup, 1) := dk_89 (dk_at dksX14_number_1 14 rfl rfl)
theorem dX14_number_39 : decode cX14_number 39 = .ok (.getfield 19, 3) := dk_180 0 19 (dk_at dksX14_number_1 15 rfl rfl)
theorem dX14_number_42 : decode cX14_number 42 = .ok (.iconst 1, 1) := dk_4 (dk_at dksX14_number_1 18 rfl rfl)
theorem dX14_number_43 : decode cX14_number 43 = .ok (.iadd, 1) := dk_96 (dk_at dksX14_number_1 19 rfl rfl)
theorem dX14_number_44 : decode cX14_number 44 = .ok (.putfield 19, 3) := dk_181 0 19 (dk_at dksX14_number_1 20 rfl rfl)
theorem dX14_number_47 : decode cX14_number 47 = .ok (.iinc 3 1, 3) := dk_132 3 1 (dk_at dksX14_number_2 0 rfl rfl)
theorem dX14_number_50 : decode cX14_number 50 = .ok (.goto (-38), 3) := dk_167 255 218 (dk_at dksX14_number_2 3 rfl rfl)
theorem dX14_number_53 : decode cX14_number 53 = .ok (.iload_n 2, 1) := dk_28 (dk_at dksX14_number_2 6 rfl rfl)
theorem dX14_number_54 : decode cX14_number 54 = .ok (.ireturn, 1) := dk_172 (dk_at dksX14_number_2 7 rfl rfl)
abbrev cX14_isDigit : ByteArray := prog_14_method_5_code
def yX14_isDigit : MethodName := ⟨RX14, "isDigit", "()Z"⟩
def dkwX14_isDigit_0 : List UInt8 := [42, 182, 0, 33, 16, 48, 16, 57, 184, 0, 41, 172]
abbrev dktX14_isDigit_0 : List UInt8 := dkwX14_isDigit_0 ++ []
theorem dksX14_isDigit_0 : cX14_isDigit.data.toList.drop 0 = dktX14_isDigit_0 := by decide +kernel
theorem dX14_isDigit_0 : decode cX14_isDigit 0 = .ok (.aload_n 0, 1) := dk_42 (dk_at dksX14_isDigit_0 0 rfl rfl)
theorem dX14_isDigit_1 : decode cX14_isDigit 1 = .ok (.invokevirtual 33, 3) := dk_182 0 33 (dk_at dksX14_isDigit_0 1 rfl rfl)
theorem dX14_isDigit_4 : decode cX14_isDigit 4 = .ok (.bipush 48, 2) := dk_16 48 (dk_at dksX14_isDigit_0 4 rfl rfl)
theorem dX14_isDigit_6 : decode cX14_isDigit 6 = .ok (.bipush 57, 2) := dk_16 57 (dk_at dksX14_isDigit_0 6 rfl rfl)
theorem dX14_isDigit_8 : decode cX14_isDigit 8 = .ok (.invokestatic 41, 3) := dk_184 0 41 (dk_at dksX14_isDigit_0 8 rfl rfl)
theorem dX14_isDigit_11 : decode cX14_isDigit 11 = .ok (.ireturn, 1) := dk_172 (dk_at dksX14_isDigit_0 11 rfl rfl)
abbrev cX14_needs : ByteArray := prog_14_method_4_code
def yX14_needs : MethodName := ⟨RX14, "needs", "(Z)V"⟩
def dkwX14_needs_0 : List UInt8 := [27, 154, 0, 15, 187, 0, 36, 89, 42, 180, 0, 19, 183, 0, 38, 191, 177]
abbrev dktX14_needs_0 : List UInt8 := dkwX14_needs_0 ++ []
theorem dksX14_needs_0 : cX14_needs.data.toList.drop 0 = dktX14_needs_0 := by decide +kernel
theorem dX14_needs_0 : decode cX14_needs 0 = .ok (.iload_n 1, 1) := dk_27 (dk_at dksX14_needs_0 0 rfl rfl)
theorem dX14_needs_1 : decode cX14_needs 1 = .ok (.ifCond .ne 15, 3) := dk_154 0 15 (dk_at dksX14_needs_0 1 rfl rfl)
theorem dX14_needs_4 : decode cX14_needs 4 = .ok (.new 36, 3) := dk_187 0 36 (dk_at dksX14_needs_0 4 rfl rfl)
theorem dX14_needs_7 : decode cX14_needs 7 = .ok (.dup, 1) := dk_89 (dk_at dksX14_needs_0 7 rfl rfl)
theorem dX14_needs_8 : decode cX14_needs 8 = .ok (.aload_n 0, 1) := dk_42 (dk_at dksX14_needs_0 8 rfl rfl)
theorem dX14_needs_9 : decode cX14_needs 9 = .ok (.getfield 19, 3) := dk_180 0 19 (dk_at dksX14_needs_0 9 rfl rfl)
theorem dX14_needs_12 : decode cX14_needs 12 = .ok (.invokespecial 38, 3) := dk_183 0 38 (dk_at dksX14_needs_0 12 rfl rfl)
theorem dX14_needs_15 : decode cX14_needs 15 = .ok (.athrow, 1) := dk_191 (dk_at dksX14_needs_0 15 rfl rfl)
theorem dX14_needs_16 : decode cX14_needs 16 = .ok (.return_, 1) := dk_177 (dk_at dksX14_needs_0 16 rfl rfl)
abbrev cX14_second : ByteArray := prog_14_method_7_code
def yX14_second : MethodName := ⟨RX14, "second", "(II)I"⟩
def dkwX14_second_0 : List UInt8 := [42, 42, 27, 182, 0, 53, 182, 0, 49, 42, 28, 182, 0, 57, 172]
abbrev dktX14_second_0 : List UInt8 := dkwX14_second_0 ++ []
theorem dksX14_second_0 : cX14_second.data.toList.drop 0 = dktX14_second_0 := by decide +kernel
theorem dX14_second_0 : decode cX14_second 0 = .ok (.aload_n 0, 1) := dk_42 (dk_at dksX14_second_0 0 rfl rfl)
theorem dX14_second_1 : decode cX14_second 1 = .ok (.aload_n 0, 1) := dk_42 (dk_at dksX14_second_0 1 rfl rfl)
theorem dX14_second_2 : decode cX14_second 2 = .ok (.iload_n 1, 1) := dk_27 (dk_at dksX14_second_0 2 rfl rfl)
theorem dX14_second_3 : decode cX14_second 3 = .ok (.invokevirtual 53, 3) := dk_182 0 53 (dk_at dksX14_second_0 3 rfl rfl)
theorem dX14_second_6 : decode cX14_second 6 = .ok (.invokevirtual 49, 3) := dk_182 0 49 (dk_at dksX14_second_0 6 rfl rfl)
theorem dX14_second_9 : decode cX14_second 9 = .ok (.aload_n 0, 1) := dk_42 (dk_at dksX14_second_0 9 rfl rfl)
theorem dX14_second_10 : decode cX14_second 10 = .ok (.iload_n 2, 1) := dk_28 (dk_at dksX14_second_0 10 rfl rfl)
theorem dX14_second_11 : decode cX14_second 11 = .ok (.invokevirtual 57, 3) := dk_182 0 57 (dk_at dksX14_second_0 11 rfl rfl)
theorem dX14_second_14 : decode cX14_second 14 = .ok (.ireturn, 1) := dk_172 (dk_at dksX14_second_0 14 rfl rfl)
abbrev cX14_lambda_sends_0 : ByteArray := prog_14_method_23_code
def yX14_lambda_sends_0 : MethodName := ⟨RX14, "lambda$sends$0", "(IILStaffRailway$Line;)I"⟩
def dkwX14_lambda_sends_0_0 : List UInt8 := [44, 26, 27, 182, 0, 138, 172]
abbrev dktX14_lambda_sends_0_0 : List UInt8 := dkwX14_lambda_sends_0_0 ++ []
theorem dksX14_lambda_sends_0_0 : cX14_lambda_sends_0.data.toList.drop 0 = dktX14_lambda_sends_0_0 := by decide +kernel
theorem dX14_lambda_sends_0_0 : decode cX14_lambda_sends_0 0 = .ok (.aload_n 2, 1) := dk_44 (dk_at dksX14_lambda_sends_0_0 0 rfl rfl)
theorem dX14_lambda_sends_0_1 : decode cX14_lambda_sends_0 1 = .ok (.iload_n 0, 1) := dk_26 (dk_at dksX14_lambda_sends_0_0 1 rfl rfl)
theorem dX14_lambda_sends_0_2 : decode cX14_lambda_sends_0 2 = .ok (.iload_n 1, 1) := dk_27 (dk_at dksX14_lambda_sends_0_0 2 rfl rfl)
theorem dX14_lambda_sends_0_3 : decode cX14_lambda_sends_0 3 = .ok (.invokevirtual 138, 3) := dk_182 0 138 (dk_at dksX14_lambda_sends_0_0 3 rfl rfl)
theorem dX14_lambda_sends_0_6 : decode cX14_lambda_sends_0 6 = .ok (.ireturn, 1) := dk_172 (dk_at dksX14_lambda_sends_0_0 6 rfl rfl)
abbrev cX14_passes : ByteArray := prog_14_method_9_code
def yX14_passes : MethodName := ⟨RX14, "passes", "()LStaffRailway$Deed;"⟩
def dkwX14_passes_0 : List UInt8 := [42, 5, 182, 0, 57, 60, 27, 186, 0, 69, 0, 0, 176]
abbrev dktX14_passes_0 : List UInt8 := dkwX14_passes_0 ++ []
theorem dksX14_passes_0 : cX14_passes.data.toList.drop 0 = dktX14_passes_0 := by decide +kernel
theorem dX14_passes_0 : decode cX14_passes 0 = .ok (.aload_n 0, 1) := dk_42 (dk_at dksX14_passes_0 0 rfl rfl)
theorem dX14_passes_1 : decode cX14_passes 1 = .ok (.iconst 2, 1) := dk_5 (dk_at dksX14_passes_0 1 rfl rfl)
theorem dX14_passes_2 : decode cX14_passes 2 = .ok (.invokevirtual 57, 3) := dk_182 0 57 (dk_at dksX14_passes_0 2 rfl rfl)
theorem dX14_passes_5 : decode cX14_passes 5 = .ok (.istore_n 1, 1) := dk_60 (dk_at dksX14_passes_0 5 rfl rfl)
theorem dX14_passes_6 : decode cX14_passes 6 = .ok (.iload_n 1, 1) := dk_27 (dk_at dksX14_passes_0 6 rfl rfl)
theorem dX14_passes_7 : decode cX14_passes 7 = .ok (.invokedynamic 69, 5) := by decide +kernel
theorem dX14_passes_12 : decode cX14_passes 12 = .ok (.areturn, 1) := dk_176 (dk_at dksX14_passes_0 12 rfl rfl)
abbrev cX14_lambda_passes_1 : ByteArray := prog_14_method_22_code
def yX14_lambda_passes_1 : MethodName := ⟨RX14, "lambda$passes$1", "(ILStaffRailway$Line;)I"⟩
def dkwX14_lambda_passes_1_1 : List UInt8 := [182, 0, 136, 172]
abbrev dktX14_lambda_passes_1_1 : List UInt8 := dkwX14_lambda_passes_1_1 ++ []
def dkwX14_lambda_passes_1_0 : List UInt8 := [26, 4, 16, 60, 184, 0, 41, 154, 0, 7, 4, 167, 0, 4, 3, 16, 19, 26, 184, 0, 115, 43, 26]
abbrev dktX14_lambda_passes_1_0 : List UInt8 := dkwX14_lambda_passes_1_0 ++ dktX14_lambda_passes_1_1
theorem dksX14_lambda_passes_1_0 : cX14_lambda_passes_1.data.toList.drop 0 = dktX14_lambda_passes_1_0 := by decide +kernel
theorem dksX14_lambda_passes_1_1 : cX14_lambda_passes_1.data.toList.drop 23 = dktX14_lambda_passes_1_1 := dk_seg dksX14_lambda_passes_1_0 23 rfl rfl
theorem dX14_lambda_passes_1_0 : decode cX14_lambda_passes_1 0 = .ok (.iload_n 0, 1) := dk_26 (dk_at dksX14_lambda_passes_1_0 0 rfl rfl)
theorem dX14_lambda_passes_1_1 : decode cX14_lambda_passes_1 1 = .ok (.iconst 1, 1) := dk_4 (dk_at dksX14_lambda_passes_1_0 1 rfl rfl)
theorem dX14_lambda_passes_1_2 : decode cX14_lambda_passes_1 2 = .ok (.bipush 60, 2) := dk_16 60 (dk_at dksX14_lambda_passes_1_0 2 rfl rfl)
theorem dX14_lambda_passes_1_4 : decode cX14_lambda_passes_1 4 = .ok (.invokestatic 41, 3) := dk_184 0 41 (dk_at dksX14_lambda_passes_1_0 4 rfl rfl)
theorem dX14_lambda_passes_1_7 : decode cX14_lambda_passes_1 7 = .ok (.ifCond .ne 7, 3) := dk_154 0 7 (dk_at dksX14_lambda_passes_1_0 7 rfl rfl)
theorem dX14_lambda_passes_1_10 : decode cX14_lambda_passes_1 10 = .ok (.iconst 1, 1) := dk_4 (dk_at dksX14_lambda_passes_1_0 10 rfl rfl)
theorem dX14_lambda_passes_1_11 : decode cX14_lambda_passes_1 11 = .ok (.goto 4, 3) := dk_167 0 4 (dk_at dksX14_lambda_passes_1_0 11 rfl rfl)
theorem dX14_lambda_passes_1_14 : decode cX14_lambda_passes_1 14 = .ok (.iconst 0, 1) := dk_3 (dk_at dksX14_lambda_passes_1_0 14 rfl rfl)
theorem dX14_lambda_passes_1_15 : decode cX14_lambda_passes_1 15 = .ok (.bipush 19, 2) := dk_16 19 (dk_at dksX14_lambda_passes_1_0 15 rfl rfl)
theorem dX14_lambda_passes_1_17 : decode cX14_lambda_passes_1 17 = .ok (.iload_n 0, 1) := dk_26 (dk_at dksX14_lambda_passes_1_0 17 rfl rfl)
theorem dX14_lambda_passes_1_18 : decode cX14_lambda_passes_1 18 = .ok (.invokestatic 115, 3) := dk_184 0 115 (dk_at dksX14_lambda_passes_1_0 18 rfl rfl)
theorem dX14_lambda_passes_1_21 : decode cX14_lambda_passes_1 21 = .ok (.aload_n 1, 1) := dk_43 (dk_at dksX14_lambda_passes_1_0 21 rfl rfl)
theorem dX14_lambda_passes_1_22 : decode cX14_lambda_passes_1 22 = .ok (.iload_n 0, 1) := dk_26 (dk_at dksX14_lambda_passes_1_0 22 rfl rfl)
theorem dX14_lambda_passes_1_23 : decode cX14_lambda_passes_1 23 = .ok (.invokevirtual 136, 3) := dk_182 0 136 (dk_at dksX14_lambda_passes_1_1 0 rfl rfl)
theorem dX14_lambda_passes_1_26 : decode cX14_lambda_passes_1 26 = .ok (.ireturn, 1) := dk_172 (dk_at dksX14_lambda_passes_1_1 3 rfl rfl)
abbrev cX14_loses : ByteArray := prog_14_method_10_code
def yX14_loses : MethodName := ⟨RX14, "loses", "()LStaffRailway$Deed;"⟩
def dkwX14_loses_0 : List UInt8 := [42, 4, 182, 0, 57, 60, 27, 186, 0, 72, 0, 0, 176]
abbrev dktX14_loses_0 : List UInt8 := dkwX14_loses_0 ++ []
theorem dksX14_loses_0 : cX14_loses.data.toList.drop 0 = dktX14_loses_0 := by decide +kernel
theorem dX14_loses_0 : decode cX14_loses 0 = .ok (.aload_n 0, 1) := dk_42 (dk_at dksX14_loses_0 0 rfl rfl)
theorem dX14_loses_1 : decode cX14_loses 1 = .ok (.iconst 1, 1) := dk_4 (dk_at dksX14_loses_0 1 rfl rfl)
theorem dX14_loses_2 : decode cX14_loses 2 = .ok (.invokevirtual 57, 3) := dk_182 0 57 (dk_at dksX14_loses_0 2 rfl rfl)
theorem dX14_loses_5 : decode cX14_loses 5 = .ok (.istore_n 1, 1) := dk_60 (dk_at dksX14_loses_0 5 rfl rfl)
theorem dX14_loses_6 : decode cX14_loses 6 = .ok (.iload_n 1, 1) := dk_27 (dk_at dksX14_loses_0 6 rfl rfl)
theorem dX14_loses_7 : decode cX14_loses 7 = .ok (.invokedynamic 72, 5) := by decide +kernel
theorem dX14_loses_12 : decode cX14_loses 12 = .ok (.areturn, 1) := dk_176 (dk_at dksX14_loses_0 12 rfl rfl)
abbrev cX14_lambda_loses_2 : ByteArray := prog_14_method_21_code
def yX14_lambda_loses_2 : MethodName := ⟨RX14, "lambda$loses$2", "(ILStaffRailway$Line;)I"⟩
def dkwX14_lambda_loses_2_0 : List UInt8 := [43, 26, 182, 0, 134, 172]
abbrev dktX14_lambda_loses_2_0 : List UInt8 := dkwX14_lambda_loses_2_0 ++ []
theorem dksX14_lambda_loses_2_0 : cX14_lambda_loses_2.data.toList.drop 0 = dktX14_lambda_loses_2_0 := by decide +kernel
theorem dX14_lambda_loses_2_0 : decode cX14_lambda_loses_2 0 = .ok (.aload_n 1, 1) := dk_43 (dk_at dksX14_lambda_loses_2_0 0 rfl rfl)
theorem dX14_lambda_loses_2_1 : decode cX14_lambda_loses_2 1 = .ok (.iload_n 0, 1) := dk_26 (dk_at dksX14_lambda_loses_2_0 1 rfl rfl)
theorem dX14_lambda_loses_2_2 : decode cX14_lambda_loses_2 2 = .ok (.invokevirtual 134, 3) := dk_182 0 134 (dk_at dksX14_lambda_loses_2_0 2 rfl rfl)
theorem dX14_lambda_loses_2_5 : decode cX14_lambda_loses_2 5 = .ok (.ireturn, 1) := dk_172 (dk_at dksX14_lambda_loses_2_0 5 rfl rfl)
abbrev cX14_finds : ByteArray := prog_14_method_11_code
def yX14_finds : MethodName := ⟨RX14, "finds", "()LStaffRailway$Deed;"⟩
def dkwX14_finds_0 : List UInt8 := [42, 4, 182, 0, 57, 60, 42, 16, 64, 4, 182, 0, 61, 61, 27, 28, 186, 0, 73, 0, 0, 176]
abbrev dktX14_finds_0 : List UInt8 := dkwX14_finds_0 ++ []
theorem dksX14_finds_0 : cX14_finds.data.toList.drop 0 = dktX14_finds_0 := by decide +kernel
theorem dX14_finds_0 : decode cX14_finds 0 = .ok (.aload_n 0, 1) := dk_42 (dk_at dksX14_finds_0 0 rfl rfl)
theorem dX14_finds_1 : decode cX14_finds 1 = .ok (.iconst 1, 1) := dk_4 (dk_at dksX14_finds_0 1 rfl rfl)
theorem dX14_finds_2 : decode cX14_finds 2 = .ok (.invokevirtual 57, 3) := dk_182 0 57 (dk_at dksX14_finds_0 2 rfl rfl)
theorem dX14_finds_5 : decode cX14_finds 5 = .ok (.istore_n 1, 1) := dk_60 (dk_at dksX14_finds_0 5 rfl rfl)
theorem dX14_finds_6 : decode cX14_finds 6 = .ok (.aload_n 0, 1) := dk_42 (dk_at dksX14_finds_0 6 rfl rfl)
theorem dX14_finds_7 : decode cX14_finds 7 = .ok (.bipush 64, 2) := dk_16 64 (dk_at dksX14_finds_0 7 rfl rfl)
theorem dX14_finds_9 : decode cX14_finds 9 = .ok (.iconst 1, 1) := dk_4 (dk_at dksX14_finds_0 9 rfl rfl)
theorem dX14_finds_10 : decode cX14_finds 10 = .ok (.invokevirtual 61, 3) := dk_182 0 61 (dk_at dksX14_finds_0 10 rfl rfl)
theorem dX14_finds_13 : decode cX14_finds 13 = .ok (.istore_n 2, 1) := dk_61 (dk_at dksX14_finds_0 13 rfl rfl)
theorem dX14_finds_14 : decode cX14_finds 14 = .ok (.iload_n 1, 1) := dk_27 (dk_at dksX14_finds_0 14 rfl rfl)
theorem dX14_finds_15 : decode cX14_finds 15 = .ok (.iload_n 2, 1) := dk_28 (dk_at dksX14_finds_0 15 rfl rfl)
theorem dX14_finds_16 : decode cX14_finds 16 = .ok (.invokedynamic 73, 5) := by decide +kernel
theorem dX14_finds_21 : decode cX14_finds 21 = .ok (.areturn, 1) := dk_176 (dk_at dksX14_finds_0 21 rfl rfl)
abbrev cX14_lambda_finds_3 : ByteArray := prog_14_method_20_code
def yX14_lambda_finds_3 : MethodName := ⟨RX14, "lambda$finds$3", "(IILStaffRailway$Line;)I"⟩
def dkwX14_lambda_finds_3_1 : List UInt8 := [184, 0, 115, 44, 26, 27, 182, 0, 132, 172]
abbrev dktX14_lambda_finds_3_1 : List UInt8 := dkwX14_lambda_finds_3_1 ++ []
def dkwX14_lambda_finds_3_0 : List UInt8 := [44, 26, 27, 182, 0, 125, 26, 27, 184, 0, 128, 154, 0, 7, 4, 167, 0, 4, 3, 16, 19, 27]
abbrev dktX14_lambda_finds_3_0 : List UInt8 := dkwX14_lambda_finds_3_0 ++ dktX14_lambda_finds_3_1
theorem dksX14_lambda_finds_3_0 : cX14_lambda_finds_3.data.toList.drop 0 = dktX14_lambda_finds_3_0 := by decide +kernel
theorem dksX14_lambda_finds_3_1 : cX14_lambda_finds_3.data.toList.drop 22 = dktX14_lambda_finds_3_1 := dk_seg dksX14_lambda_finds_3_0 22 rfl rfl
theorem dX14_lambda_finds_3_0 : decode cX14_lambda_finds_3 0 = .ok (.aload_n 2, 1) := dk_44 (dk_at dksX14_lambda_finds_3_0 0 rfl rfl)
theorem dX14_lambda_finds_3_1 : decode cX14_lambda_finds_3 1 = .ok (.iload_n 0, 1) := dk_26 (dk_at dksX14_lambda_finds_3_0 1 rfl rfl)
theorem dX14_lambda_finds_3_2 : decode cX14_lambda_finds_3 2 = .ok (.iload_n 1, 1) := dk_27 (dk_at dksX14_lambda_finds_3_0 2 rfl rfl)
theorem dX14_lambda_finds_3_3 : decode cX14_lambda_finds_3 3 = .ok (.invokevirtual 125, 3) := dk_182 0 125 (dk_at dksX14_lambda_finds_3_0 3 rfl rfl)
theorem dX14_lambda_finds_3_6 : decode cX14_lambda_finds_3 6 = .ok (.iload_n 0, 1) := dk_26 (dk_at dksX14_lambda_finds_3_0 6 rfl rfl)
theorem dX14_lambda_finds_3_7 : decode cX14_lambda_finds_3 7 = .ok (.iload_n 1, 1) := dk_27 (dk_at dksX14_lambda_finds_3_0 7 rfl rfl)
theorem dX14_lambda_finds_3_8 : decode cX14_lambda_finds_3 8 = .ok (.invokestatic 128, 3) := dk_184 0 128 (dk_at dksX14_lambda_finds_3_0 8 rfl rfl)
theorem dX14_lambda_finds_3_11 : decode cX14_lambda_finds_3 11 = .ok (.ifCond .ne 7, 3) := dk_154 0 7 (dk_at dksX14_lambda_finds_3_0 11 rfl rfl)
theorem dX14_lambda_finds_3_14 : decode cX14_lambda_finds_3 14 = .ok (.iconst 1, 1) := dk_4 (dk_at dksX14_lambda_finds_3_0 14 rfl rfl)
theorem dX14_lambda_finds_3_15 : decode cX14_lambda_finds_3 15 = .ok (.goto 4, 3) := dk_167 0 4 (dk_at dksX14_lambda_finds_3_0 15 rfl rfl)
theorem dX14_lambda_finds_3_18 : decode cX14_lambda_finds_3 18 = .ok (.iconst 0, 1) := dk_3 (dk_at dksX14_lambda_finds_3_0 18 rfl rfl)
theorem dX14_lambda_finds_3_19 : decode cX14_lambda_finds_3 19 = .ok (.bipush 19, 2) := dk_16 19 (dk_at dksX14_lambda_finds_3_0 19 rfl rfl)
theorem dX14_lambda_finds_3_21 : decode cX14_lambda_finds_3 21 = .ok (.iload_n 1, 1) := dk_27 (dk_at dksX14_lambda_finds_3_0 21 rfl rfl)
theorem dX14_lambda_finds_3_22 : decode cX14_lambda_finds_3 22 = .ok (.invokestatic 115, 3) := dk_184 0 115 (dk_at dksX14_lambda_finds_3_1 0 rfl rfl)
theorem dX14_lambda_finds_3_25 : decode cX14_lambda_finds_3 25 = .ok (.aload_n 2, 1) := dk_44 (dk_at dksX14_lambda_finds_3_1 3 rfl rfl)
theorem dX14_lambda_finds_3_26 : decode cX14_lambda_finds_3 26 = .ok (.iload_n 0, 1) := dk_26 (dk_at dksX14_lambda_finds_3_1 4 rfl rfl)
theorem dX14_lambda_finds_3_27 : decode cX14_lambda_finds_3 27 = .ok (.iload_n 1, 1) := dk_27 (dk_at dksX14_lambda_finds_3_1 5 rfl rfl)
theorem dX14_lambda_finds_3_28 : decode cX14_lambda_finds_3 28 = .ok (.invokevirtual 132, 3) := dk_182 0 132 (dk_at dksX14_lambda_finds_3_1 6 rfl rfl)
theorem dX14_lambda_finds_3_31 : decode cX14_lambda_finds_3 31 = .ok (.ireturn, 1) := dk_172 (dk_at dksX14_lambda_finds_3_1 9 rfl rfl)
abbrev cX14_appoints : ByteArray := prog_14_method_12_code
def yX14_appoints : MethodName := ⟨RX14, "appoints", "()LStaffRailway$Deed;"⟩
def dkwX14_appoints_0 : List UInt8 := [42, 4, 182, 0, 57, 60, 42, 16, 47, 4, 182, 0, 61, 61, 27, 28, 186, 0, 74, 0, 0, 176]
abbrev dktX14_appoints_0 : List UInt8 := dkwX14_appoints_0 ++ []
theorem dksX14_appoints_0 : cX14_appoints.data.toList.drop 0 = dktX14_appoints_0 := by decide +kernel
theorem dX14_appoints_0 : decode cX14_appoints 0 = .ok (.aload_n 0, 1) := dk_42 (dk_at dksX14_appoints_0 0 rfl rfl)
theorem dX14_appoints_1 : decode cX14_appoints 1 = .ok (.iconst 1, 1) := dk_4 (dk_at dksX14_appoints_0 1 rfl rfl)
theorem dX14_appoints_2 : decode cX14_appoints 2 = .ok (.invokevirtual 57, 3) := dk_182 0 57 (dk_at dksX14_appoints_0 2 rfl rfl)
theorem dX14_appoints_5 : decode cX14_appoints 5 = .ok (.istore_n 1, 1) := dk_60 (dk_at dksX14_appoints_0 5 rfl rfl)
theorem dX14_appoints_6 : decode cX14_appoints 6 = .ok (.aload_n 0, 1) := dk_42 (dk_at dksX14_appoints_0 6 rfl rfl)
theorem dX14_appoints_7 : decode cX14_appoints 7 = .ok (.bipush 47, 2) := dk_16 47 (dk_at dksX14_appoints_0 7 rfl rfl)
theorem dX14_appoints_9 : decode cX14_appoints 9 = .ok (.iconst 1, 1) := dk_4 (dk_at dksX14_appoints_0 9 rfl rfl)
theorem dX14_appoints_10 : decode cX14_appoints 10 = .ok (.invokevirtual 61, 3) := dk_182 0 61 (dk_at dksX14_appoints_0 10 rfl rfl)
theorem dX14_appoints_13 : decode cX14_appoints 13 = .ok (.istore_n 2, 1) := dk_61 (dk_at dksX14_appoints_0 13 rfl rfl)
theorem dX14_appoints_14 : decode cX14_appoints 14 = .ok (.iload_n 1, 1) := dk_27 (dk_at dksX14_appoints_0 14 rfl rfl)
theorem dX14_appoints_15 : decode cX14_appoints 15 = .ok (.iload_n 2, 1) := dk_28 (dk_at dksX14_appoints_0 15 rfl rfl)
theorem dX14_appoints_16 : decode cX14_appoints 16 = .ok (.invokedynamic 74, 5) := by decide +kernel
theorem dX14_appoints_21 : decode cX14_appoints 21 = .ok (.areturn, 1) := dk_176 (dk_at dksX14_appoints_0 21 rfl rfl)
abbrev cX14_lambda_appoints_4 : ByteArray := prog_14_method_19_code
def yX14_lambda_appoints_4 : MethodName := ⟨RX14, "lambda$appoints$4", "(IILStaffRailway$Line;)I"⟩
def dkwX14_lambda_appoints_4_0 : List UInt8 := [44, 26, 27, 182, 0, 123, 172]
abbrev dktX14_lambda_appoints_4_0 : List UInt8 := dkwX14_lambda_appoints_4_0 ++ []
theorem dksX14_lambda_appoints_4_0 : cX14_lambda_appoints_4.data.toList.drop 0 = dktX14_lambda_appoints_4_0 := by decide +kernel
theorem dX14_lambda_appoints_4_0 : decode cX14_lambda_appoints_4 0 = .ok (.aload_n 2, 1) := dk_44 (dk_at dksX14_lambda_appoints_4_0 0 rfl rfl)
theorem dX14_lambda_appoints_4_1 : decode cX14_lambda_appoints_4 1 = .ok (.iload_n 0, 1) := dk_26 (dk_at dksX14_lambda_appoints_4_0 1 rfl rfl)
theorem dX14_lambda_appoints_4_2 : decode cX14_lambda_appoints_4 2 = .ok (.iload_n 1, 1) := dk_27 (dk_at dksX14_lambda_appoints_4_0 2 rfl rfl)
theorem dX14_lambda_appoints_4_3 : decode cX14_lambda_appoints_4 3 = .ok (.invokevirtual 123, 3) := dk_182 0 123 (dk_at dksX14_lambda_appoints_4_0 3 rfl rfl)
theorem dX14_lambda_appoints_4_6 : decode cX14_lambda_appoints_4 6 = .ok (.ireturn, 1) := dk_172 (dk_at dksX14_lambda_appoints_4_0 6 rfl rfl)
abbrev cX14_divides : ByteArray := prog_14_method_13_code
def yX14_divides : MethodName := ⟨RX14, "divides", "()LStaffRailway$Deed;"⟩
def dkwX14_divides_0 : List UInt8 := [42, 4, 182, 0, 57, 60, 42, 16, 58, 5, 182, 0, 61, 61, 27, 28, 186, 0, 75, 0, 0, 176]
abbrev dktX14_divides_0 : List UInt8 := dkwX14_divides_0 ++ []
theorem dksX14_divides_0 : cX14_divides.data.toList.drop 0 = dktX14_divides_0 := by decide +kernel
theorem dX14_divides_0 : decode cX14_divides 0 = .ok (.aload_n 0, 1) := dk_42 (dk_at dksX14_divides_0 0 rfl rfl)
theorem dX14_divides_1 : decode cX14_divides 1 = .ok (.iconst 1, 1) := dk_4 (dk_at dksX14_divides_0 1 rfl rfl)
theorem dX14_divides_2 : decode cX14_divides 2 = .ok (.invokevirtual 57, 3) := dk_182 0 57 (dk_at dksX14_divides_0 2 rfl rfl)
theorem dX14_divides_5 : decode cX14_divides 5 = .ok (.istore_n 1, 1) := dk_60 (dk_at dksX14_divides_0 5 rfl rfl)
theorem dX14_divides_6 : decode cX14_divides 6 = .ok (.aload_n 0, 1) := dk_42 (dk_at dksX14_divides_0 6 rfl rfl)
theorem dX14_divides_7 : decode cX14_divides 7 = .ok (.bipush 58, 2) := dk_16 58 (dk_at dksX14_divides_0 7 rfl rfl)
theorem dX14_divides_9 : decode cX14_divides 9 = .ok (.iconst 2, 1) := dk_5 (dk_at dksX14_divides_0 9 rfl rfl)
theorem dX14_divides_10 : decode cX14_divides 10 = .ok (.invokevirtual 61, 3) := dk_182 0 61 (dk_at dksX14_divides_0 10 rfl rfl)
theorem dX14_divides_13 : decode cX14_divides 13 = .ok (.istore_n 2, 1) := dk_61 (dk_at dksX14_divides_0 13 rfl rfl)
theorem dX14_divides_14 : decode cX14_divides 14 = .ok (.iload_n 1, 1) := dk_27 (dk_at dksX14_divides_0 14 rfl rfl)
theorem dX14_divides_15 : decode cX14_divides 15 = .ok (.iload_n 2, 1) := dk_28 (dk_at dksX14_divides_0 15 rfl rfl)
theorem dX14_divides_16 : decode cX14_divides 16 = .ok (.invokedynamic 75, 5) := by decide +kernel
theorem dX14_divides_21 : decode cX14_divides 21 = .ok (.areturn, 1) := dk_176 (dk_at dksX14_divides_0 21 rfl rfl)
abbrev cX14_lambda_divides_5 : ByteArray := prog_14_method_18_code
def yX14_lambda_divides_5 : MethodName := ⟨RX14, "lambda$divides$5", "(IILStaffRailway$Line;)I"⟩
def dkwX14_lambda_divides_5_0 : List UInt8 := [44, 26, 27, 182, 0, 121, 172]
abbrev dktX14_lambda_divides_5_0 : List UInt8 := dkwX14_lambda_divides_5_0 ++ []
theorem dksX14_lambda_divides_5_0 : cX14_lambda_divides_5.data.toList.drop 0 = dktX14_lambda_divides_5_0 := by decide +kernel
theorem dX14_lambda_divides_5_0 : decode cX14_lambda_divides_5 0 = .ok (.aload_n 2, 1) := dk_44 (dk_at dksX14_lambda_divides_5_0 0 rfl rfl)
theorem dX14_lambda_divides_5_1 : decode cX14_lambda_divides_5 1 = .ok (.iload_n 0, 1) := dk_26 (dk_at dksX14_lambda_divides_5_0 1 rfl rfl)
theorem dX14_lambda_divides_5_2 : decode cX14_lambda_divides_5 2 = .ok (.iload_n 1, 1) := dk_27 (dk_at dksX14_lambda_divides_5_0 2 rfl rfl)
theorem dX14_lambda_divides_5_3 : decode cX14_lambda_divides_5 3 = .ok (.invokevirtual 121, 3) := dk_182 0 121 (dk_at dksX14_lambda_divides_5_0 3 rfl rfl)
theorem dX14_lambda_divides_5_6 : decode cX14_lambda_divides_5 6 = .ok (.ireturn, 1) := dk_172 (dk_at dksX14_lambda_divides_5_0 6 rfl rfl)
abbrev cX14_couples : ByteArray := prog_14_method_14_code
def yX14_couples : MethodName := ⟨RX14, "couples", "()LStaffRailway$Deed;"⟩
def dkwX14_couples_0 : List UInt8 := [42, 4, 182, 0, 57, 60, 42, 16, 43, 4, 182, 0, 61, 61, 27, 28, 186, 0, 76, 0, 0, 176]
abbrev dktX14_couples_0 : List UInt8 := dkwX14_couples_0 ++ []
theorem dksX14_couples_0 : cX14_couples.data.toList.drop 0 = dktX14_couples_0 := by decide +kernel
theorem dX14_couples_0 : decode cX14_couples 0 = .ok (.aload_n 0, 1) := dk_42 (dk_at dksX14_couples_0 0 rfl rfl)
theorem dX14_couples_1 : decode cX14_couples 1 = .ok (.iconst 1, 1) := dk_4 (dk_at dksX14_couples_0 1 rfl rfl)
theorem dX14_couples_2 : decode cX14_couples 2 = .ok (.invokevirtual 57, 3) := dk_182 0 57 (dk_at dksX14_couples_0 2 rfl rfl)
theorem dX14_couples_5 : decode cX14_couples 5 = .ok (.istore_n 1, 1) := dk_60 (dk_at dksX14_couples_0 5 rfl rfl)
theorem dX14_couples_6 : decode cX14_couples 6 = .ok (.aload_n 0, 1) := dk_42 (dk_at dksX14_couples_0 6 rfl rfl)
theorem dX14_couples_7 : decode cX14_couples 7 = .ok (.bipush 43, 2) := dk_16 43 (dk_at dksX14_couples_0 7 rfl rfl)
theorem dX14_couples_9 : decode cX14_couples 9 = .ok (.iconst 1, 1) := dk_4 (dk_at dksX14_couples_0 9 rfl rfl)
theorem dX14_couples_10 : decode cX14_couples 10 = .ok (.invokevirtual 61, 3) := dk_182 0 61 (dk_at dksX14_couples_0 10 rfl rfl)
theorem dX14_couples_13 : decode cX14_couples 13 = .ok (.istore_n 2, 1) := dk_61 (dk_at dksX14_couples_0 13 rfl rfl)
theorem dX14_couples_14 : decode cX14_couples 14 = .ok (.iload_n 1, 1) := dk_27 (dk_at dksX14_couples_0 14 rfl rfl)
theorem dX14_couples_15 : decode cX14_couples 15 = .ok (.iload_n 2, 1) := dk_28 (dk_at dksX14_couples_0 15 rfl rfl)
theorem dX14_couples_16 : decode cX14_couples 16 = .ok (.invokedynamic 76, 5) := by decide +kernel
theorem dX14_couples_21 : decode cX14_couples 21 = .ok (.areturn, 1) := dk_176 (dk_at dksX14_couples_0 21 rfl rfl)
abbrev cX14_lambda_couples_6 : ByteArray := prog_14_method_17_code
def yX14_lambda_couples_6 : MethodName := ⟨RX14, "lambda$couples$6", "(IILStaffRailway$Line;)I"⟩
def dkwX14_lambda_couples_6_1 : List UInt8 := [27, 182, 0, 119, 172]
abbrev dktX14_lambda_couples_6_1 : List UInt8 := dkwX14_lambda_couples_6_1 ++ []
def dkwX14_lambda_couples_6_0 : List UInt8 := [44, 26, 27, 182, 0, 109, 26, 27, 160, 0, 7, 4, 167, 0, 4, 3, 16, 19, 27, 184, 0, 115, 44, 26]
abbrev dktX14_lambda_couples_6_0 : List UInt8 := dkwX14_lambda_couples_6_0 ++ dktX14_lambda_couples_6_1
theorem dksX14_lambda_couples_6_0 : cX14_lambda_couples_6.data.toList.drop 0 = dktX14_lambda_couples_6_0 := by decide +kernel
theorem dksX14_lambda_couples_6_1 : cX14_lambda_couples_6.data.toList.drop 24 = dktX14_lambda_couples_6_1 := dk_seg dksX14_lambda_couples_6_0 24 rfl rfl
theorem dX14_lambda_couples_6_0 : decode cX14_lambda_couples_6 0 = .ok (.aload_n 2, 1) := dk_44 (dk_at dksX14_lambda_couples_6_0 0 rfl rfl)
theorem dX14_lambda_couples_6_1 : decode cX14_lambda_couples_6 1 = .ok (.iload_n 0, 1) := dk_26 (dk_at dksX14_lambda_couples_6_0 1 rfl rfl)
theorem dX14_lambda_couples_6_2 : decode cX14_lambda_couples_6 2 = .ok (.iload_n 1, 1) := dk_27 (dk_at dksX14_lambda_couples_6_0 2 rfl rfl)
theorem dX14_lambda_couples_6_3 : decode cX14_lambda_couples_6 3 = .ok (.invokevirtual 109, 3) := dk_182 0 109 (dk_at dksX14_lambda_couples_6_0 3 rfl rfl)
theorem dX14_lambda_couples_6_6 : decode cX14_lambda_couples_6 6 = .ok (.iload_n 0, 1) := dk_26 (dk_at dksX14_lambda_couples_6_0 6 rfl rfl)
theorem dX14_lambda_couples_6_7 : decode cX14_lambda_couples_6 7 = .ok (.iload_n 1, 1) := dk_27 (dk_at dksX14_lambda_couples_6_0 7 rfl rfl)
theorem dX14_lambda_couples_6_8 : decode cX14_lambda_couples_6 8 = .ok (.if_icmp .ne 7, 3) := dk_160 0 7 (dk_at dksX14_lambda_couples_6_0 8 rfl rfl)
theorem dX14_lambda_couples_6_11 : decode cX14_lambda_couples_6 11 = .ok (.iconst 1, 1) := dk_4 (dk_at dksX14_lambda_couples_6_0 11 rfl rfl)
theorem dX14_lambda_couples_6_12 : decode cX14_lambda_couples_6 12 = .ok (.goto 4, 3) := dk_167 0 4 (dk_at dksX14_lambda_couples_6_0 12 rfl rfl)
theorem dX14_lambda_couples_6_15 : decode cX14_lambda_couples_6 15 = .ok (.iconst 0, 1) := dk_3 (dk_at dksX14_lambda_couples_6_0 15 rfl rfl)
theorem dX14_lambda_couples_6_16 : decode cX14_lambda_couples_6 16 = .ok (.bipush 19, 2) := dk_16 19 (dk_at dksX14_lambda_couples_6_0 16 rfl rfl)
theorem dX14_lambda_couples_6_18 : decode cX14_lambda_couples_6 18 = .ok (.iload_n 1, 1) := dk_27 (dk_at dksX14_lambda_couples_6_0 18 rfl rfl)
theorem dX14_lambda_couples_6_19 : decode cX14_lambda_couples_6 19 = .ok (.invokestatic 115, 3) := dk_184 0 115 (dk_at dksX14_lambda_couples_6_0 19 rfl rfl)
theorem dX14_lambda_couples_6_22 : decode cX14_lambda_couples_6 22 = .ok (.aload_n 2, 1) := dk_44 (dk_at dksX14_lambda_couples_6_0 22 rfl rfl)
theorem dX14_lambda_couples_6_23 : decode cX14_lambda_couples_6 23 = .ok (.iload_n 0, 1) := dk_26 (dk_at dksX14_lambda_couples_6_0 23 rfl rfl)
theorem dX14_lambda_couples_6_24 : decode cX14_lambda_couples_6 24 = .ok (.iload_n 1, 1) := dk_27 (dk_at dksX14_lambda_couples_6_1 0 rfl rfl)
theorem dX14_lambda_couples_6_25 : decode cX14_lambda_couples_6 25 = .ok (.invokevirtual 119, 3) := dk_182 0 119 (dk_at dksX14_lambda_couples_6_1 1 rfl rfl)
theorem dX14_lambda_couples_6_28 : decode cX14_lambda_couples_6 28 = .ok (.ireturn, 1) := dk_172 (dk_at dksX14_lambda_couples_6_1 4 rfl rfl)
theorem q136 : (Jvm.Cond.initialized "StaffRailway$Reader") ∈ lw_all := lw_g (lw_at lw_m1 43 rfl) rfl
theorem q1017 : (Jvm.Cond.selects "StaffRailway$Reader" ({ cls := "java/lang/Object", name := "getClass", desc := "()Ljava/lang/Class;" } : Jvm.MethodName) ({ cls := "java/lang/Object", name := "getClass", desc := "()Ljava/lang/Class;" } : Jvm.MethodName)) ∈ lw_all := lw_g (lw_at lw_m4 204 rfl) rfl
theorem q1825 : (Jvm.Cond.instantiable "StaffRailway$Reader" (3 : Nat)) ∈ lw_all := lw_g (lw_at lw_m8 52 rfl) rfl
theorem q1827 : (Jvm.Cond.instanceMethod ({ cls := "StaffRailway$Reader", name := "<init>", desc := "(LStaffRailway;Ljava/lang/CharSequence;)V" } : Jvm.MethodName)) ∈ lw_all := lw_g (lw_at lw_m8 54 rfl) rfl
theorem q1828 : (Jvm.Cond.code ({ cls := "StaffRailway$Reader", name := "<init>", desc := "(LStaffRailway;Ljava/lang/CharSequence;)V" } : Jvm.MethodName) prog_14_method_1_code (3 : Nat) (Option.none : Option Jvm.ClassFile.FieldType)) ∈ lw_all := lw_g (lw_at lw_m8 55 rfl) rfl
theorem q1829 : (Jvm.Cond.methodLink "StaffRailway$Reader" (9 : Nat) ({ cls := "java/lang/Object", name := "<init>", desc := "()V" } : Jvm.MethodName)) ∈ lw_all := lw_g (lw_at lw_m8 56 rfl) rfl
theorem q1830 : (Jvm.Cond.fieldLink "StaffRailway$Reader" (15 : Nat) "StaffRailway$Reader" "text" "Ljava/lang/CharSequence;") ∈ lw_all := lw_g (lw_at lw_m8 57 rfl) rfl
theorem q1831 : (Jvm.Cond.fieldLink "StaffRailway$Reader" (19 : Nat) "StaffRailway$Reader" "at" "I") ∈ lw_all := lw_g (lw_at lw_m8 58 rfl) rfl
theorem q1832 : (Jvm.Cond.fieldLink "StaffRailway$Reader" (3 : Nat) "StaffRailway$Reader" "this$0" "LStaffRailway;") ∈ lw_all := lw_g (lw_at lw_m8 59 rfl) rfl
theorem q1833 : (Jvm.Cond.laysFinal "StaffRailway$Reader" "StaffRailway$Reader" "text" "Ljava/lang/CharSequence;") ∈ lw_all := lw_g (lw_at lw_m8 60 rfl) rfl
theorem q1834 : (Jvm.Cond.soleField "StaffRailway$Reader" "text") ∈ lw_all := lw_g (lw_at lw_m8 61 rfl) rfl
theorem q1835 : (Jvm.Cond.lays "StaffRailway$Reader" "StaffRailway$Reader" "at" "I") ∈ lw_all := lw_g (lw_at lw_m8 62 rfl) rfl
theorem q1836 : (Jvm.Cond.soleField "StaffRailway$Reader" "at") ∈ lw_all := lw_g (lw_at lw_m8 63 rfl) rfl
theorem q1837 : (Jvm.Cond.laysFinal "StaffRailway$Reader" "StaffRailway$Reader" "this$0" "LStaffRailway;") ∈ lw_all := lw_g (lw_at lw_m8 64 rfl) rfl
theorem q1838 : (Jvm.Cond.soleField "StaffRailway$Reader" "this$0") ∈ lw_all := lw_g (lw_at lw_m8 65 rfl) rfl
theorem q1839 : (Jvm.Cond.superclass "StaffRailway$Reader" "java/lang/Object") ∈ lw_all := lw_g (lw_at lw_m8 66 rfl) rfl
theorem q1841 : (Jvm.Cond.instanceMethod ({ cls := "StaffRailway$Reader", name := "orders", desc := "()Ljava/util/ArrayList;" } : Jvm.MethodName)) ∈ lw_all := lw_g (lw_at lw_m8 68 rfl) rfl
theorem q1842 : (Jvm.Cond.selects "StaffRailway$Reader" ({ cls := "StaffRailway$Reader", name := "orders", desc := "()Ljava/util/ArrayList;" } : Jvm.MethodName) ({ cls := "StaffRailway$Reader", name := "orders", desc := "()Ljava/util/ArrayList;" } : Jvm.MethodName)) ∈ lw_all := lw_g (lw_at lw_m8 69 rfl) rfl
theorem q1843 : (Jvm.Cond.code ({ cls := "StaffRailway$Reader", name := "orders", desc := "()Ljava/util/ArrayList;" } : Jvm.MethodName) prog_14_method_16_code (2 : Nat) (Option.some (Jvm.ClassFile.FieldType.object "java/util/ArrayList"))) ∈ lw_all := lw_g (lw_at lw_m8 70 rfl) rfl
theorem q1844 : (Jvm.Cond.classLink "StaffRailway$Reader" (99 : Nat) "java/util/ArrayList") ∈ lw_all := lw_g (lw_at lw_m8 71 rfl) rfl
theorem q1845 : (Jvm.Cond.methodLink "StaffRailway$Reader" (101 : Nat) ({ cls := "java/util/ArrayList", name := "<init>", desc := "()V" } : Jvm.MethodName)) ∈ lw_all := lw_g (lw_at lw_m8 72 rfl) rfl
theorem q1848 : (Jvm.Cond.methodLink "StaffRailway$Reader" (102 : Nat) ({ cls := "StaffRailway$Reader", name := "order", desc := "()LStaffRailway$Deed;" } : Jvm.MethodName)) ∈ lw_all := lw_g (lw_at lw_m8 75 rfl) rfl
theorem q1849 : (Jvm.Cond.privateMethod ({ cls := "StaffRailway$Reader", name := "order", desc := "()LStaffRailway$Deed;" } : Jvm.MethodName)) ∈ lw_tbl := lw_at lw_m8 76 rfl
theorem q1850 : (Jvm.Cond.instanceMethod ({ cls := "StaffRailway$Reader", name := "order", desc := "()LStaffRailway$Deed;" } : Jvm.MethodName)) ∈ lw_all := lw_g (lw_at lw_m8 77 rfl) rfl
theorem q1851 : (Jvm.Cond.code ({ cls := "StaffRailway$Reader", name := "order", desc := "()LStaffRailway$Deed;" } : Jvm.MethodName) prog_14_method_15_code (1 : Nat) (Option.some (Jvm.ClassFile.FieldType.object "StaffRailway$Deed"))) ∈ lw_all := lw_g (lw_at lw_m8 78 rfl) rfl
theorem q1852 : (Jvm.Cond.methodLink "StaffRailway$Reader" (53 : Nat) ({ cls := "StaffRailway$Reader", name := "takes", desc := "(I)Z" } : Jvm.MethodName)) ∈ lw_all := lw_g (lw_at lw_m8 79 rfl) rfl
theorem q1853 : (Jvm.Cond.privateMethod ({ cls := "StaffRailway$Reader", name := "takes", desc := "(I)Z" } : Jvm.MethodName)) ∈ lw_tbl := lw_at lw_m8 80 rfl
theorem q1854 : (Jvm.Cond.instanceMethod ({ cls := "StaffRailway$Reader", name := "takes", desc := "(I)Z" } : Jvm.MethodName)) ∈ lw_all := lw_g (lw_at lw_m8 81 rfl) rfl
theorem q1855 : (Jvm.Cond.code ({ cls := "StaffRailway$Reader", name := "takes", desc := "(I)Z" } : Jvm.MethodName) prog_14_method_3_code (3 : Nat) (Option.some Jvm.ClassFile.FieldType.boolean)) ∈ lw_all := lw_g (lw_at lw_m8 82 rfl) rfl
theorem q1856 : (Jvm.Cond.methodLink "StaffRailway$Reader" (33 : Nat) ({ cls := "StaffRailway$Reader", name := "here", desc := "()I" } : Jvm.MethodName)) ∈ lw_all := lw_g (lw_at lw_m8 83 rfl) rfl
theorem q1857 : (Jvm.Cond.privateMethod ({ cls := "StaffRailway$Reader", name := "here", desc := "()I" } : Jvm.MethodName)) ∈ lw_tbl := lw_at lw_m8 84 rfl
theorem q1858 : (Jvm.Cond.instanceMethod ({ cls := "StaffRailway$Reader", name := "here", desc := "()I" } : Jvm.MethodName)) ∈ lw_all := lw_g (lw_at lw_m8 85 rfl) rfl
theorem q1859 : (Jvm.Cond.code ({ cls := "StaffRailway$Reader", name := "here", desc := "()I" } : Jvm.MethodName) prog_14_method_2_code (1 : Nat) (Option.some Jvm.ClassFile.FieldType.int)) ∈ lw_all := lw_g (lw_at lw_m8 86 rfl) rfl
theorem q1860 : (Jvm.Cond.interfaceEntry "StaffRailway$Reader" (23 : Nat)) ∈ lw_tbl := lw_at lw_m8 87 rfl
theorem q1861 : (Jvm.Cond.methodLink "StaffRailway$Reader" (23 : Nat) ({ cls := "java/lang/CharSequence", name := "length", desc := "()I" } : Jvm.MethodName)) ∈ lw_all := lw_g (lw_at lw_m8 88 rfl) rfl
theorem q1872 : (Jvm.Cond.interfaceEntry "StaffRailway$Reader" (29 : Nat)) ∈ lw_tbl := lw_at lw_m8 99 rfl
theorem q1873 : (Jvm.Cond.methodLink "StaffRailway$Reader" (29 : Nat) ({ cls := "java/lang/CharSequence", name := "charAt", desc := "(I)C" } : Jvm.MethodName)) ∈ lw_all := lw_g (lw_at lw_m8 100 rfl) rfl
theorem q1903 : (Jvm.Cond.methodLink "StaffRailway$Reader" (77 : Nat) ({ cls := "StaffRailway$Reader", name := "sends", desc := "()LStaffRailway$Deed;" } : Jvm.MethodName)) ∈ lw_all := lw_g (lw_at lw_m8 130 rfl) rfl
theorem q1904 : (Jvm.Cond.privateMethod ({ cls := "StaffRailway$Reader", name := "sends", desc := "()LStaffRailway$Deed;" } : Jvm.MethodName)) ∈ lw_tbl := lw_at lw_m8 131 rfl
theorem q1905 : (Jvm.Cond.instanceMethod ({ cls := "StaffRailway$Reader", name := "sends", desc := "()LStaffRailway$Deed;" } : Jvm.MethodName)) ∈ lw_all := lw_g (lw_at lw_m8 132 rfl) rfl
theorem q1906 : (Jvm.Cond.code ({ cls := "StaffRailway$Reader", name := "sends", desc := "()LStaffRailway$Deed;" } : Jvm.MethodName) prog_14_method_8_code (3 : Nat) (Option.some (Jvm.ClassFile.FieldType.object "StaffRailway$Deed"))) ∈ lw_all := lw_g (lw_at lw_m8 133 rfl) rfl
theorem q1907 : (Jvm.Cond.methodLink "StaffRailway$Reader" (57 : Nat) ({ cls := "StaffRailway$Reader", name := "number", desc := "(I)I" } : Jvm.MethodName)) ∈ lw_all := lw_g (lw_at lw_m8 134 rfl) rfl
theorem q1908 : (Jvm.Cond.privateMethod ({ cls := "StaffRailway$Reader", name := "number", desc := "(I)I" } : Jvm.MethodName)) ∈ lw_tbl := lw_at lw_m8 135 rfl
theorem q1909 : (Jvm.Cond.instanceMethod ({ cls := "StaffRailway$Reader", name := "number", desc := "(I)I" } : Jvm.MethodName)) ∈ lw_all := lw_g (lw_at lw_m8 136 rfl) rfl
theorem q1910 : (Jvm.Cond.code ({ cls := "StaffRailway$Reader", name := "number", desc := "(I)I" } : Jvm.MethodName) prog_14_method_6_code (4 : Nat) (Option.some Jvm.ClassFile.FieldType.int)) ∈ lw_all := lw_g (lw_at lw_m8 137 rfl) rfl
theorem q1911 : (Jvm.Cond.methodLink "StaffRailway$Reader" (45 : Nat) ({ cls := "StaffRailway$Reader", name := "isDigit", desc := "()Z" } : Jvm.MethodName)) ∈ lw_all := lw_g (lw_at lw_m8 138 rfl) rfl
theorem q1912 : (Jvm.Cond.privateMethod ({ cls := "StaffRailway$Reader", name := "isDigit", desc := "()Z" } : Jvm.MethodName)) ∈ lw_tbl := lw_at lw_m8 139 rfl
theorem q1913 : (Jvm.Cond.instanceMethod ({ cls := "StaffRailway$Reader", name := "isDigit", desc := "()Z" } : Jvm.MethodName)) ∈ lw_all := lw_g (lw_at lw_m8 140 rfl) rfl
theorem q1914 : (Jvm.Cond.code ({ cls := "StaffRailway$Reader", name := "isDigit", desc := "()Z" } : Jvm.MethodName) prog_14_method_5_code (1 : Nat) (Option.some Jvm.ClassFile.FieldType.boolean)) ∈ lw_all := lw_g (lw_at lw_m8 141 rfl) rfl
theorem q1915 : (Jvm.Cond.methodLinkNest "StaffRailway$Reader" (41 : Nat) ({ cls := "StaffRailway", name := "isIn", desc := "(III)Z" } : Jvm.MethodName) "StaffRailway") ∈ lw_tbl := lw_at lw_m8 142 rfl
theorem q1916 : (Jvm.Cond.methodLink "StaffRailway$Reader" (49 : Nat) ({ cls := "StaffRailway$Reader", name := "needs", desc := "(Z)V" } : Jvm.MethodName)) ∈ lw_all := lw_g (lw_at lw_m8 143 rfl) rfl
theorem q1917 : (Jvm.Cond.privateMethod ({ cls := "StaffRailway$Reader", name := "needs", desc := "(Z)V" } : Jvm.MethodName)) ∈ lw_tbl := lw_at lw_m8 144 rfl
theorem q1918 : (Jvm.Cond.instanceMethod ({ cls := "StaffRailway$Reader", name := "needs", desc := "(Z)V" } : Jvm.MethodName)) ∈ lw_all := lw_g (lw_at lw_m8 145 rfl) rfl
theorem q1919 : (Jvm.Cond.code ({ cls := "StaffRailway$Reader", name := "needs", desc := "(Z)V" } : Jvm.MethodName) prog_14_method_4_code (2 : Nat) (Option.none : Option Jvm.ClassFile.FieldType)) ∈ lw_all := lw_g (lw_at lw_m8 146 rfl) rfl
theorem q1920 : (Jvm.Cond.classLink "StaffRailway$Reader" (36 : Nat) "StaffRailway$Wrong") ∈ lw_all := lw_g (lw_at lw_m8 147 rfl) rfl
theorem q1929 : (Jvm.Cond.methodLink "StaffRailway$Reader" (38 : Nat) ({ cls := "StaffRailway$Wrong", name := "<init>", desc := "(I)V" } : Jvm.MethodName)) ∈ lw_all := lw_g (lw_at lw_m8 156 rfl) rfl
theorem q1939 : (Jvm.Cond.methodLink "StaffRailway$Reader" (61 : Nat) ({ cls := "StaffRailway$Reader", name := "second", desc := "(II)I" } : Jvm.MethodName)) ∈ lw_all := lw_g (lw_at lw_m8 166 rfl) rfl
theorem q1940 : (Jvm.Cond.privateMethod ({ cls := "StaffRailway$Reader", name := "second", desc := "(II)I" } : Jvm.MethodName)) ∈ lw_tbl := lw_at lw_m8 167 rfl
theorem q1941 : (Jvm.Cond.instanceMethod ({ cls := "StaffRailway$Reader", name := "second", desc := "(II)I" } : Jvm.MethodName)) ∈ lw_all := lw_g (lw_at lw_m8 168 rfl) rfl
theorem q1942 : (Jvm.Cond.code ({ cls := "StaffRailway$Reader", name := "second", desc := "(II)I" } : Jvm.MethodName) prog_14_method_7_code (3 : Nat) (Option.some Jvm.ClassFile.FieldType.int)) ∈ lw_all := lw_g (lw_at lw_m8 169 rfl) rfl
theorem q1943 : (Jvm.Cond.static ({ cls := "StaffRailway$Reader", name := "lambda$sends$0", desc := "(IILStaffRailway$Line;)I" } : Jvm.MethodName)) ∈ lw_all := lw_g (lw_at lw_m8 170 rfl) rfl
theorem q1944 : (Jvm.Cond.code ({ cls := "StaffRailway$Reader", name := "lambda$sends$0", desc := "(IILStaffRailway$Line;)I" } : Jvm.MethodName) prog_14_method_23_code (3 : Nat) (Option.some Jvm.ClassFile.FieldType.int)) ∈ lw_all := lw_g (lw_at lw_m8 171 rfl) rfl
theorem q1945 : (Jvm.Cond.methodLink "StaffRailway$Reader" (138 : Nat) ({ cls := "StaffRailway$Line", name := "sends", desc := "(II)I" } : Jvm.MethodName)) ∈ lw_all := lw_g (lw_at lw_m8 172 rfl) rfl
theorem q1946 : (Jvm.Cond.methodLink "StaffRailway$Reader" (81 : Nat) ({ cls := "StaffRailway$Reader", name := "passes", desc := "()LStaffRailway$Deed;" } : Jvm.MethodName)) ∈ lw_all := lw_g (lw_at lw_m8 173 rfl) rfl
theorem q1947 : (Jvm.Cond.privateMethod ({ cls := "StaffRailway$Reader", name := "passes", desc := "()LStaffRailway$Deed;" } : Jvm.MethodName)) ∈ lw_tbl := lw_at lw_m8 174 rfl
theorem q1948 : (Jvm.Cond.instanceMethod ({ cls := "StaffRailway$Reader", name := "passes", desc := "()LStaffRailway$Deed;" } : Jvm.MethodName)) ∈ lw_all := lw_g (lw_at lw_m8 175 rfl) rfl
theorem q1949 : (Jvm.Cond.code ({ cls := "StaffRailway$Reader", name := "passes", desc := "()LStaffRailway$Deed;" } : Jvm.MethodName) prog_14_method_9_code (2 : Nat) (Option.some (Jvm.ClassFile.FieldType.object "StaffRailway$Deed"))) ∈ lw_all := lw_g (lw_at lw_m8 176 rfl) rfl
theorem q1950 : (Jvm.Cond.static ({ cls := "StaffRailway$Reader", name := "lambda$passes$1", desc := "(ILStaffRailway$Line;)I" } : Jvm.MethodName)) ∈ lw_all := lw_g (lw_at lw_m8 177 rfl) rfl
theorem q1951 : (Jvm.Cond.code ({ cls := "StaffRailway$Reader", name := "lambda$passes$1", desc := "(ILStaffRailway$Line;)I" } : Jvm.MethodName) prog_14_method_22_code (2 : Nat) (Option.some Jvm.ClassFile.FieldType.int)) ∈ lw_all := lw_g (lw_at lw_m8 178 rfl) rfl
theorem q1952 : (Jvm.Cond.methodLinkNest "StaffRailway$Reader" (115 : Nat) ({ cls := "StaffRailway", name := "refuse", desc := "(ZII)V" } : Jvm.MethodName) "StaffRailway") ∈ lw_tbl := lw_at lw_m8 179 rfl
theorem q1953 : (Jvm.Cond.methodLink "StaffRailway$Reader" (136 : Nat) ({ cls := "StaffRailway$Line", name := "passes", desc := "(I)I" } : Jvm.MethodName)) ∈ lw_all := lw_g (lw_at lw_m8 180 rfl) rfl
theorem q1954 : (Jvm.Cond.methodLink "StaffRailway$Reader" (84 : Nat) ({ cls := "StaffRailway$Reader", name := "loses", desc := "()LStaffRailway$Deed;" } : Jvm.MethodName)) ∈ lw_all := lw_g (lw_at lw_m8 181 rfl) rfl
theorem q1955 : (Jvm.Cond.privateMethod ({ cls := "StaffRailway$Reader", name := "loses", desc := "()LStaffRailway$Deed;" } : Jvm.MethodName)) ∈ lw_tbl := lw_at lw_m8 182 rfl
theorem q1956 : (Jvm.Cond.instanceMethod ({ cls := "StaffRailway$Reader", name := "loses", desc := "()LStaffRailway$Deed;" } : Jvm.MethodName)) ∈ lw_all := lw_g (lw_at lw_m8 183 rfl) rfl
theorem q1957 : (Jvm.Cond.code ({ cls := "StaffRailway$Reader", name := "loses", desc := "()LStaffRailway$Deed;" } : Jvm.MethodName) prog_14_method_10_code (2 : Nat) (Option.some (Jvm.ClassFile.FieldType.object "StaffRailway$Deed"))) ∈ lw_all := lw_g (lw_at lw_m8 184 rfl) rfl
theorem q1958 : (Jvm.Cond.static ({ cls := "StaffRailway$Reader", name := "lambda$loses$2", desc := "(ILStaffRailway$Line;)I" } : Jvm.MethodName)) ∈ lw_all := lw_g (lw_at lw_m8 185 rfl) rfl
theorem q1959 : (Jvm.Cond.code ({ cls := "StaffRailway$Reader", name := "lambda$loses$2", desc := "(ILStaffRailway$Line;)I" } : Jvm.MethodName) prog_14_method_21_code (2 : Nat) (Option.some Jvm.ClassFile.FieldType.int)) ∈ lw_all := lw_g (lw_at lw_m8 186 rfl) rfl
theorem q1960 : (Jvm.Cond.methodLink "StaffRailway$Reader" (134 : Nat) ({ cls := "StaffRailway$Line", name := "loses", desc := "(I)I" } : Jvm.MethodName)) ∈ lw_all := lw_g (lw_at lw_m8 187 rfl) rfl
theorem q1961 : (Jvm.Cond.methodLink "StaffRailway$Reader" (87 : Nat) ({ cls := "StaffRailway$Reader", name := "finds", desc := "()LStaffRailway$Deed;" } : Jvm.MethodName)) ∈ lw_all := lw_g (lw_at lw_m8 188 rfl) rfl
theorem q1962 : (Jvm.Cond.privateMethod ({ cls := "StaffRailway$Reader", name := "finds", desc := "()LStaffRailway$Deed;" } : Jvm.MethodName)) ∈ lw_tbl := lw_at lw_m8 189 rfl
theorem q1963 : (Jvm.Cond.instanceMethod ({ cls := "StaffRailway$Reader", name := "finds", desc := "()LStaffRailway$Deed;" } : Jvm.MethodName)) ∈ lw_all := lw_g (lw_at lw_m8 190 rfl) rfl
theorem q1964 : (Jvm.Cond.code ({ cls := "StaffRailway$Reader", name := "finds", desc := "()LStaffRailway$Deed;" } : Jvm.MethodName) prog_14_method_11_code (3 : Nat) (Option.some (Jvm.ClassFile.FieldType.object "StaffRailway$Deed"))) ∈ lw_all := lw_g (lw_at lw_m8 191 rfl) rfl
theorem q1965 : (Jvm.Cond.static ({ cls := "StaffRailway$Reader", name := "lambda$finds$3", desc := "(IILStaffRailway$Line;)I" } : Jvm.MethodName)) ∈ lw_all := lw_g (lw_at lw_m8 192 rfl) rfl
theorem q1966 : (Jvm.Cond.code ({ cls := "StaffRailway$Reader", name := "lambda$finds$3", desc := "(IILStaffRailway$Line;)I" } : Jvm.MethodName) prog_14_method_20_code (3 : Nat) (Option.some Jvm.ClassFile.FieldType.int)) ∈ lw_all := lw_g (lw_at lw_m8 193 rfl) rfl
theorem q1967 : (Jvm.Cond.methodLink "StaffRailway$Reader" (125 : Nat) ({ cls := "StaffRailway$Line", name := "checkBoth", desc := "(II)V" } : Jvm.MethodName)) ∈ lw_all := lw_g (lw_at lw_m8 194 rfl) rfl
theorem q1968 : (Jvm.Cond.methodLinkNest "StaffRailway$Reader" (128 : Nat) ({ cls := "StaffRailway$Line", name := "isEnd", desc := "(II)Z" } : Jvm.MethodName) "StaffRailway") ∈ lw_tbl := lw_at lw_m8 195 rfl
theorem q1969 : (Jvm.Cond.methodLink "StaffRailway$Reader" (132 : Nat) ({ cls := "StaffRailway$Line", name := "finds", desc := "(II)I" } : Jvm.MethodName)) ∈ lw_all := lw_g (lw_at lw_m8 196 rfl) rfl
theorem q1970 : (Jvm.Cond.methodLink "StaffRailway$Reader" (90 : Nat) ({ cls := "StaffRailway$Reader", name := "appoints", desc := "()LStaffRailway$Deed;" } : Jvm.MethodName)) ∈ lw_all := lw_g (lw_at lw_m8 197 rfl) rfl
theorem q1971 : (Jvm.Cond.privateMethod ({ cls := "StaffRailway$Reader", name := "appoints", desc := "()LStaffRailway$Deed;" } : Jvm.MethodName)) ∈ lw_tbl := lw_at lw_m8 198 rfl
theorem q1972 : (Jvm.Cond.instanceMethod ({ cls := "StaffRailway$Reader", name := "appoints", desc := "()LStaffRailway$Deed;" } : Jvm.MethodName)) ∈ lw_all := lw_g (lw_at lw_m8 199 rfl) rfl
theorem q1973 : (Jvm.Cond.code ({ cls := "StaffRailway$Reader", name := "appoints", desc := "()LStaffRailway$Deed;" } : Jvm.MethodName) prog_14_method_12_code (3 : Nat) (Option.some (Jvm.ClassFile.FieldType.object "StaffRailway$Deed"))) ∈ lw_all := lw_g (lw_at lw_m8 200 rfl) rfl
theorem q1974 : (Jvm.Cond.static ({ cls := "StaffRailway$Reader", name := "lambda$appoints$4", desc := "(IILStaffRailway$Line;)I" } : Jvm.MethodName)) ∈ lw_all := lw_g (lw_at lw_m8 201 rfl) rfl
theorem q1975 : (Jvm.Cond.code ({ cls := "StaffRailway$Reader", name := "lambda$appoints$4", desc := "(IILStaffRailway$Line;)I" } : Jvm.MethodName) prog_14_method_19_code (3 : Nat) (Option.some Jvm.ClassFile.FieldType.int)) ∈ lw_all := lw_g (lw_at lw_m8 202 rfl) rfl
theorem q1976 : (Jvm.Cond.methodLink "StaffRailway$Reader" (123 : Nat) ({ cls := "StaffRailway$Line", name := "appoints", desc := "(II)I" } : Jvm.MethodName)) ∈ lw_all := lw_g (lw_at lw_m8 203 rfl) rfl
theorem q1977 : (Jvm.Cond.methodLink "StaffRailway$Reader" (93 : Nat) ({ cls := "StaffRailway$Reader", name := "divides", desc := "()LStaffRailway$Deed;" } : Jvm.MethodName)) ∈ lw_all := lw_g (lw_at lw_m8 204 rfl) rfl
theorem q1978 : (Jvm.Cond.privateMethod ({ cls := "StaffRailway$Reader", name := "divides", desc := "()LStaffRailway$Deed;" } : Jvm.MethodName)) ∈ lw_tbl := lw_at lw_m8 205 rfl
theorem q1979 : (Jvm.Cond.instanceMethod ({ cls := "StaffRailway$Reader", name := "divides", desc := "()LStaffRailway$Deed;" } : Jvm.MethodName)) ∈ lw_all := lw_g (lw_at lw_m8 206 rfl) rfl
theorem q1980 : (Jvm.Cond.code ({ cls := "StaffRailway$Reader", name := "divides", desc := "()LStaffRailway$Deed;" } : Jvm.MethodName) prog_14_method_13_code (3 : Nat) (Option.some (Jvm.ClassFile.FieldType.object "StaffRailway$Deed"))) ∈ lw_all := lw_g (lw_at lw_m8 207 rfl) rfl
theorem q1981 : (Jvm.Cond.static ({ cls := "StaffRailway$Reader", name := "lambda$divides$5", desc := "(IILStaffRailway$Line;)I" } : Jvm.MethodName)) ∈ lw_all := lw_g (lw_at lw_m8 208 rfl) rfl
theorem q1982 : (Jvm.Cond.code ({ cls := "StaffRailway$Reader", name := "lambda$divides$5", desc := "(IILStaffRailway$Line;)I" } : Jvm.MethodName) prog_14_method_18_code (3 : Nat) (Option.some Jvm.ClassFile.FieldType.int)) ∈ lw_all := lw_g (lw_at lw_m8 209 rfl) rfl
theorem q1983 : (Jvm.Cond.methodLink "StaffRailway$Reader" (121 : Nat) ({ cls := "StaffRailway$Line", name := "divides", desc := "(II)I" } : Jvm.MethodName)) ∈ lw_all := lw_g (lw_at lw_m8 210 rfl) rfl
theorem q1984 : (Jvm.Cond.methodLink "StaffRailway$Reader" (96 : Nat) ({ cls := "StaffRailway$Reader", name := "couples", desc := "()LStaffRailway$Deed;" } : Jvm.MethodName)) ∈ lw_all := lw_g (lw_at lw_m8 211 rfl) rfl
theorem q1985 : (Jvm.Cond.privateMethod ({ cls := "StaffRailway$Reader", name := "couples", desc := "()LStaffRailway$Deed;" } : Jvm.MethodName)) ∈ lw_tbl := lw_at lw_m8 212 rfl
theorem q1986 : (Jvm.Cond.instanceMethod ({ cls := "StaffRailway$Reader", name := "couples", desc := "()LStaffRailway$Deed;" } : Jvm.MethodName)) ∈ lw_all := lw_g (lw_at lw_m8 213 rfl) rfl
theorem q1987 : (Jvm.Cond.code ({ cls := "StaffRailway$Reader", name := "couples", desc := "()LStaffRailway$Deed;" } : Jvm.MethodName) prog_14_method_14_code (3 : Nat) (Option.some (Jvm.ClassFile.FieldType.object "StaffRailway$Deed"))) ∈ lw_all := lw_g (lw_at lw_m8 214 rfl) rfl
theorem q1988 : (Jvm.Cond.static ({ cls := "StaffRailway$Reader", name := "lambda$couples$6", desc := "(IILStaffRailway$Line;)I" } : Jvm.MethodName)) ∈ lw_all := lw_g (lw_at lw_m8 215 rfl) rfl
theorem q1989 : (Jvm.Cond.code ({ cls := "StaffRailway$Reader", name := "lambda$couples$6", desc := "(IILStaffRailway$Line;)I" } : Jvm.MethodName) prog_14_method_17_code (3 : Nat) (Option.some Jvm.ClassFile.FieldType.int)) ∈ lw_all := lw_g (lw_at lw_m8 216 rfl) rfl
theorem q1990 : (Jvm.Cond.methodLink "StaffRailway$Reader" (109 : Nat) ({ cls := "StaffRailway$Line", name := "checkTwo", desc := "(II)V" } : Jvm.MethodName)) ∈ lw_all := lw_g (lw_at lw_m8 217 rfl) rfl
theorem q1991 : (Jvm.Cond.methodLink "StaffRailway$Reader" (119 : Nat) ({ cls := "StaffRailway$Line", name := "couples", desc := "(II)I" } : Jvm.MethodName)) ∈ lw_all := lw_g (lw_at lw_m8 218 rfl) rfl
theorem q1992 : (Jvm.Cond.methodLink "StaffRailway$Reader" (105 : Nat) ({ cls := "java/util/ArrayList", name := "add", desc := "(Ljava/lang/Object;)Z" } : Jvm.MethodName)) ∈ lw_all := lw_g (lw_at lw_m8 219 rfl) rfl
theorem q2672 : (Jvm.Cond.castable "StaffRailway$Reader" "java/lang/Object") ∈ lw_tbl := lw_at lw_m11 179 rfl
theorem in_X14 : ∀ w ∈ wsX140, w ∈ lw_all := lw_in wsX140 [1833, 1835, 1837] (by decide +kernel) (by decide +kernel)
/-! StaffRailway$Wrong -/
set_option maxRecDepth 100000
def RX15 : String := "StaffRailway$Wrong"
def TX15 : u_T := fun k => match k with
  | 0 => ("java/lang/Throwable", "cause", "Ljava/lang/Throwable;", false)
  | 1 => ("java/lang/Throwable", "stackTrace", "[Ljava/lang/StackTraceElement;", false)
  | 2 => ("java/lang/Throwable", "suppressedExceptions", "Ljava/util/List;", false)
  | 3 => ("java/lang/Throwable", "detailMessage", "Ljava/lang/String;", false)
  | 4 => ("java/lang/Throwable", "backtrace", "Ljava/lang/Object;", false)
  | 5 => ("java/lang/Throwable", "depth", "I", false)
  | _ => ("StaffRailway$Wrong", "at", "I", true)
def tyX15 : Nat → FieldType := fun k => match k with
  | 0 => .object "java/lang/Throwable"
  | 1 => .array (.object "java/lang/StackTraceElement")
  | 2 => .object "java/util/List"
  | 3 => .object "java/lang/String"
  | 4 => .object "java/lang/Object"
  | 5 => .int
  | _ => .int
abbrev wsX150 : List Cond := u_ws RX15 TX15 7
theorem nmX15 : ∀ a, a < 7 → ∀ b, b < 7 → a ≠ b → (TX15 a).2.1 ≠ (TX15 b).2.1 := by decide +kernel
theorem tyX15_ok : ∀ k, k < 7 → parseFieldDescriptor (TX15 k).2.2.1 = some (tyX15 k) := by decide +kernel
abbrev cX15_init : ByteArray := prog_18_method_1_code
def yX15_init : MethodName := ⟨RX15, "<init>", "(I)V"⟩
def dkwX15_init_0 : List UInt8 := [42, 1, 1, 3, 3, 183, 0, 1, 42, 27, 181, 0, 7, 177]
abbrev dktX15_init_0 : List UInt8 := dkwX15_init_0 ++ []
theorem dksX15_init_0 : cX15_init.data.toList.drop 0 = dktX15_init_0 := by decide +kernel
theorem dX15_init_0 : decode cX15_init 0 = .ok (.aload_n 0, 1) := dk_42 (dk_at dksX15_init_0 0 rfl rfl)
theorem dX15_init_1 : decode cX15_init 1 = .ok (.aconst_null, 1) := dk_1 (dk_at dksX15_init_0 1 rfl rfl)
theorem dX15_init_2 : decode cX15_init 2 = .ok (.aconst_null, 1) := dk_1 (dk_at dksX15_init_0 2 rfl rfl)
theorem dX15_init_3 : decode cX15_init 3 = .ok (.iconst 0, 1) := dk_3 (dk_at dksX15_init_0 3 rfl rfl)
theorem dX15_init_4 : decode cX15_init 4 = .ok (.iconst 0, 1) := dk_3 (dk_at dksX15_init_0 4 rfl rfl)
theorem dX15_init_5 : decode cX15_init 5 = .ok (.invokespecial 1, 3) := dk_183 0 1 (dk_at dksX15_init_0 5 rfl rfl)
theorem dX15_init_8 : decode cX15_init 8 = .ok (.aload_n 0, 1) := dk_42 (dk_at dksX15_init_0 8 rfl rfl)
theorem dX15_init_9 : decode cX15_init 9 = .ok (.iload_n 1, 1) := dk_27 (dk_at dksX15_init_0 9 rfl rfl)
theorem dX15_init_10 : decode cX15_init 10 = .ok (.putfield 7, 3) := dk_181 0 7 (dk_at dksX15_init_0 10 rfl rfl)
theorem dX15_init_13 : decode cX15_init 13 = .ok (.return_, 1) := dk_177 (dk_at dksX15_init_0 13 rfl rfl)
theorem q137 : (Jvm.Cond.initialized "StaffRailway$Wrong") ∈ lw_all := lw_g (lw_at lw_m1 44 rfl) rfl
theorem q209 : (Jvm.Cond.selects "StaffRailway$Wrong" ({ cls := "java/lang/Throwable", name := "fillInStackTrace", desc := "()Ljava/lang/Throwable;" } : Jvm.MethodName) ({ cls := "java/lang/Throwable", name := "fillInStackTrace", desc := "()Ljava/lang/Throwable;" } : Jvm.MethodName)) ∈ lw_all := lw_g (lw_at lw_m1 116 rfl) rfl
theorem q1021 : (Jvm.Cond.selects "StaffRailway$Wrong" ({ cls := "java/lang/Object", name := "getClass", desc := "()Ljava/lang/Class;" } : Jvm.MethodName) ({ cls := "java/lang/Object", name := "getClass", desc := "()Ljava/lang/Class;" } : Jvm.MethodName)) ∈ lw_all := lw_g (lw_at lw_m4 208 rfl) rfl
theorem q1592 : (Jvm.Cond.selects "StaffRailway$Wrong" ({ cls := "java/lang/Throwable", name := "getCause", desc := "()Ljava/lang/Throwable;" } : Jvm.MethodName) ({ cls := "java/lang/Throwable", name := "getCause", desc := "()Ljava/lang/Throwable;" } : Jvm.MethodName)) ∈ lw_all := lw_g (lw_at lw_m7 59 rfl) rfl
theorem q1921 : (Jvm.Cond.instantiable "StaffRailway$Wrong" (7 : Nat)) ∈ lw_all := lw_g (lw_at lw_m8 148 rfl) rfl
theorem q1922 : (Jvm.Cond.castable "StaffRailway$Wrong" "StaffRailway$Wrong") ∈ lw_tbl := lw_at lw_m8 149 rfl
theorem q1923 : (Jvm.Cond.selects "StaffRailway$Wrong" ({ cls := "java/lang/Throwable", name := "fillInStackTrace", desc := "(I)Ljava/lang/Throwable;" } : Jvm.MethodName) ({ cls := "java/lang/Throwable", name := "fillInStackTrace", desc := "(I)Ljava/lang/Throwable;" } : Jvm.MethodName)) ∈ lw_all := lw_g (lw_at lw_m8 150 rfl) rfl
theorem q1924 : (Jvm.Cond.lays "StaffRailway$Wrong" "java/lang/Throwable" "cause" "Ljava/lang/Throwable;") ∈ lw_all := lw_g (lw_at lw_m8 151 rfl) rfl
theorem q1925 : (Jvm.Cond.lays "StaffRailway$Wrong" "java/lang/Throwable" "stackTrace" "[Ljava/lang/StackTraceElement;") ∈ lw_all := lw_g (lw_at lw_m8 152 rfl) rfl
theorem q1926 : (Jvm.Cond.lays "StaffRailway$Wrong" "java/lang/Throwable" "suppressedExceptions" "Ljava/util/List;") ∈ lw_all := lw_g (lw_at lw_m8 153 rfl) rfl
theorem q1927 : (Jvm.Cond.lays "StaffRailway$Wrong" "java/lang/Throwable" "detailMessage" "Ljava/lang/String;") ∈ lw_all := lw_g (lw_at lw_m8 154 rfl) rfl
theorem q1928 : (Jvm.Cond.lays "StaffRailway$Wrong" "java/lang/Throwable" "backtrace" "Ljava/lang/Object;") ∈ lw_all := lw_g (lw_at lw_m8 155 rfl) rfl
theorem q1930 : (Jvm.Cond.instanceMethod ({ cls := "StaffRailway$Wrong", name := "<init>", desc := "(I)V" } : Jvm.MethodName)) ∈ lw_all := lw_g (lw_at lw_m8 157 rfl) rfl
theorem q1931 : (Jvm.Cond.code ({ cls := "StaffRailway$Wrong", name := "<init>", desc := "(I)V" } : Jvm.MethodName) prog_18_method_1_code (2 : Nat) (Option.none : Option Jvm.ClassFile.FieldType)) ∈ lw_all := lw_g (lw_at lw_m8 158 rfl) rfl
theorem q1932 : (Jvm.Cond.methodLink "StaffRailway$Wrong" (1 : Nat) ({ cls := "java/lang/Exception", name := "<init>", desc := "(Ljava/lang/String;Ljava/lang/Throwable;ZZ)V" } : Jvm.MethodName)) ∈ lw_all := lw_g (lw_at lw_m8 159 rfl) rfl
theorem q1933 : (Jvm.Cond.fieldLink "StaffRailway$Wrong" (7 : Nat) "StaffRailway$Wrong" "at" "I") ∈ lw_all := lw_g (lw_at lw_m8 160 rfl) rfl
theorem q1935 : (Jvm.Cond.laysFinal "StaffRailway$Wrong" "StaffRailway$Wrong" "at" "I") ∈ lw_all := lw_g (lw_at lw_m8 162 rfl) rfl
theorem q1936 : (Jvm.Cond.soleField "StaffRailway$Wrong" "at") ∈ lw_all := lw_g (lw_at lw_m8 163 rfl) rfl
theorem q1937 : (Jvm.Cond.lays "StaffRailway$Wrong" "java/lang/Throwable" "depth" "I") ∈ lw_all := lw_g (lw_at lw_m8 164 rfl) rfl
theorem q1938 : (Jvm.Cond.superclass "StaffRailway$Wrong" "java/lang/Exception") ∈ lw_all := lw_g (lw_at lw_m8 165 rfl) rfl
theorem q2673 : (Jvm.Cond.castable "StaffRailway$Wrong" "java/lang/Object") ∈ lw_tbl := lw_at lw_m11 180 rfl
theorem in_X15 : ∀ w ∈ wsX150, w ∈ lw_all := lw_in wsX150 [1924, 1925, 1926, 1927, 1928, 1937, 1935] (by decide +kernel) (by decide +kernel)
