/-! decode rows (out of claim/names) -/
set_option maxRecDepth 100000
def dkwX2_init_35 : List UInt8 := [188, 10, 181, 1, 23, 42, 16, 64, 188, 10, 181, 1, 26, 177]
abbrev dktX2_init_35 : List UInt8 := dkwX2_init_35 ++ []
def dkwX2_init_34 : List UInt8 := [181, 1, 14, 42, 17, 1, 104, 188, 10, 181, 1, 17, 42, 17, 6, 64, 188, 10, 181, 1, 20, 42, 16, 12]
abbrev dktX2_init_34 : List UInt8 := dkwX2_init_34 ++ dktX2_init_35
def dkwX2_init_33 : List UInt8 := [42, 16, 8, 188, 4, 181, 1, 7, 42, 16, 12, 188, 10, 181, 1, 11, 42, 17, 1, 104, 188, 10]
abbrev dktX2_init_33 : List UInt8 := dkwX2_init_33 ++ dktX2_init_34
def dkwX2_init_32 : List UInt8 := [17, 0, 132, 188, 10, 181, 0, 254, 42, 16, 72, 188, 10, 181, 1, 1, 42, 16, 6, 188, 10, 181, 1, 4]
abbrev dktX2_init_32 : List UInt8 := dkwX2_init_32 ++ dktX2_init_33
def dkwX2_init_31 : List UInt8 := [188, 10, 181, 0, 245, 42, 16, 12, 188, 10, 181, 0, 248, 42, 16, 48, 188, 10, 181, 0, 251, 42]
abbrev dktX2_init_31 : List UInt8 := dkwX2_init_31 ++ dktX2_init_32
def dkwX2_init_30 : List UInt8 := [188, 10, 181, 0, 237, 42, 16, 12, 188, 10, 181, 0, 239, 42, 16, 12, 188, 10, 181, 0, 242, 42, 16, 12]
abbrev dktX2_init_30 : List UInt8 := dkwX2_init_30 ++ dktX2_init_31
def dkwX2_init_29 : List UInt8 := [188, 10, 181, 0, 230, 42, 16, 12, 188, 10, 181, 0, 232, 42, 16, 12, 188, 10, 181, 0, 234, 42, 16, 12]
abbrev dktX2_init_29 : List UInt8 := dkwX2_init_29 ++ dktX2_init_30
def dkwX2_init_28 : List UInt8 := [188, 10, 181, 0, 223, 42, 16, 12, 188, 10, 181, 0, 226, 42, 16, 12, 188, 10, 181, 0, 228, 42, 16, 12]
abbrev dktX2_init_28 : List UInt8 := dkwX2_init_28 ++ dktX2_init_29
def dkwX2_init_27 : List UInt8 := [188, 10, 181, 0, 216, 42, 16, 12, 188, 10, 181, 0, 219, 42, 16, 12, 188, 10, 181, 0, 221, 42, 16, 12]
abbrev dktX2_init_27 : List UInt8 := dkwX2_init_27 ++ dktX2_init_28
def dkwX2_init_26 : List UInt8 := [181, 0, 208, 42, 17, 8, 52, 188, 10, 181, 0, 211, 42, 16, 12, 188, 10, 181, 0, 214, 42, 16, 12]
abbrev dktX2_init_26 : List UInt8 := dkwX2_init_26 ++ dktX2_init_27
def dkwX2_init_25 : List UInt8 := [17, 8, 52, 188, 10, 181, 0, 202, 42, 17, 8, 52, 188, 10, 181, 0, 205, 42, 17, 8, 52, 188, 10]
abbrev dktX2_init_25 : List UInt8 := dkwX2_init_25 ++ dktX2_init_26
def dkwX2_init_24 : List UInt8 := [181, 0, 193, 42, 17, 35, 40, 188, 10, 181, 0, 196, 42, 17, 8, 52, 188, 10, 181, 0, 199, 42]
abbrev dktX2_init_24 : List UInt8 := dkwX2_init_24 ++ dktX2_init_25
def dkwX2_init_23 : List UInt8 := [17, 23, 212, 188, 10, 181, 0, 187, 42, 17, 35, 40, 188, 10, 181, 0, 190, 42, 17, 35, 40, 188, 10]
abbrev dktX2_init_23 : List UInt8 := dkwX2_init_23 ++ dktX2_init_24
def dkwX2_init_22 : List UInt8 := [181, 0, 178, 42, 17, 23, 212, 188, 10, 181, 0, 181, 42, 17, 23, 212, 188, 10, 181, 0, 184, 42]
abbrev dktX2_init_22 : List UInt8 := dkwX2_init_22 ++ dktX2_init_23
def dkwX2_init_21 : List UInt8 := [42, 17, 23, 212, 188, 10, 181, 0, 172, 42, 17, 23, 212, 188, 10, 181, 0, 175, 42, 17, 23, 212, 188, 10]
abbrev dktX2_init_21 : List UInt8 := dkwX2_init_21 ++ dktX2_init_22
def dkwX2_init_20 : List UInt8 := [42, 16, 12, 188, 10, 181, 0, 163, 42, 16, 12, 188, 10, 181, 0, 166, 42, 16, 6, 188, 10, 181, 0, 169]
abbrev dktX2_init_20 : List UInt8 := dkwX2_init_20 ++ dktX2_init_21
def dkwX2_init_19 : List UInt8 := [42, 16, 12, 188, 10, 181, 0, 155, 42, 16, 12, 188, 10, 181, 0, 157, 42, 16, 12, 188, 10, 181, 0, 160]
abbrev dktX2_init_19 : List UInt8 := dkwX2_init_19 ++ dktX2_init_20
def dkwX2_init_18 : List UInt8 := [42, 16, 12, 188, 10, 181, 0, 146, 42, 16, 12, 188, 10, 181, 0, 149, 42, 16, 12, 188, 10, 181, 0, 152]
abbrev dktX2_init_18 : List UInt8 := dkwX2_init_18 ++ dktX2_init_19
def dkwX2_init_17 : List UInt8 := [42, 16, 26, 188, 10, 181, 0, 137, 42, 16, 26, 188, 10, 181, 0, 140, 42, 16, 12, 188, 10, 181, 0, 143]
abbrev dktX2_init_17 : List UInt8 := dkwX2_init_17 ++ dktX2_init_18
def dkwX2_init_16 : List UInt8 := [181, 0, 124, 42, 2, 181, 0, 127, 42, 16, 26, 188, 10, 181, 0, 131, 42, 16, 26, 188, 10, 181, 0, 134]
abbrev dktX2_init_16 : List UInt8 := dkwX2_init_16 ++ dktX2_init_17
def dkwX2_init_15 : List UInt8 := [79, 89, 16, 8, 8, 79, 181, 0, 117, 42, 17, 15, 160, 188, 10, 181, 0, 121, 42, 17, 15, 160, 188, 10]
abbrev dktX2_init_15 : List UInt8 := dkwX2_init_15 ++ dktX2_init_16
def dkwX2_init_14 : List UInt8 := [16, 17, 79, 89, 7, 16, 8, 79, 89, 8, 16, 26, 79, 89, 16, 6, 16, 28, 79, 89, 16, 7, 16, 31]
abbrev dktX2_init_14 : List UInt8 := dkwX2_init_14 ++ dktX2_init_15
def dkwX2_init_13 : List UInt8 := [181, 0, 111, 42, 16, 9, 188, 10, 89, 3, 8, 79, 89, 4, 16, 6, 79, 89, 5, 16, 7, 79, 89, 6]
abbrev dktX2_init_13 : List UInt8 := dkwX2_init_13 ++ dktX2_init_14
def dkwX2_init_12 : List UInt8 := [16, 47, 18, 103, 83, 89, 16, 48, 18, 105, 83, 89, 16, 49, 18, 107, 83, 89, 16, 50, 18, 109, 83]
abbrev dktX2_init_12 : List UInt8 := dkwX2_init_12 ++ dktX2_init_13
def dkwX2_init_11 : List UInt8 := [16, 43, 18, 95, 83, 89, 16, 44, 18, 97, 83, 89, 16, 45, 18, 99, 83, 89, 16, 46, 18, 101, 83, 89]
abbrev dktX2_init_11 : List UInt8 := dkwX2_init_11 ++ dktX2_init_12
def dkwX2_init_10 : List UInt8 := [16, 39, 18, 87, 83, 89, 16, 40, 18, 89, 83, 89, 16, 41, 18, 91, 83, 89, 16, 42, 18, 93, 83, 89]
abbrev dktX2_init_10 : List UInt8 := dkwX2_init_10 ++ dktX2_init_11
def dkwX2_init_9 : List UInt8 := [16, 35, 18, 79, 83, 89, 16, 36, 18, 81, 83, 89, 16, 37, 18, 83, 83, 89, 16, 38, 18, 85, 83, 89]
abbrev dktX2_init_9 : List UInt8 := dkwX2_init_9 ++ dktX2_init_10
def dkwX2_init_8 : List UInt8 := [16, 31, 18, 71, 83, 89, 16, 32, 18, 73, 83, 89, 16, 33, 18, 75, 83, 89, 16, 34, 18, 77, 83, 89]
abbrev dktX2_init_8 : List UInt8 := dkwX2_init_8 ++ dktX2_init_9
def dkwX2_init_7 : List UInt8 := [16, 27, 18, 63, 83, 89, 16, 28, 18, 65, 83, 89, 16, 29, 18, 67, 83, 89, 16, 30, 18, 69, 83, 89]
abbrev dktX2_init_7 : List UInt8 := dkwX2_init_7 ++ dktX2_init_8
def dkwX2_init_6 : List UInt8 := [16, 23, 18, 55, 83, 89, 16, 24, 18, 57, 83, 89, 16, 25, 18, 59, 83, 89, 16, 26, 18, 61, 83, 89]
abbrev dktX2_init_6 : List UInt8 := dkwX2_init_6 ++ dktX2_init_7
def dkwX2_init_5 : List UInt8 := [16, 19, 18, 47, 83, 89, 16, 20, 18, 49, 83, 89, 16, 21, 18, 51, 83, 89, 16, 22, 18, 53, 83, 89]
abbrev dktX2_init_5 : List UInt8 := dkwX2_init_5 ++ dktX2_init_6
def dkwX2_init_4 : List UInt8 := [16, 15, 18, 39, 83, 89, 16, 16, 18, 41, 83, 89, 16, 17, 18, 43, 83, 89, 16, 18, 18, 45, 83, 89]
abbrev dktX2_init_4 : List UInt8 := dkwX2_init_4 ++ dktX2_init_5
def dkwX2_init_3 : List UInt8 := [16, 11, 18, 31, 83, 89, 16, 12, 18, 33, 83, 89, 16, 13, 18, 35, 83, 89, 16, 14, 18, 37, 83, 89]
abbrev dktX2_init_3 : List UInt8 := dkwX2_init_3 ++ dktX2_init_4
def dkwX2_init_2 : List UInt8 := [16, 7, 18, 23, 83, 89, 16, 8, 18, 25, 83, 89, 16, 9, 18, 27, 83, 89, 16, 10, 18, 29, 83, 89]
abbrev dktX2_init_2 : List UInt8 := dkwX2_init_2 ++ dktX2_init_3
def dkwX2_init_1 : List UInt8 := [83, 89, 6, 18, 15, 83, 89, 7, 18, 17, 83, 89, 8, 18, 19, 83, 89, 16, 6, 18, 21, 83, 89]
abbrev dktX2_init_1 : List UInt8 := dkwX2_init_1 ++ dktX2_init_2
def dkwX2_init_0 : List UInt8 := [42, 183, 0, 1, 42, 16, 51, 189, 0, 7, 89, 3, 18, 9, 83, 89, 4, 18, 11, 83, 89, 5, 18, 13]
abbrev dktX2_init_0 : List UInt8 := dkwX2_init_0 ++ dktX2_init_1
theorem dksX2_init_0 : cX2_init.data.toList.drop 0 = dktX2_init_0 := by decide +kernel
theorem dksX2_init_1 : cX2_init.data.toList.drop 24 = dktX2_init_1 := dk_seg dksX2_init_0 24 rfl rfl
theorem dksX2_init_2 : cX2_init.data.toList.drop 47 = dktX2_init_2 := dk_seg dksX2_init_1 23 rfl rfl
theorem dksX2_init_3 : cX2_init.data.toList.drop 71 = dktX2_init_3 := dk_seg dksX2_init_2 24 rfl rfl
theorem dksX2_init_4 : cX2_init.data.toList.drop 95 = dktX2_init_4 := dk_seg dksX2_init_3 24 rfl rfl
theorem dksX2_init_5 : cX2_init.data.toList.drop 119 = dktX2_init_5 := dk_seg dksX2_init_4 24 rfl rfl
theorem dksX2_init_6 : cX2_init.data.toList.drop 143 = dktX2_init_6 := dk_seg dksX2_init_5 24 rfl rfl
theorem dksX2_init_7 : cX2_init.data.toList.drop 167 = dktX2_init_7 := dk_seg dksX2_init_6 24 rfl rfl
theorem dksX2_init_8 : cX2_init.data.toList.drop 191 = dktX2_init_8 := dk_seg dksX2_init_7 24 rfl rfl
theorem dksX2_init_9 : cX2_init.data.toList.drop 215 = dktX2_init_9 := dk_seg dksX2_init_8 24 rfl rfl
theorem dksX2_init_10 : cX2_init.data.toList.drop 239 = dktX2_init_10 := dk_seg dksX2_init_9 24 rfl rfl
theorem dksX2_init_11 : cX2_init.data.toList.drop 263 = dktX2_init_11 := dk_seg dksX2_init_10 24 rfl rfl
theorem dksX2_init_12 : cX2_init.data.toList.drop 287 = dktX2_init_12 := dk_seg dksX2_init_11 24 rfl rfl
theorem dksX2_init_13 : cX2_init.data.toList.drop 310 = dktX2_init_13 := dk_seg dksX2_init_12 23 rfl rfl
theorem dksX2_init_14 : cX2_init.data.toList.drop 334 = dktX2_init_14 := dk_seg dksX2_init_13 24 rfl rfl
theorem dksX2_init_15 : cX2_init.data.toList.drop 358 = dktX2_init_15 := dk_seg dksX2_init_14 24 rfl rfl
theorem dksX2_init_16 : cX2_init.data.toList.drop 382 = dktX2_init_16 := dk_seg dksX2_init_15 24 rfl rfl
theorem dksX2_init_17 : cX2_init.data.toList.drop 406 = dktX2_init_17 := dk_seg dksX2_init_16 24 rfl rfl
theorem dksX2_init_18 : cX2_init.data.toList.drop 430 = dktX2_init_18 := dk_seg dksX2_init_17 24 rfl rfl
theorem dksX2_init_19 : cX2_init.data.toList.drop 454 = dktX2_init_19 := dk_seg dksX2_init_18 24 rfl rfl
theorem dksX2_init_20 : cX2_init.data.toList.drop 478 = dktX2_init_20 := dk_seg dksX2_init_19 24 rfl rfl
theorem dksX2_init_21 : cX2_init.data.toList.drop 502 = dktX2_init_21 := dk_seg dksX2_init_20 24 rfl rfl
theorem dksX2_init_22 : cX2_init.data.toList.drop 526 = dktX2_init_22 := dk_seg dksX2_init_21 24 rfl rfl
theorem dksX2_init_23 : cX2_init.data.toList.drop 548 = dktX2_init_23 := dk_seg dksX2_init_22 22 rfl rfl
theorem dksX2_init_24 : cX2_init.data.toList.drop 571 = dktX2_init_24 := dk_seg dksX2_init_23 23 rfl rfl
theorem dksX2_init_25 : cX2_init.data.toList.drop 593 = dktX2_init_25 := dk_seg dksX2_init_24 22 rfl rfl
theorem dksX2_init_26 : cX2_init.data.toList.drop 616 = dktX2_init_26 := dk_seg dksX2_init_25 23 rfl rfl
theorem dksX2_init_27 : cX2_init.data.toList.drop 639 = dktX2_init_27 := dk_seg dksX2_init_26 23 rfl rfl
theorem dksX2_init_28 : cX2_init.data.toList.drop 663 = dktX2_init_28 := dk_seg dksX2_init_27 24 rfl rfl
theorem dksX2_init_29 : cX2_init.data.toList.drop 687 = dktX2_init_29 := dk_seg dksX2_init_28 24 rfl rfl
theorem dksX2_init_30 : cX2_init.data.toList.drop 711 = dktX2_init_30 := dk_seg dksX2_init_29 24 rfl rfl
theorem dksX2_init_31 : cX2_init.data.toList.drop 735 = dktX2_init_31 := dk_seg dksX2_init_30 24 rfl rfl
theorem dksX2_init_32 : cX2_init.data.toList.drop 757 = dktX2_init_32 := dk_seg dksX2_init_31 22 rfl rfl
theorem dksX2_init_33 : cX2_init.data.toList.drop 781 = dktX2_init_33 := dk_seg dksX2_init_32 24 rfl rfl
theorem dksX2_init_34 : cX2_init.data.toList.drop 803 = dktX2_init_34 := dk_seg dksX2_init_33 22 rfl rfl
theorem dksX2_init_35 : cX2_init.data.toList.drop 827 = dktX2_init_35 := dk_seg dksX2_init_34 24 rfl rfl
theorem dX2_init_0 : decode cX2_init 0 = .ok (.aload_n 0, 1) := dk_42 (dk_at dksX2_init_0 0 rfl rfl)
theorem dX2_init_1 : decode cX2_init 1 = .ok (.invokespecial 1, 3) := dk_183 0 1 (dk_at dksX2_init_0 1 rfl rfl)
theorem dX2_init_4 : decode cX2_init 4 = .ok (.aload_n 0, 1) := dk_42 (dk_at dksX2_init_0 4 rfl rfl)
theorem dX2_init_5 : decode cX2_init 5 = .ok (.bipush 51, 2) := dk_16 51 (dk_at dksX2_init_0 5 rfl rfl)
theorem dX2_init_7 : decode cX2_init 7 = .ok (.anewarray 7, 3) := dk_189 0 7 (dk_at dksX2_init_0 7 rfl rfl)
theorem dX2_init_10 : decode cX2_init 10 = .ok (.dup, 1) := dk_89 (dk_at dksX2_init_0 10 rfl rfl)
theorem dX2_init_11 : decode cX2_init 11 = .ok (.iconst 0, 1) := dk_3 (dk_at dksX2_init_0 11 rfl rfl)
theorem dX2_init_12 : decode cX2_init 12 = .ok (.ldc 9, 2) := dk_18 9 (dk_at dksX2_init_0 12 rfl rfl)
theorem dX2_init_14 : decode cX2_init 14 = .ok (.aastore, 1) := dk_83 (dk_at dksX2_init_0 14 rfl rfl)
theorem dX2_init_15 : decode cX2_init 15 = .ok (.dup, 1) := dk_89 (dk_at dksX2_init_0 15 rfl rfl)
theorem dX2_init_16 : decode cX2_init 16 = .ok (.iconst 1, 1) := dk_4 (dk_at dksX2_init_0 16 rfl rfl)
theorem dX2_init_17 : decode cX2_init 17 = .ok (.ldc 11, 2) := dk_18 11 (dk_at dksX2_init_0 17 rfl rfl)
theorem dX2_init_19 : decode cX2_init 19 = .ok (.aastore, 1) := dk_83 (dk_at dksX2_init_0 19 rfl rfl)
theorem dX2_init_20 : decode cX2_init 20 = .ok (.dup, 1) := dk_89 (dk_at dksX2_init_0 20 rfl rfl)
theorem dX2_init_21 : decode cX2_init 21 = .ok (.iconst 2, 1) := dk_5 (dk_at dksX2_init_0 21 rfl rfl)
theorem dX2_init_22 : decode cX2_init 22 = .ok (.ldc 13, 2) := dk_18 13 (dk_at dksX2_init_0 22 rfl rfl)
theorem dX2_init_24 : decode cX2_init 24 = .ok (.aastore, 1) := dk_83 (dk_at dksX2_init_1 0 rfl rfl)
theorem dX2_init_25 : decode cX2_init 25 = .ok (.dup, 1) := dk_89 (dk_at dksX2_init_1 1 rfl rfl)
theorem dX2_init_26 : decode cX2_init 26 = .ok (.iconst 3, 1) := dk_6 (dk_at dksX2_init_1 2 rfl rfl)
theorem dX2_init_27 : decode cX2_init 27 = .ok (.ldc 15, 2) := dk_18 15 (dk_at dksX2_init_1 3 rfl rfl)
theorem dX2_init_29 : decode cX2_init 29 = .ok (.aastore, 1) := dk_83 (dk_at dksX2_init_1 5 rfl rfl)
theorem dX2_init_30 : decode cX2_init 30 = .ok (.dup, 1) := dk_89 (dk_at dksX2_init_1 6 rfl rfl)
theorem dX2_init_31 : decode cX2_init 31 = .ok (.iconst 4, 1) := dk_7 (dk_at dksX2_init_1 7 rfl rfl)
theorem dX2_init_32 : decode cX2_init 32 = .ok (.ldc 17, 2) := dk_18 17 (dk_at dksX2_init_1 8 rfl rfl)
theorem dX2_init_34 : decode cX2_init 34 = .ok (.aastore, 1) := dk_83 (dk_at dksX2_init_1 10 rfl rfl)
theorem dX2_init_35 : decode cX2_init 35 = .ok (.dup, 1) := dk_89 (dk_at dksX2_init_1 11 rfl rfl)
theorem dX2_init_36 : decode cX2_init 36 = .ok (.iconst 5, 1) := dk_8 (dk_at dksX2_init_1 12 rfl rfl)
theorem dX2_init_37 : decode cX2_init 37 = .ok (.ldc 19, 2) := dk_18 19 (dk_at dksX2_init_1 13 rfl rfl)
theorem dX2_init_39 : decode cX2_init 39 = .ok (.aastore, 1) := dk_83 (dk_at dksX2_init_1 15 rfl rfl)
theorem dX2_init_40 : decode cX2_init 40 = .ok (.dup, 1) := dk_89 (dk_at dksX2_init_1 16 rfl rfl)
theorem dX2_init_41 : decode cX2_init 41 = .ok (.bipush 6, 2) := dk_16 6 (dk_at dksX2_init_1 17 rfl rfl)
theorem dX2_init_43 : decode cX2_init 43 = .ok (.ldc 21, 2) := dk_18 21 (dk_at dksX2_init_1 19 rfl rfl)
theorem dX2_init_45 : decode cX2_init 45 = .ok (.aastore, 1) := dk_83 (dk_at dksX2_init_1 21 rfl rfl)
theorem dX2_init_46 : decode cX2_init 46 = .ok (.dup, 1) := dk_89 (dk_at dksX2_init_1 22 rfl rfl)
theorem dX2_init_47 : decode cX2_init 47 = .ok (.bipush 7, 2) := dk_16 7 (dk_at dksX2_init_2 0 rfl rfl)
theorem dX2_init_49 : decode cX2_init 49 = .ok (.ldc 23, 2) := dk_18 23 (dk_at dksX2_init_2 2 rfl rfl)
theorem dX2_init_51 : decode cX2_init 51 = .ok (.aastore, 1) := dk_83 (dk_at dksX2_init_2 4 rfl rfl)
theorem dX2_init_52 : decode cX2_init 52 = .ok (.dup, 1) := dk_89 (dk_at dksX2_init_2 5 rfl rfl)
theorem dX2_init_53 : decode cX2_init 53 = .ok (.bipush 8, 2) := dk_16 8 (dk_at dksX2_init_2 6 rfl rfl)
theorem dX2_init_55 : decode cX2_init 55 = .ok (.ldc 25, 2) := dk_18 25 (dk_at dksX2_init_2 8 rfl rfl)
theorem dX2_init_57 : decode cX2_init 57 = .ok (.aastore, 1) := dk_83 (dk_at dksX2_init_2 10 rfl rfl)
theorem dX2_init_58 : decode cX2_init 58 = .ok (.dup, 1) := dk_89 (dk_at dksX2_init_2 11 rfl rfl)
theorem dX2_init_59 : decode cX2_init 59 = .ok (.bipush 9, 2) := dk_16 9 (dk_at dksX2_init_2 12 rfl rfl)
theorem dX2_init_61 : decode cX2_init 61 = .ok (.ldc 27, 2) := dk_18 27 (dk_at dksX2_init_2 14 rfl rfl)
theorem dX2_init_63 : decode cX2_init 63 = .ok (.aastore, 1) := dk_83 (dk_at dksX2_init_2 16 rfl rfl)
theorem dX2_init_64 : decode cX2_init 64 = .ok (.dup, 1) := dk_89 (dk_at dksX2_init_2 17 rfl rfl)
theorem dX2_init_65 : decode cX2_init 65 = .ok (.bipush 10, 2) := dk_16 10 (dk_at dksX2_init_2 18 rfl rfl)
theorem dX2_init_67 : decode cX2_init 67 = .ok (.ldc 29, 2) := dk_18 29 (dk_at dksX2_init_2 20 rfl rfl)
theorem dX2_init_69 : decode cX2_init 69 = .ok (.aastore, 1) := dk_83 (dk_at dksX2_init_2 22 rfl rfl)
theorem dX2_init_70 : decode cX2_init 70 = .ok (.dup, 1) := dk_89 (dk_at dksX2_init_2 23 rfl rfl)
theorem dX2_init_71 : decode cX2_init 71 = .ok (.bipush 11, 2) := dk_16 11 (dk_at dksX2_init_3 0 rfl rfl)
theorem dX2_init_73 : decode cX2_init 73 = .ok (.ldc 31, 2) := dk_18 31 (dk_at dksX2_init_3 2 rfl rfl)
theorem dX2_init_75 : decode cX2_init 75 = .ok (.aastore, 1) := dk_83 (dk_at dksX2_init_3 4 rfl rfl)
theorem dX2_init_76 : decode cX2_init 76 = .ok (.dup, 1) := dk_89 (dk_at dksX2_init_3 5 rfl rfl)
theorem dX2_init_77 : decode cX2_init 77 = .ok (.bipush 12, 2) := dk_16 12 (dk_at dksX2_init_3 6 rfl rfl)
theorem dX2_init_79 : decode cX2_init 79 = .ok (.ldc 33, 2) := dk_18 33 (dk_at dksX2_init_3 8 rfl rfl)
theorem dX2_init_81 : decode cX2_init 81 = .ok (.aastore, 1) := dk_83 (dk_at dksX2_init_3 10 rfl rfl)
theorem dX2_init_82 : decode cX2_init 82 = .ok (.dup, 1) := dk_89 (dk_at dksX2_init_3 11 rfl rfl)
theorem dX2_init_83 : decode cX2_init 83 = .ok (.bipush 13, 2) := dk_16 13 (dk_at dksX2_init_3 12 rfl rfl)
theorem dX2_init_85 : decode cX2_init 85 = .ok (.ldc 35, 2) := dk_18 35 (dk_at dksX2_init_3 14 rfl rfl)
theorem dX2_init_87 : decode cX2_init 87 = .ok (.aastore, 1) := dk_83 (dk_at dksX2_init_3 16 rfl rfl)
theorem dX2_init_88 : decode cX2_init 88 = .ok (.dup, 1) := dk_89 (dk_at dksX2_init_3 17 rfl rfl)
theorem dX2_init_89 : decode cX2_init 89 = .ok (.bipush 14, 2) := dk_16 14 (dk_at dksX2_init_3 18 rfl rfl)
theorem dX2_init_91 : decode cX2_init 91 = .ok (.ldc 37, 2) := dk_18 37 (dk_at dksX2_init_3 20 rfl rfl)
theorem dX2_init_93 : decode cX2_init 93 = .ok (.aastore, 1) := dk_83 (dk_at dksX2_init_3 22 rfl rfl)
theorem dX2_init_94 : decode cX2_init 94 = .ok (.dup, 1) := dk_89 (dk_at dksX2_init_3 23 rfl rfl)
theorem dX2_init_95 : decode cX2_init 95 = .ok (.bipush 15, 2) := dk_16 15 (dk_at dksX2_init_4 0 rfl rfl)
theorem dX2_init_97 : decode cX2_init 97 = .ok (.ldc 39, 2) := dk_18 39 (dk_at dksX2_init_4 2 rfl rfl)
theorem dX2_init_99 : decode cX2_init 99 = .ok (.aastore, 1) := dk_83 (dk_at dksX2_init_4 4 rfl rfl)
theorem dX2_init_100 : decode cX2_init 100 = .ok (.dup, 1) := dk_89 (dk_at dksX2_init_4 5 rfl rfl)
theorem dX2_init_101 : decode cX2_init 101 = .ok (.bipush 16, 2) := dk_16 16 (dk_at dksX2_init_4 6 rfl rfl)
theorem dX2_init_103 : decode cX2_init 103 = .ok (.ldc 41, 2) := dk_18 41 (dk_at dksX2_init_4 8 rfl rfl)
theorem dX2_init_105 : decode cX2_init 105 = .ok (.aastore, 1) := dk_83 (dk_at dksX2_init_4 10 rfl rfl)
theorem dX2_init_106 : decode cX2_init 106 = .ok (.dup, 1) := dk_89 (dk_at dksX2_init_4 11 rfl rfl)
theorem dX2_init_107 : decode cX2_init 107 = .ok (.bipush 17, 2) := dk_16 17 (dk_at dksX2_init_4 12 rfl rfl)
theorem dX2_init_109 : decode cX2_init 109 = .ok (.ldc 43, 2) := dk_18 43 (dk_at dksX2_init_4 14 rfl rfl)
theorem dX2_init_111 : decode cX2_init 111 = .ok (.aastore, 1) := dk_83 (dk_at dksX2_init_4 16 rfl rfl)
theorem dX2_init_112 : decode cX2_init 112 = .ok (.dup, 1) := dk_89 (dk_at dksX2_init_4 17 rfl rfl)
theorem dX2_init_113 : decode cX2_init 113 = .ok (.bipush 18, 2) := dk_16 18 (dk_at dksX2_init_4 18 rfl rfl)
theorem dX2_init_115 : decode cX2_init 115 = .ok (.ldc 45, 2) := dk_18 45 (dk_at dksX2_init_4 20 rfl rfl)
theorem dX2_init_117 : decode cX2_init 117 = .ok (.aastore, 1) := dk_83 (dk_at dksX2_init_4 22 rfl rfl)
theorem dX2_init_118 : decode cX2_init 118 = .ok (.dup, 1) := dk_89 (dk_at dksX2_init_4 23 rfl rfl)
theorem dX2_init_119 : decode cX2_init 119 = .ok (.bipush 19, 2) := dk_16 19 (dk_at dksX2_init_5 0 rfl rfl)
theorem dX2_init_121 : decode cX2_init 121 = .ok (.ldc 47, 2) := dk_18 47 (dk_at dksX2_init_5 2 rfl rfl)
theorem dX2_init_123 : decode cX2_init 123 = .ok (.aastore, 1) := dk_83 (dk_at dksX2_init_5 4 rfl rfl)
theorem dX2_init_124 : decode cX2_init 124 = .ok (.dup, 1) := dk_89 (dk_at dksX2_init_5 5 rfl rfl)
theorem dX2_init_125 : decode cX2_init 125 = .ok (.bipush 20, 2) := dk_16 20 (dk_at dksX2_init_5 6 rfl rfl)
theorem dX2_init_127 : decode cX2_init 127 = .ok (.ldc 49, 2) := dk_18 49 (dk_at dksX2_init_5 8 rfl rfl)
theorem dX2_init_129 : decode cX2_init 129 = .ok (.aastore, 1) := dk_83 (dk_at dksX2_init_5 10 rfl rfl)
theorem dX2_init_130 : decode cX2_init 130 = .ok (.dup, 1) := dk_89 (dk_at dksX2_init_5 11 rfl rfl)
theorem dX2_init_131 : decode cX2_init 131 = .ok (.bipush 21, 2) := dk_16 21 (dk_at dksX2_init_5 12 rfl rfl)
theorem dX2_init_133 : decode cX2_init 133 = .ok (.ldc 51, 2) := dk_18 51 (dk_at dksX2_init_5 14 rfl rfl)
theorem dX2_init_135 : decode cX2_init 135 = .ok (.aastore, 1) := dk_83 (dk_at dksX2_init_5 16 rfl rfl)
theorem dX2_init_136 : decode cX2_init 136 = .ok (.dup, 1) := dk_89 (dk_at dksX2_init_5 17 rfl rfl)
theorem dX2_init_137 : decode cX2_init 137 = .ok (.bipush 22, 2) := dk_16 22 (dk_at dksX2_init_5 18 rfl rfl)
theorem dX2_init_139 : decode cX2_init 139 = .ok (.ldc 53, 2) := dk_18 53 (dk_at dksX2_init_5 20 rfl rfl)
theorem dX2_init_141 : decode cX2_init 141 = .ok (.aastore, 1) := dk_83 (dk_at dksX2_init_5 22 rfl rfl)
theorem dX2_init_142 : decode cX2_init 142 = .ok (.dup, 1) := dk_89 (dk_at dksX2_init_5 23 rfl rfl)
theorem dX2_init_143 : decode cX2_init 143 = .ok (.bipush 23, 2) := dk_16 23 (dk_at dksX2_init_6 0 rfl rfl)
theorem dX2_init_145 : decode cX2_init 145 = .ok (.ldc 55, 2) := dk_18 55 (dk_at dksX2_init_6 2 rfl rfl)
theorem dX2_init_147 : decode cX2_init 147 = .ok (.aastore, 1) := dk_83 (dk_at dksX2_init_6 4 rfl rfl)
theorem dX2_init_148 : decode cX2_init 148 = .ok (.dup, 1) := dk_89 (dk_at dksX2_init_6 5 rfl rfl)
theorem dX2_init_149 : decode cX2_init 149 = .ok (.bipush 24, 2) := dk_16 24 (dk_at dksX2_init_6 6 rfl rfl)
theorem dX2_init_151 : decode cX2_init 151 = .ok (.ldc 57, 2) := dk_18 57 (dk_at dksX2_init_6 8 rfl rfl)
theorem dX2_init_153 : decode cX2_init 153 = .ok (.aastore, 1) := dk_83 (dk_at dksX2_init_6 10 rfl rfl)
theorem dX2_init_154 : decode cX2_init 154 = .ok (.dup, 1) := dk_89 (dk_at dksX2_init_6 11 rfl rfl)
theorem dX2_init_155 : decode cX2_init 155 = .ok (.bipush 25, 2) := dk_16 25 (dk_at dksX2_init_6 12 rfl rfl)
theorem dX2_init_157 : decode cX2_init 157 = .ok (.ldc 59, 2) := dk_18 59 (dk_at dksX2_init_6 14 rfl rfl)
theorem dX2_init_159 : decode cX2_init 159 = .ok (.aastore, 1) := dk_83 (dk_at dksX2_init_6 16 rfl rfl)
theorem dX2_init_160 : decode cX2_init 160 = .ok (.dup, 1) := dk_89 (dk_at dksX2_init_6 17 rfl rfl)
theorem dX2_init_161 : decode cX2_init 161 = .ok (.bipush 26, 2) := dk_16 26 (dk_at dksX2_init_6 18 rfl rfl)
theorem dX2_init_163 : decode cX2_init 163 = .ok (.ldc 61, 2) := dk_18 61 (dk_at dksX2_init_6 20 rfl rfl)
theorem dX2_init_165 : decode cX2_init 165 = .ok (.aastore, 1) := dk_83 (dk_at dksX2_init_6 22 rfl rfl)
theorem dX2_init_166 : decode cX2_init 166 = .ok (.dup, 1) := dk_89 (dk_at dksX2_init_6 23 rfl rfl)
theorem dX2_init_167 : decode cX2_init 167 = .ok (.bipush 27, 2) := dk_16 27 (dk_at dksX2_init_7 0 rfl rfl)
theorem dX2_init_169 : decode cX2_init 169 = .ok (.ldc 63, 2) := dk_18 63 (dk_at dksX2_init_7 2 rfl rfl)
theorem dX2_init_171 : decode cX2_init 171 = .ok (.aastore, 1) := dk_83 (dk_at dksX2_init_7 4 rfl rfl)
theorem dX2_init_172 : decode cX2_init 172 = .ok (.dup, 1) := dk_89 (dk_at dksX2_init_7 5 rfl rfl)
theorem dX2_init_173 : decode cX2_init 173 = .ok (.bipush 28, 2) := dk_16 28 (dk_at dksX2_init_7 6 rfl rfl)
theorem dX2_init_175 : decode cX2_init 175 = .ok (.ldc 65, 2) := dk_18 65 (dk_at dksX2_init_7 8 rfl rfl)
theorem dX2_init_177 : decode cX2_init 177 = .ok (.aastore, 1) := dk_83 (dk_at dksX2_init_7 10 rfl rfl)
theorem dX2_init_178 : decode cX2_init 178 = .ok (.dup, 1) := dk_89 (dk_at dksX2_init_7 11 rfl rfl)
theorem dX2_init_179 : decode cX2_init 179 = .ok (.bipush 29, 2) := dk_16 29 (dk_at dksX2_init_7 12 rfl rfl)
theorem dX2_init_181 : decode cX2_init 181 = .ok (.ldc 67, 2) := dk_18 67 (dk_at dksX2_init_7 14 rfl rfl)
theorem dX2_init_183 : decode cX2_init 183 = .ok (.aastore, 1) := dk_83 (dk_at dksX2_init_7 16 rfl rfl)
theorem dX2_init_184 : decode cX2_init 184 = .ok (.dup, 1) := dk_89 (dk_at dksX2_init_7 17 rfl rfl)
theorem dX2_init_185 : decode cX2_init 185 = .ok (.bipush 30, 2) := dk_16 30 (dk_at dksX2_init_7 18 rfl rfl)
theorem dX2_init_187 : decode cX2_init 187 = .ok (.ldc 69, 2) := dk_18 69 (dk_at dksX2_init_7 20 rfl rfl)
theorem dX2_init_189 : decode cX2_init 189 = .ok (.aastore, 1) := dk_83 (dk_at dksX2_init_7 22 rfl rfl)
theorem dX2_init_190 : decode cX2_init 190 = .ok (.dup, 1) := dk_89 (dk_at dksX2_init_7 23 rfl rfl)
theorem dX2_init_191 : decode cX2_init 191 = .ok (.bipush 31, 2) := dk_16 31 (dk_at dksX2_init_8 0 rfl rfl)
theorem dX2_init_193 : decode cX2_init 193 = .ok (.ldc 71, 2) := dk_18 71 (dk_at dksX2_init_8 2 rfl rfl)
theorem dX2_init_195 : decode cX2_init 195 = .ok (.aastore, 1) := dk_83 (dk_at dksX2_init_8 4 rfl rfl)
theorem dX2_init_196 : decode cX2_init 196 = .ok (.dup, 1) := dk_89 (dk_at dksX2_init_8 5 rfl rfl)
theorem dX2_init_197 : decode cX2_init 197 = .ok (.bipush 32, 2) := dk_16 32 (dk_at dksX2_init_8 6 rfl rfl)
theorem dX2_init_199 : decode cX2_init 199 = .ok (.ldc 73, 2) := dk_18 73 (dk_at dksX2_init_8 8 rfl rfl)
theorem dX2_init_201 : decode cX2_init 201 = .ok (.aastore, 1) := dk_83 (dk_at dksX2_init_8 10 rfl rfl)
theorem dX2_init_202 : decode cX2_init 202 = .ok (.dup, 1) := dk_89 (dk_at dksX2_init_8 11 rfl rfl)
theorem dX2_init_203 : decode cX2_init 203 = .ok (.bipush 33, 2) := dk_16 33 (dk_at dksX2_init_8 12 rfl rfl)
theorem dX2_init_205 : decode cX2_init 205 = .ok (.ldc 75, 2) := dk_18 75 (dk_at dksX2_init_8 14 rfl rfl)
theorem dX2_init_207 : decode cX2_init 207 = .ok (.aastore, 1) := dk_83 (dk_at dksX2_init_8 16 rfl rfl)
theorem dX2_init_208 : decode cX2_init 208 = .ok (.dup, 1) := dk_89 (dk_at dksX2_init_8 17 rfl rfl)
theorem dX2_init_209 : decode cX2_init 209 = .ok (.bipush 34, 2) := dk_16 34 (dk_at dksX2_init_8 18 rfl rfl)
theorem dX2_init_211 : decode cX2_init 211 = .ok (.ldc 77, 2) := dk_18 77 (dk_at dksX2_init_8 20 rfl rfl)
theorem dX2_init_213 : decode cX2_init 213 = .ok (.aastore, 1) := dk_83 (dk_at dksX2_init_8 22 rfl rfl)
theorem dX2_init_214 : decode cX2_init 214 = .ok (.dup, 1) := dk_89 (dk_at dksX2_init_8 23 rfl rfl)
theorem dX2_init_215 : decode cX2_init 215 = .ok (.bipush 35, 2) := dk_16 35 (dk_at dksX2_init_9 0 rfl rfl)
theorem dX2_init_217 : decode cX2_init 217 = .ok (.ldc 79, 2) := dk_18 79 (dk_at dksX2_init_9 2 rfl rfl)
theorem dX2_init_219 : decode cX2_init 219 = .ok (.aastore, 1) := dk_83 (dk_at dksX2_init_9 4 rfl rfl)
theorem dX2_init_220 : decode cX2_init 220 = .ok (.dup, 1) := dk_89 (dk_at dksX2_init_9 5 rfl rfl)
theorem dX2_init_221 : decode cX2_init 221 = .ok (.bipush 36, 2) := dk_16 36 (dk_at dksX2_init_9 6 rfl rfl)
theorem dX2_init_223 : decode cX2_init 223 = .ok (.ldc 81, 2) := dk_18 81 (dk_at dksX2_init_9 8 rfl rfl)
theorem dX2_init_225 : decode cX2_init 225 = .ok (.aastore, 1) := dk_83 (dk_at dksX2_init_9 10 rfl rfl)
theorem dX2_init_226 : decode cX2_init 226 = .ok (.dup, 1) := dk_89 (dk_at dksX2_init_9 11 rfl rfl)
theorem dX2_init_227 : decode cX2_init 227 = .ok (.bipush 37, 2) := dk_16 37 (dk_at dksX2_init_9 12 rfl rfl)
theorem dX2_init_229 : decode cX2_init 229 = .ok (.ldc 83, 2) := dk_18 83 (dk_at dksX2_init_9 14 rfl rfl)
theorem dX2_init_231 : decode cX2_init 231 = .ok (.aastore, 1) := dk_83 (dk_at dksX2_init_9 16 rfl rfl)
theorem dX2_init_232 : decode cX2_init 232 = .ok (.dup, 1) := dk_89 (dk_at dksX2_init_9 17 rfl rfl)
theorem dX2_init_233 : decode cX2_init 233 = .ok (.bipush 38, 2) := dk_16 38 (dk_at dksX2_init_9 18 rfl rfl)
theorem dX2_init_235 : decode cX2_init 235 = .ok (.ldc 85, 2) := dk_18 85 (dk_at dksX2_init_9 20 rfl rfl)
theorem dX2_init_237 : decode cX2_init 237 = .ok (.aastore, 1) := dk_83 (dk_at dksX2_init_9 22 rfl rfl)
theorem dX2_init_238 : decode cX2_init 238 = .ok (.dup, 1) := dk_89 (dk_at dksX2_init_9 23 rfl rfl)
theorem dX2_init_239 : decode cX2_init 239 = .ok (.bipush 39, 2) := dk_16 39 (dk_at dksX2_init_10 0 rfl rfl)
theorem dX2_init_241 : decode cX2_init 241 = .ok (.ldc 87, 2) := dk_18 87 (dk_at dksX2_init_10 2 rfl rfl)
theorem dX2_init_243 : decode cX2_init 243 = .ok (.aastore, 1) := dk_83 (dk_at dksX2_init_10 4 rfl rfl)
theorem dX2_init_244 : decode cX2_init 244 = .ok (.dup, 1) := dk_89 (dk_at dksX2_init_10 5 rfl rfl)
theorem dX2_init_245 : decode cX2_init 245 = .ok (.bipush 40, 2) := dk_16 40 (dk_at dksX2_init_10 6 rfl rfl)
theorem dX2_init_247 : decode cX2_init 247 = .ok (.ldc 89, 2) := dk_18 89 (dk_at dksX2_init_10 8 rfl rfl)
theorem dX2_init_249 : decode cX2_init 249 = .ok (.aastore, 1) := dk_83 (dk_at dksX2_init_10 10 rfl rfl)
theorem dX2_init_250 : decode cX2_init 250 = .ok (.dup, 1) := dk_89 (dk_at dksX2_init_10 11 rfl rfl)
theorem dX2_init_251 : decode cX2_init 251 = .ok (.bipush 41, 2) := dk_16 41 (dk_at dksX2_init_10 12 rfl rfl)
theorem dX2_init_253 : decode cX2_init 253 = .ok (.ldc 91, 2) := dk_18 91 (dk_at dksX2_init_10 14 rfl rfl)
theorem dX2_init_255 : decode cX2_init 255 = .ok (.aastore, 1) := dk_83 (dk_at dksX2_init_10 16 rfl rfl)
theorem dX2_init_256 : decode cX2_init 256 = .ok (.dup, 1) := dk_89 (dk_at dksX2_init_10 17 rfl rfl)
theorem dX2_init_257 : decode cX2_init 257 = .ok (.bipush 42, 2) := dk_16 42 (dk_at dksX2_init_10 18 rfl rfl)
theorem dX2_init_259 : decode cX2_init 259 = .ok (.ldc 93, 2) := dk_18 93 (dk_at dksX2_init_10 20 rfl rfl)
theorem dX2_init_261 : decode cX2_init 261 = .ok (.aastore, 1) := dk_83 (dk_at dksX2_init_10 22 rfl rfl)
theorem dX2_init_262 : decode cX2_init 262 = .ok (.dup, 1) := dk_89 (dk_at dksX2_init_10 23 rfl rfl)
theorem dX2_init_263 : decode cX2_init 263 = .ok (.bipush 43, 2) := dk_16 43 (dk_at dksX2_init_11 0 rfl rfl)
theorem dX2_init_265 : decode cX2_init 265 = .ok (.ldc 95, 2) := dk_18 95 (dk_at dksX2_init_11 2 rfl rfl)
theorem dX2_init_267 : decode cX2_init 267 = .ok (.aastore, 1) := dk_83 (dk_at dksX2_init_11 4 rfl rfl)
theorem dX2_init_268 : decode cX2_init 268 = .ok (.dup, 1) := dk_89 (dk_at dksX2_init_11 5 rfl rfl)
theorem dX2_init_269 : decode cX2_init 269 = .ok (.bipush 44, 2) := dk_16 44 (dk_at dksX2_init_11 6 rfl rfl)
theorem dX2_init_271 : decode cX2_init 271 = .ok (.ldc 97, 2) := dk_18 97 (dk_at dksX2_init_11 8 rfl rfl)
theorem dX2_init_273 : decode cX2_init 273 = .ok (.aastore, 1) := dk_83 (dk_at dksX2_init_11 10 rfl rfl)
theorem dX2_init_274 : decode cX2_init 274 = .ok (.dup, 1) := dk_89 (dk_at dksX2_init_11 11 rfl rfl)
theorem dX2_init_275 : decode cX2_init 275 = .ok (.bipush 45, 2) := dk_16 45 (dk_at dksX2_init_11 12 rfl rfl)
theorem dX2_init_277 : decode cX2_init 277 = .ok (.ldc 99, 2) := dk_18 99 (dk_at dksX2_init_11 14 rfl rfl)
theorem dX2_init_279 : decode cX2_init 279 = .ok (.aastore, 1) := dk_83 (dk_at dksX2_init_11 16 rfl rfl)
theorem dX2_init_280 : decode cX2_init 280 = .ok (.dup, 1) := dk_89 (dk_at dksX2_init_11 17 rfl rfl)
theorem dX2_init_281 : decode cX2_init 281 = .ok (.bipush 46, 2) := dk_16 46 (dk_at dksX2_init_11 18 rfl rfl)
theorem dX2_init_283 : decode cX2_init 283 = .ok (.ldc 101, 2) := dk_18 101 (dk_at dksX2_init_11 20 rfl rfl)
theorem dX2_init_285 : decode cX2_init 285 = .ok (.aastore, 1) := dk_83 (dk_at dksX2_init_11 22 rfl rfl)
theorem dX2_init_286 : decode cX2_init 286 = .ok (.dup, 1) := dk_89 (dk_at dksX2_init_11 23 rfl rfl)
theorem dX2_init_287 : decode cX2_init 287 = .ok (.bipush 47, 2) := dk_16 47 (dk_at dksX2_init_12 0 rfl rfl)
theorem dX2_init_289 : decode cX2_init 289 = .ok (.ldc 103, 2) := dk_18 103 (dk_at dksX2_init_12 2 rfl rfl)
theorem dX2_init_291 : decode cX2_init 291 = .ok (.aastore, 1) := dk_83 (dk_at dksX2_init_12 4 rfl rfl)
theorem dX2_init_292 : decode cX2_init 292 = .ok (.dup, 1) := dk_89 (dk_at dksX2_init_12 5 rfl rfl)
theorem dX2_init_293 : decode cX2_init 293 = .ok (.bipush 48, 2) := dk_16 48 (dk_at dksX2_init_12 6 rfl rfl)
theorem dX2_init_295 : decode cX2_init 295 = .ok (.ldc 105, 2) := dk_18 105 (dk_at dksX2_init_12 8 rfl rfl)
theorem dX2_init_297 : decode cX2_init 297 = .ok (.aastore, 1) := dk_83 (dk_at dksX2_init_12 10 rfl rfl)
theorem dX2_init_298 : decode cX2_init 298 = .ok (.dup, 1) := dk_89 (dk_at dksX2_init_12 11 rfl rfl)
theorem dX2_init_299 : decode cX2_init 299 = .ok (.bipush 49, 2) := dk_16 49 (dk_at dksX2_init_12 12 rfl rfl)
theorem dX2_init_301 : decode cX2_init 301 = .ok (.ldc 107, 2) := dk_18 107 (dk_at dksX2_init_12 14 rfl rfl)
theorem dX2_init_303 : decode cX2_init 303 = .ok (.aastore, 1) := dk_83 (dk_at dksX2_init_12 16 rfl rfl)
theorem dX2_init_304 : decode cX2_init 304 = .ok (.dup, 1) := dk_89 (dk_at dksX2_init_12 17 rfl rfl)
theorem dX2_init_305 : decode cX2_init 305 = .ok (.bipush 50, 2) := dk_16 50 (dk_at dksX2_init_12 18 rfl rfl)
theorem dX2_init_307 : decode cX2_init 307 = .ok (.ldc 109, 2) := dk_18 109 (dk_at dksX2_init_12 20 rfl rfl)
theorem dX2_init_309 : decode cX2_init 309 = .ok (.aastore, 1) := dk_83 (dk_at dksX2_init_12 22 rfl rfl)
theorem dX2_init_310 : decode cX2_init 310 = .ok (.putfield 111, 3) := dk_181 0 111 (dk_at dksX2_init_13 0 rfl rfl)
theorem dX2_init_313 : decode cX2_init 313 = .ok (.aload_n 0, 1) := dk_42 (dk_at dksX2_init_13 3 rfl rfl)
theorem dX2_init_314 : decode cX2_init 314 = .ok (.bipush 9, 2) := dk_16 9 (dk_at dksX2_init_13 4 rfl rfl)
theorem dX2_init_316 : decode cX2_init 316 = .ok (.newarray .int, 2) := dk_188_10 (dk_at dksX2_init_13 6 rfl rfl)
theorem dX2_init_318 : decode cX2_init 318 = .ok (.dup, 1) := dk_89 (dk_at dksX2_init_13 8 rfl rfl)
theorem dX2_init_319 : decode cX2_init 319 = .ok (.iconst 0, 1) := dk_3 (dk_at dksX2_init_13 9 rfl rfl)
theorem dX2_init_320 : decode cX2_init 320 = .ok (.iconst 5, 1) := dk_8 (dk_at dksX2_init_13 10 rfl rfl)
theorem dX2_init_321 : decode cX2_init 321 = .ok (.iastore, 1) := dk_79 (dk_at dksX2_init_13 11 rfl rfl)
theorem dX2_init_322 : decode cX2_init 322 = .ok (.dup, 1) := dk_89 (dk_at dksX2_init_13 12 rfl rfl)
theorem dX2_init_323 : decode cX2_init 323 = .ok (.iconst 1, 1) := dk_4 (dk_at dksX2_init_13 13 rfl rfl)
theorem dX2_init_324 : decode cX2_init 324 = .ok (.bipush 6, 2) := dk_16 6 (dk_at dksX2_init_13 14 rfl rfl)
theorem dX2_init_326 : decode cX2_init 326 = .ok (.iastore, 1) := dk_79 (dk_at dksX2_init_13 16 rfl rfl)
theorem dX2_init_327 : decode cX2_init 327 = .ok (.dup, 1) := dk_89 (dk_at dksX2_init_13 17 rfl rfl)
theorem dX2_init_328 : decode cX2_init 328 = .ok (.iconst 2, 1) := dk_5 (dk_at dksX2_init_13 18 rfl rfl)
theorem dX2_init_329 : decode cX2_init 329 = .ok (.bipush 7, 2) := dk_16 7 (dk_at dksX2_init_13 19 rfl rfl)
theorem dX2_init_331 : decode cX2_init 331 = .ok (.iastore, 1) := dk_79 (dk_at dksX2_init_13 21 rfl rfl)
theorem dX2_init_332 : decode cX2_init 332 = .ok (.dup, 1) := dk_89 (dk_at dksX2_init_13 22 rfl rfl)
theorem dX2_init_333 : decode cX2_init 333 = .ok (.iconst 3, 1) := dk_6 (dk_at dksX2_init_13 23 rfl rfl)
theorem dX2_init_334 : decode cX2_init 334 = .ok (.bipush 17, 2) := dk_16 17 (dk_at dksX2_init_14 0 rfl rfl)
theorem dX2_init_336 : decode cX2_init 336 = .ok (.iastore, 1) := dk_79 (dk_at dksX2_init_14 2 rfl rfl)
theorem dX2_init_337 : decode cX2_init 337 = .ok (.dup, 1) := dk_89 (dk_at dksX2_init_14 3 rfl rfl)
theorem dX2_init_338 : decode cX2_init 338 = .ok (.iconst 4, 1) := dk_7 (dk_at dksX2_init_14 4 rfl rfl)
theorem dX2_init_339 : decode cX2_init 339 = .ok (.bipush 8, 2) := dk_16 8 (dk_at dksX2_init_14 5 rfl rfl)
theorem dX2_init_341 : decode cX2_init 341 = .ok (.iastore, 1) := dk_79 (dk_at dksX2_init_14 7 rfl rfl)
theorem dX2_init_342 : decode cX2_init 342 = .ok (.dup, 1) := dk_89 (dk_at dksX2_init_14 8 rfl rfl)
theorem dX2_init_343 : decode cX2_init 343 = .ok (.iconst 5, 1) := dk_8 (dk_at dksX2_init_14 9 rfl rfl)
theorem dX2_init_344 : decode cX2_init 344 = .ok (.bipush 26, 2) := dk_16 26 (dk_at dksX2_init_14 10 rfl rfl)
theorem dX2_init_346 : decode cX2_init 346 = .ok (.iastore, 1) := dk_79 (dk_at dksX2_init_14 12 rfl rfl)
theorem dX2_init_347 : decode cX2_init 347 = .ok (.dup, 1) := dk_89 (dk_at dksX2_init_14 13 rfl rfl)
theorem dX2_init_348 : decode cX2_init 348 = .ok (.bipush 6, 2) := dk_16 6 (dk_at dksX2_init_14 14 rfl rfl)
theorem dX2_init_350 : decode cX2_init 350 = .ok (.bipush 28, 2) := dk_16 28 (dk_at dksX2_init_14 16 rfl rfl)
theorem dX2_init_352 : decode cX2_init 352 = .ok (.iastore, 1) := dk_79 (dk_at dksX2_init_14 18 rfl rfl)
theorem dX2_init_353 : decode cX2_init 353 = .ok (.dup, 1) := dk_89 (dk_at dksX2_init_14 19 rfl rfl)
theorem dX2_init_354 : decode cX2_init 354 = .ok (.bipush 7, 2) := dk_16 7 (dk_at dksX2_init_14 20 rfl rfl)
theorem dX2_init_356 : decode cX2_init 356 = .ok (.bipush 31, 2) := dk_16 31 (dk_at dksX2_init_14 22 rfl rfl)
theorem dX2_init_358 : decode cX2_init 358 = .ok (.iastore, 1) := dk_79 (dk_at dksX2_init_15 0 rfl rfl)
theorem dX2_init_359 : decode cX2_init 359 = .ok (.dup, 1) := dk_89 (dk_at dksX2_init_15 1 rfl rfl)
theorem dX2_init_360 : decode cX2_init 360 = .ok (.bipush 8, 2) := dk_16 8 (dk_at dksX2_init_15 2 rfl rfl)
theorem dX2_init_362 : decode cX2_init 362 = .ok (.iconst 5, 1) := dk_8 (dk_at dksX2_init_15 4 rfl rfl)
theorem dX2_init_363 : decode cX2_init 363 = .ok (.iastore, 1) := dk_79 (dk_at dksX2_init_15 5 rfl rfl)
theorem dX2_init_364 : decode cX2_init 364 = .ok (.putfield 117, 3) := dk_181 0 117 (dk_at dksX2_init_15 6 rfl rfl)
theorem dX2_init_367 : decode cX2_init 367 = .ok (.aload_n 0, 1) := dk_42 (dk_at dksX2_init_15 9 rfl rfl)
theorem dX2_init_368 : decode cX2_init 368 = .ok (.sipush 4000, 3) := dk_17 15 160 (dk_at dksX2_init_15 10 rfl rfl)
theorem dX2_init_371 : decode cX2_init 371 = .ok (.newarray .int, 2) := dk_188_10 (dk_at dksX2_init_15 13 rfl rfl)
theorem dX2_init_373 : decode cX2_init 373 = .ok (.putfield 121, 3) := dk_181 0 121 (dk_at dksX2_init_15 15 rfl rfl)
theorem dX2_init_376 : decode cX2_init 376 = .ok (.aload_n 0, 1) := dk_42 (dk_at dksX2_init_15 18 rfl rfl)
theorem dX2_init_377 : decode cX2_init 377 = .ok (.sipush 4000, 3) := dk_17 15 160 (dk_at dksX2_init_15 19 rfl rfl)
theorem dX2_init_380 : decode cX2_init 380 = .ok (.newarray .int, 2) := dk_188_10 (dk_at dksX2_init_15 22 rfl rfl)
theorem dX2_init_382 : decode cX2_init 382 = .ok (.putfield 124, 3) := dk_181 0 124 (dk_at dksX2_init_16 0 rfl rfl)
theorem dX2_init_385 : decode cX2_init 385 = .ok (.aload_n 0, 1) := dk_42 (dk_at dksX2_init_16 3 rfl rfl)
theorem dX2_init_386 : decode cX2_init 386 = .ok (.iconst (-1), 1) := dk_2 (dk_at dksX2_init_16 4 rfl rfl)
theorem dX2_init_387 : decode cX2_init 387 = .ok (.putfield 127, 3) := dk_181 0 127 (dk_at dksX2_init_16 5 rfl rfl)
theorem dX2_init_390 : decode cX2_init 390 = .ok (.aload_n 0, 1) := dk_42 (dk_at dksX2_init_16 8 rfl rfl)
theorem dX2_init_391 : decode cX2_init 391 = .ok (.bipush 26, 2) := dk_16 26 (dk_at dksX2_init_16 9 rfl rfl)
theorem dX2_init_393 : decode cX2_init 393 = .ok (.newarray .int, 2) := dk_188_10 (dk_at dksX2_init_16 11 rfl rfl)
theorem dX2_init_395 : decode cX2_init 395 = .ok (.putfield 131, 3) := dk_181 0 131 (dk_at dksX2_init_16 13 rfl rfl)
theorem dX2_init_398 : decode cX2_init 398 = .ok (.aload_n 0, 1) := dk_42 (dk_at dksX2_init_16 16 rfl rfl)
theorem dX2_init_399 : decode cX2_init 399 = .ok (.bipush 26, 2) := dk_16 26 (dk_at dksX2_init_16 17 rfl rfl)
theorem dX2_init_401 : decode cX2_init 401 = .ok (.newarray .int, 2) := dk_188_10 (dk_at dksX2_init_16 19 rfl rfl)
theorem dX2_init_403 : decode cX2_init 403 = .ok (.putfield 134, 3) := dk_181 0 134 (dk_at dksX2_init_16 21 rfl rfl)
theorem dX2_init_406 : decode cX2_init 406 = .ok (.aload_n 0, 1) := dk_42 (dk_at dksX2_init_17 0 rfl rfl)
theorem dX2_init_407 : decode cX2_init 407 = .ok (.bipush 26, 2) := dk_16 26 (dk_at dksX2_init_17 1 rfl rfl)
theorem dX2_init_409 : decode cX2_init 409 = .ok (.newarray .int, 2) := dk_188_10 (dk_at dksX2_init_17 3 rfl rfl)
theorem dX2_init_411 : decode cX2_init 411 = .ok (.putfield 137, 3) := dk_181 0 137 (dk_at dksX2_init_17 5 rfl rfl)
theorem dX2_init_414 : decode cX2_init 414 = .ok (.aload_n 0, 1) := dk_42 (dk_at dksX2_init_17 8 rfl rfl)
theorem dX2_init_415 : decode cX2_init 415 = .ok (.bipush 26, 2) := dk_16 26 (dk_at dksX2_init_17 9 rfl rfl)
theorem dX2_init_417 : decode cX2_init 417 = .ok (.newarray .int, 2) := dk_188_10 (dk_at dksX2_init_17 11 rfl rfl)
theorem dX2_init_419 : decode cX2_init 419 = .ok (.putfield 140, 3) := dk_181 0 140 (dk_at dksX2_init_17 13 rfl rfl)
theorem dX2_init_422 : decode cX2_init 422 = .ok (.aload_n 0, 1) := dk_42 (dk_at dksX2_init_17 16 rfl rfl)
theorem dX2_init_423 : decode cX2_init 423 = .ok (.bipush 12, 2) := dk_16 12 (dk_at dksX2_init_17 17 rfl rfl)
theorem dX2_init_425 : decode cX2_init 425 = .ok (.newarray .int, 2) := dk_188_10 (dk_at dksX2_init_17 19 rfl rfl)
theorem dX2_init_427 : decode cX2_init 427 = .ok (.putfield 143, 3) := dk_181 0 143 (dk_at dksX2_init_17 21 rfl rfl)
theorem dX2_init_430 : decode cX2_init 430 = .ok (.aload_n 0, 1) := dk_42 (dk_at dksX2_init_18 0 rfl rfl)
theorem dX2_init_431 : decode cX2_init 431 = .ok (.bipush 12, 2) := dk_16 12 (dk_at dksX2_init_18 1 rfl rfl)
theorem dX2_init_433 : decode cX2_init 433 = .ok (.newarray .int, 2) := dk_188_10 (dk_at dksX2_init_18 3 rfl rfl)
theorem dX2_init_435 : decode cX2_init 435 = .ok (.putfield 146, 3) := dk_181 0 146 (dk_at dksX2_init_18 5 rfl rfl)
theorem dX2_init_438 : decode cX2_init 438 = .ok (.aload_n 0, 1) := dk_42 (dk_at dksX2_init_18 8 rfl rfl)
theorem dX2_init_439 : decode cX2_init 439 = .ok (.bipush 12, 2) := dk_16 12 (dk_at dksX2_init_18 9 rfl rfl)
theorem dX2_init_441 : decode cX2_init 441 = .ok (.newarray .int, 2) := dk_188_10 (dk_at dksX2_init_18 11 rfl rfl)
theorem dX2_init_443 : decode cX2_init 443 = .ok (.putfield 149, 3) := dk_181 0 149 (dk_at dksX2_init_18 13 rfl rfl)
theorem dX2_init_446 : decode cX2_init 446 = .ok (.aload_n 0, 1) := dk_42 (dk_at dksX2_init_18 16 rfl rfl)
theorem dX2_init_447 : decode cX2_init 447 = .ok (.bipush 12, 2) := dk_16 12 (dk_at dksX2_init_18 17 rfl rfl)
theorem dX2_init_449 : decode cX2_init 449 = .ok (.newarray .int, 2) := dk_188_10 (dk_at dksX2_init_18 19 rfl rfl)
theorem dX2_init_451 : decode cX2_init 451 = .ok (.putfield 152, 3) := dk_181 0 152 (dk_at dksX2_init_18 21 rfl rfl)
theorem dX2_init_454 : decode cX2_init 454 = .ok (.aload_n 0, 1) := dk_42 (dk_at dksX2_init_19 0 rfl rfl)
theorem dX2_init_455 : decode cX2_init 455 = .ok (.bipush 12, 2) := dk_16 12 (dk_at dksX2_init_19 1 rfl rfl)
theorem dX2_init_457 : decode cX2_init 457 = .ok (.newarray .int, 2) := dk_188_10 (dk_at dksX2_init_19 3 rfl rfl)
theorem dX2_init_459 : decode cX2_init 459 = .ok (.putfield 155, 3) := dk_181 0 155 (dk_at dksX2_init_19 5 rfl rfl)
theorem dX2_init_462 : decode cX2_init 462 = .ok (.aload_n 0, 1) := dk_42 (dk_at dksX2_init_19 8 rfl rfl)
theorem dX2_init_463 : decode cX2_init 463 = .ok (.bipush 12, 2) := dk_16 12 (dk_at dksX2_init_19 9 rfl rfl)
theorem dX2_init_465 : decode cX2_init 465 = .ok (.newarray .int, 2) := dk_188_10 (dk_at dksX2_init_19 11 rfl rfl)
theorem dX2_init_467 : decode cX2_init 467 = .ok (.putfield 157, 3) := dk_181 0 157 (dk_at dksX2_init_19 13 rfl rfl)
theorem dX2_init_470 : decode cX2_init 470 = .ok (.aload_n 0, 1) := dk_42 (dk_at dksX2_init_19 16 rfl rfl)
theorem dX2_init_471 : decode cX2_init 471 = .ok (.bipush 12, 2) := dk_16 12 (dk_at dksX2_init_19 17 rfl rfl)
theorem dX2_init_473 : decode cX2_init 473 = .ok (.newarray .int, 2) := dk_188_10 (dk_at dksX2_init_19 19 rfl rfl)
theorem dX2_init_475 : decode cX2_init 475 = .ok (.putfield 160, 3) := dk_181 0 160 (dk_at dksX2_init_19 21 rfl rfl)
theorem dX2_init_478 : decode cX2_init 478 = .ok (.aload_n 0, 1) := dk_42 (dk_at dksX2_init_20 0 rfl rfl)
theorem dX2_init_479 : decode cX2_init 479 = .ok (.bipush 12, 2) := dk_16 12 (dk_at dksX2_init_20 1 rfl rfl)
theorem dX2_init_481 : decode cX2_init 481 = .ok (.newarray .int, 2) := dk_188_10 (dk_at dksX2_init_20 3 rfl rfl)
theorem dX2_init_483 : decode cX2_init 483 = .ok (.putfield 163, 3) := dk_181 0 163 (dk_at dksX2_init_20 5 rfl rfl)
theorem dX2_init_486 : decode cX2_init 486 = .ok (.aload_n 0, 1) := dk_42 (dk_at dksX2_init_20 8 rfl rfl)
theorem dX2_init_487 : decode cX2_init 487 = .ok (.bipush 12, 2) := dk_16 12 (dk_at dksX2_init_20 9 rfl rfl)
theorem dX2_init_489 : decode cX2_init 489 = .ok (.newarray .int, 2) := dk_188_10 (dk_at dksX2_init_20 11 rfl rfl)
theorem dX2_init_491 : decode cX2_init 491 = .ok (.putfield 166, 3) := dk_181 0 166 (dk_at dksX2_init_20 13 rfl rfl)
theorem dX2_init_494 : decode cX2_init 494 = .ok (.aload_n 0, 1) := dk_42 (dk_at dksX2_init_20 16 rfl rfl)
theorem dX2_init_495 : decode cX2_init 495 = .ok (.bipush 6, 2) := dk_16 6 (dk_at dksX2_init_20 17 rfl rfl)
theorem dX2_init_497 : decode cX2_init 497 = .ok (.newarray .int, 2) := dk_188_10 (dk_at dksX2_init_20 19 rfl rfl)
theorem dX2_init_499 : decode cX2_init 499 = .ok (.putfield 169, 3) := dk_181 0 169 (dk_at dksX2_init_20 21 rfl rfl)
theorem dX2_init_502 : decode cX2_init 502 = .ok (.aload_n 0, 1) := dk_42 (dk_at dksX2_init_21 0 rfl rfl)
theorem dX2_init_503 : decode cX2_init 503 = .ok (.sipush 6100, 3) := dk_17 23 212 (dk_at dksX2_init_21 1 rfl rfl)
theorem dX2_init_506 : decode cX2_init 506 = .ok (.newarray .int, 2) := dk_188_10 (dk_at dksX2_init_21 4 rfl rfl)
theorem dX2_init_508 : decode cX2_init 508 = .ok (.putfield 172, 3) := dk_181 0 172 (dk_at dksX2_init_21 6 rfl rfl)
theorem dX2_init_511 : decode cX2_init 511 = .ok (.aload_n 0, 1) := dk_42 (dk_at dksX2_init_21 9 rfl rfl)
theorem dX2_init_512 : decode cX2_init 512 = .ok (.sipush 6100, 3) := dk_17 23 212 (dk_at dksX2_init_21 10 rfl rfl)
theorem dX2_init_515 : decode cX2_init 515 = .ok (.newarray .int, 2) := dk_188_10 (dk_at dksX2_init_21 13 rfl rfl)
theorem dX2_init_517 : decode cX2_init 517 = .ok (.putfield 175, 3) := dk_181 0 175 (dk_at dksX2_init_21 15 rfl rfl)
theorem dX2_init_520 : decode cX2_init 520 = .ok (.aload_n 0, 1) := dk_42 (dk_at dksX2_init_21 18 rfl rfl)
theorem dX2_init_521 : decode cX2_init 521 = .ok (.sipush 6100, 3) := dk_17 23 212 (dk_at dksX2_init_21 19 rfl rfl)
theorem dX2_init_524 : decode cX2_init 524 = .ok (.newarray .int, 2) := dk_188_10 (dk_at dksX2_init_21 22 rfl rfl)
theorem dX2_init_526 : decode cX2_init 526 = .ok (.putfield 178, 3) := dk_181 0 178 (dk_at dksX2_init_22 0 rfl rfl)
theorem dX2_init_529 : decode cX2_init 529 = .ok (.aload_n 0, 1) := dk_42 (dk_at dksX2_init_22 3 rfl rfl)
theorem dX2_init_530 : decode cX2_init 530 = .ok (.sipush 6100, 3) := dk_17 23 212 (dk_at dksX2_init_22 4 rfl rfl)
theorem dX2_init_533 : decode cX2_init 533 = .ok (.newarray .int, 2) := dk_188_10 (dk_at dksX2_init_22 7 rfl rfl)
theorem dX2_init_535 : decode cX2_init 535 = .ok (.putfield 181, 3) := dk_181 0 181 (dk_at dksX2_init_22 9 rfl rfl)
theorem dX2_init_538 : decode cX2_init 538 = .ok (.aload_n 0, 1) := dk_42 (dk_at dksX2_init_22 12 rfl rfl)
theorem dX2_init_539 : decode cX2_init 539 = .ok (.sipush 6100, 3) := dk_17 23 212 (dk_at dksX2_init_22 13 rfl rfl)
theorem dX2_init_542 : decode cX2_init 542 = .ok (.newarray .int, 2) := dk_188_10 (dk_at dksX2_init_22 16 rfl rfl)
theorem dX2_init_544 : decode cX2_init 544 = .ok (.putfield 184, 3) := dk_181 0 184 (dk_at dksX2_init_22 18 rfl rfl)
theorem dX2_init_547 : decode cX2_init 547 = .ok (.aload_n 0, 1) := dk_42 (dk_at dksX2_init_22 21 rfl rfl)
theorem dX2_init_548 : decode cX2_init 548 = .ok (.sipush 6100, 3) := dk_17 23 212 (dk_at dksX2_init_23 0 rfl rfl)
theorem dX2_init_551 : decode cX2_init 551 = .ok (.newarray .int, 2) := dk_188_10 (dk_at dksX2_init_23 3 rfl rfl)
theorem dX2_init_553 : decode cX2_init 553 = .ok (.putfield 187, 3) := dk_181 0 187 (dk_at dksX2_init_23 5 rfl rfl)
theorem dX2_init_556 : decode cX2_init 556 = .ok (.aload_n 0, 1) := dk_42 (dk_at dksX2_init_23 8 rfl rfl)
theorem dX2_init_557 : decode cX2_init 557 = .ok (.sipush 9000, 3) := dk_17 35 40 (dk_at dksX2_init_23 9 rfl rfl)
theorem dX2_init_560 : decode cX2_init 560 = .ok (.newarray .int, 2) := dk_188_10 (dk_at dksX2_init_23 12 rfl rfl)
theorem dX2_init_562 : decode cX2_init 562 = .ok (.putfield 190, 3) := dk_181 0 190 (dk_at dksX2_init_23 14 rfl rfl)
theorem dX2_init_565 : decode cX2_init 565 = .ok (.aload_n 0, 1) := dk_42 (dk_at dksX2_init_23 17 rfl rfl)
theorem dX2_init_566 : decode cX2_init 566 = .ok (.sipush 9000, 3) := dk_17 35 40 (dk_at dksX2_init_23 18 rfl rfl)
theorem dX2_init_569 : decode cX2_init 569 = .ok (.newarray .int, 2) := dk_188_10 (dk_at dksX2_init_23 21 rfl rfl)
theorem dX2_init_571 : decode cX2_init 571 = .ok (.putfield 193, 3) := dk_181 0 193 (dk_at dksX2_init_24 0 rfl rfl)
theorem dX2_init_574 : decode cX2_init 574 = .ok (.aload_n 0, 1) := dk_42 (dk_at dksX2_init_24 3 rfl rfl)
theorem dX2_init_575 : decode cX2_init 575 = .ok (.sipush 9000, 3) := dk_17 35 40 (dk_at dksX2_init_24 4 rfl rfl)
theorem dX2_init_578 : decode cX2_init 578 = .ok (.newarray .int, 2) := dk_188_10 (dk_at dksX2_init_24 7 rfl rfl)
theorem dX2_init_580 : decode cX2_init 580 = .ok (.putfield 196, 3) := dk_181 0 196 (dk_at dksX2_init_24 9 rfl rfl)
theorem dX2_init_583 : decode cX2_init 583 = .ok (.aload_n 0, 1) := dk_42 (dk_at dksX2_init_24 12 rfl rfl)
theorem dX2_init_584 : decode cX2_init 584 = .ok (.sipush 2100, 3) := dk_17 8 52 (dk_at dksX2_init_24 13 rfl rfl)
theorem dX2_init_587 : decode cX2_init 587 = .ok (.newarray .int, 2) := dk_188_10 (dk_at dksX2_init_24 16 rfl rfl)
theorem dX2_init_589 : decode cX2_init 589 = .ok (.putfield 199, 3) := dk_181 0 199 (dk_at dksX2_init_24 18 rfl rfl)
theorem dX2_init_592 : decode cX2_init 592 = .ok (.aload_n 0, 1) := dk_42 (dk_at dksX2_init_24 21 rfl rfl)
theorem dX2_init_593 : decode cX2_init 593 = .ok (.sipush 2100, 3) := dk_17 8 52 (dk_at dksX2_init_25 0 rfl rfl)
theorem dX2_init_596 : decode cX2_init 596 = .ok (.newarray .int, 2) := dk_188_10 (dk_at dksX2_init_25 3 rfl rfl)
theorem dX2_init_598 : decode cX2_init 598 = .ok (.putfield 202, 3) := dk_181 0 202 (dk_at dksX2_init_25 5 rfl rfl)
theorem dX2_init_601 : decode cX2_init 601 = .ok (.aload_n 0, 1) := dk_42 (dk_at dksX2_init_25 8 rfl rfl)
theorem dX2_init_602 : decode cX2_init 602 = .ok (.sipush 2100, 3) := dk_17 8 52 (dk_at dksX2_init_25 9 rfl rfl)
theorem dX2_init_605 : decode cX2_init 605 = .ok (.newarray .int, 2) := dk_188_10 (dk_at dksX2_init_25 12 rfl rfl)
theorem dX2_init_607 : decode cX2_init 607 = .ok (.putfield 205, 3) := dk_181 0 205 (dk_at dksX2_init_25 14 rfl rfl)
theorem dX2_init_610 : decode cX2_init 610 = .ok (.aload_n 0, 1) := dk_42 (dk_at dksX2_init_25 17 rfl rfl)
theorem dX2_init_611 : decode cX2_init 611 = .ok (.sipush 2100, 3) := dk_17 8 52 (dk_at dksX2_init_25 18 rfl rfl)
theorem dX2_init_614 : decode cX2_init 614 = .ok (.newarray .int, 2) := dk_188_10 (dk_at dksX2_init_25 21 rfl rfl)
theorem dX2_init_616 : decode cX2_init 616 = .ok (.putfield 208, 3) := dk_181 0 208 (dk_at dksX2_init_26 0 rfl rfl)
theorem dX2_init_619 : decode cX2_init 619 = .ok (.aload_n 0, 1) := dk_42 (dk_at dksX2_init_26 3 rfl rfl)
theorem dX2_init_620 : decode cX2_init 620 = .ok (.sipush 2100, 3) := dk_17 8 52 (dk_at dksX2_init_26 4 rfl rfl)
theorem dX2_init_623 : decode cX2_init 623 = .ok (.newarray .int, 2) := dk_188_10 (dk_at dksX2_init_26 7 rfl rfl)
theorem dX2_init_625 : decode cX2_init 625 = .ok (.putfield 211, 3) := dk_181 0 211 (dk_at dksX2_init_26 9 rfl rfl)
theorem dX2_init_628 : decode cX2_init 628 = .ok (.aload_n 0, 1) := dk_42 (dk_at dksX2_init_26 12 rfl rfl)
theorem dX2_init_629 : decode cX2_init 629 = .ok (.bipush 12, 2) := dk_16 12 (dk_at dksX2_init_26 13 rfl rfl)
theorem dX2_init_631 : decode cX2_init 631 = .ok (.newarray .int, 2) := dk_188_10 (dk_at dksX2_init_26 15 rfl rfl)
theorem dX2_init_633 : decode cX2_init 633 = .ok (.putfield 214, 3) := dk_181 0 214 (dk_at dksX2_init_26 17 rfl rfl)
theorem dX2_init_636 : decode cX2_init 636 = .ok (.aload_n 0, 1) := dk_42 (dk_at dksX2_init_26 20 rfl rfl)
theorem dX2_init_637 : decode cX2_init 637 = .ok (.bipush 12, 2) := dk_16 12 (dk_at dksX2_init_26 21 rfl rfl)
theorem dX2_init_639 : decode cX2_init 639 = .ok (.newarray .int, 2) := dk_188_10 (dk_at dksX2_init_27 0 rfl rfl)
theorem dX2_init_641 : decode cX2_init 641 = .ok (.putfield 216, 3) := dk_181 0 216 (dk_at dksX2_init_27 2 rfl rfl)
theorem dX2_init_644 : decode cX2_init 644 = .ok (.aload_n 0, 1) := dk_42 (dk_at dksX2_init_27 5 rfl rfl)
theorem dX2_init_645 : decode cX2_init 645 = .ok (.bipush 12, 2) := dk_16 12 (dk_at dksX2_init_27 6 rfl rfl)
theorem dX2_init_647 : decode cX2_init 647 = .ok (.newarray .int, 2) := dk_188_10 (dk_at dksX2_init_27 8 rfl rfl)
theorem dX2_init_649 : decode cX2_init 649 = .ok (.putfield 219, 3) := dk_181 0 219 (dk_at dksX2_init_27 10 rfl rfl)
theorem dX2_init_652 : decode cX2_init 652 = .ok (.aload_n 0, 1) := dk_42 (dk_at dksX2_init_27 13 rfl rfl)
theorem dX2_init_653 : decode cX2_init 653 = .ok (.bipush 12, 2) := dk_16 12 (dk_at dksX2_init_27 14 rfl rfl)
theorem dX2_init_655 : decode cX2_init 655 = .ok (.newarray .int, 2) := dk_188_10 (dk_at dksX2_init_27 16 rfl rfl)
theorem dX2_init_657 : decode cX2_init 657 = .ok (.putfield 221, 3) := dk_181 0 221 (dk_at dksX2_init_27 18 rfl rfl)
theorem dX2_init_660 : decode cX2_init 660 = .ok (.aload_n 0, 1) := dk_42 (dk_at dksX2_init_27 21 rfl rfl)
theorem dX2_init_661 : decode cX2_init 661 = .ok (.bipush 12, 2) := dk_16 12 (dk_at dksX2_init_27 22 rfl rfl)
theorem dX2_init_663 : decode cX2_init 663 = .ok (.newarray .int, 2) := dk_188_10 (dk_at dksX2_init_28 0 rfl rfl)
theorem dX2_init_665 : decode cX2_init 665 = .ok (.putfield 223, 3) := dk_181 0 223 (dk_at dksX2_init_28 2 rfl rfl)
theorem dX2_init_668 : decode cX2_init 668 = .ok (.aload_n 0, 1) := dk_42 (dk_at dksX2_init_28 5 rfl rfl)
theorem dX2_init_669 : decode cX2_init 669 = .ok (.bipush 12, 2) := dk_16 12 (dk_at dksX2_init_28 6 rfl rfl)
theorem dX2_init_671 : decode cX2_init 671 = .ok (.newarray .int, 2) := dk_188_10 (dk_at dksX2_init_28 8 rfl rfl)
theorem dX2_init_673 : decode cX2_init 673 = .ok (.putfield 226, 3) := dk_181 0 226 (dk_at dksX2_init_28 10 rfl rfl)
theorem dX2_init_676 : decode cX2_init 676 = .ok (.aload_n 0, 1) := dk_42 (dk_at dksX2_init_28 13 rfl rfl)
theorem dX2_init_677 : decode cX2_init 677 = .ok (.bipush 12, 2) := dk_16 12 (dk_at dksX2_init_28 14 rfl rfl)
theorem dX2_init_679 : decode cX2_init 679 = .ok (.newarray .int, 2) := dk_188_10 (dk_at dksX2_init_28 16 rfl rfl)
theorem dX2_init_681 : decode cX2_init 681 = .ok (.putfield 228, 3) := dk_181 0 228 (dk_at dksX2_init_28 18 rfl rfl)
theorem dX2_init_684 : decode cX2_init 684 = .ok (.aload_n 0, 1) := dk_42 (dk_at dksX2_init_28 21 rfl rfl)
theorem dX2_init_685 : decode cX2_init 685 = .ok (.bipush 12, 2) := dk_16 12 (dk_at dksX2_init_28 22 rfl rfl)
theorem dX2_init_687 : decode cX2_init 687 = .ok (.newarray .int, 2) := dk_188_10 (dk_at dksX2_init_29 0 rfl rfl)
theorem dX2_init_689 : decode cX2_init 689 = .ok (.putfield 230, 3) := dk_181 0 230 (dk_at dksX2_init_29 2 rfl rfl)
theorem dX2_init_692 : decode cX2_init 692 = .ok (.aload_n 0, 1) := dk_42 (dk_at dksX2_init_29 5 rfl rfl)
theorem dX2_init_693 : decode cX2_init 693 = .ok (.bipush 12, 2) := dk_16 12 (dk_at dksX2_init_29 6 rfl rfl)
theorem dX2_init_695 : decode cX2_init 695 = .ok (.newarray .int, 2) := dk_188_10 (dk_at dksX2_init_29 8 rfl rfl)
theorem dX2_init_697 : decode cX2_init 697 = .ok (.putfield 232, 3) := dk_181 0 232 (dk_at dksX2_init_29 10 rfl rfl)
theorem dX2_init_700 : decode cX2_init 700 = .ok (.aload_n 0, 1) := dk_42 (dk_at dksX2_init_29 13 rfl rfl)
theorem dX2_init_701 : decode cX2_init 701 = .ok (.bipush 12, 2) := dk_16 12 (dk_at dksX2_init_29 14 rfl rfl)
theorem dX2_init_703 : decode cX2_init 703 = .ok (.newarray .int, 2) := dk_188_10 (dk_at dksX2_init_29 16 rfl rfl)
theorem dX2_init_705 : decode cX2_init 705 = .ok (.putfield 234, 3) := dk_181 0 234 (dk_at dksX2_init_29 18 rfl rfl)
theorem dX2_init_708 : decode cX2_init 708 = .ok (.aload_n 0, 1) := dk_42 (dk_at dksX2_init_29 21 rfl rfl)
theorem dX2_init_709 : decode cX2_init 709 = .ok (.bipush 12, 2) := dk_16 12 (dk_at dksX2_init_29 22 rfl rfl)
theorem dX2_init_711 : decode cX2_init 711 = .ok (.newarray .int, 2) := dk_188_10 (dk_at dksX2_init_30 0 rfl rfl)
theorem dX2_init_713 : decode cX2_init 713 = .ok (.putfield 237, 3) := dk_181 0 237 (dk_at dksX2_init_30 2 rfl rfl)
theorem dX2_init_716 : decode cX2_init 716 = .ok (.aload_n 0, 1) := dk_42 (dk_at dksX2_init_30 5 rfl rfl)
theorem dX2_init_717 : decode cX2_init 717 = .ok (.bipush 12, 2) := dk_16 12 (dk_at dksX2_init_30 6 rfl rfl)
theorem dX2_init_719 : decode cX2_init 719 = .ok (.newarray .int, 2) := dk_188_10 (dk_at dksX2_init_30 8 rfl rfl)
theorem dX2_init_721 : decode cX2_init 721 = .ok (.putfield 239, 3) := dk_181 0 239 (dk_at dksX2_init_30 10 rfl rfl)
theorem dX2_init_724 : decode cX2_init 724 = .ok (.aload_n 0, 1) := dk_42 (dk_at dksX2_init_30 13 rfl rfl)
theorem dX2_init_725 : decode cX2_init 725 = .ok (.bipush 12, 2) := dk_16 12 (dk_at dksX2_init_30 14 rfl rfl)
theorem dX2_init_727 : decode cX2_init 727 = .ok (.newarray .int, 2) := dk_188_10 (dk_at dksX2_init_30 16 rfl rfl)
theorem dX2_init_729 : decode cX2_init 729 = .ok (.putfield 242, 3) := dk_181 0 242 (dk_at dksX2_init_30 18 rfl rfl)
theorem dX2_init_732 : decode cX2_init 732 = .ok (.aload_n 0, 1) := dk_42 (dk_at dksX2_init_30 21 rfl rfl)
theorem dX2_init_733 : decode cX2_init 733 = .ok (.bipush 12, 2) := dk_16 12 (dk_at dksX2_init_30 22 rfl rfl)
theorem dX2_init_735 : decode cX2_init 735 = .ok (.newarray .int, 2) := dk_188_10 (dk_at dksX2_init_31 0 rfl rfl)
theorem dX2_init_737 : decode cX2_init 737 = .ok (.putfield 245, 3) := dk_181 0 245 (dk_at dksX2_init_31 2 rfl rfl)
theorem dX2_init_740 : decode cX2_init 740 = .ok (.aload_n 0, 1) := dk_42 (dk_at dksX2_init_31 5 rfl rfl)
theorem dX2_init_741 : decode cX2_init 741 = .ok (.bipush 12, 2) := dk_16 12 (dk_at dksX2_init_31 6 rfl rfl)
theorem dX2_init_743 : decode cX2_init 743 = .ok (.newarray .int, 2) := dk_188_10 (dk_at dksX2_init_31 8 rfl rfl)
theorem dX2_init_745 : decode cX2_init 745 = .ok (.putfield 248, 3) := dk_181 0 248 (dk_at dksX2_init_31 10 rfl rfl)
theorem dX2_init_748 : decode cX2_init 748 = .ok (.aload_n 0, 1) := dk_42 (dk_at dksX2_init_31 13 rfl rfl)
theorem dX2_init_749 : decode cX2_init 749 = .ok (.bipush 48, 2) := dk_16 48 (dk_at dksX2_init_31 14 rfl rfl)
theorem dX2_init_751 : decode cX2_init 751 = .ok (.newarray .int, 2) := dk_188_10 (dk_at dksX2_init_31 16 rfl rfl)
theorem dX2_init_753 : decode cX2_init 753 = .ok (.putfield 251, 3) := dk_181 0 251 (dk_at dksX2_init_31 18 rfl rfl)
theorem dX2_init_756 : decode cX2_init 756 = .ok (.aload_n 0, 1) := dk_42 (dk_at dksX2_init_31 21 rfl rfl)
theorem dX2_init_757 : decode cX2_init 757 = .ok (.sipush 132, 3) := dk_17 0 132 (dk_at dksX2_init_32 0 rfl rfl)
theorem dX2_init_760 : decode cX2_init 760 = .ok (.newarray .int, 2) := dk_188_10 (dk_at dksX2_init_32 3 rfl rfl)
theorem dX2_init_762 : decode cX2_init 762 = .ok (.putfield 254, 3) := dk_181 0 254 (dk_at dksX2_init_32 5 rfl rfl)
theorem dX2_init_765 : decode cX2_init 765 = .ok (.aload_n 0, 1) := dk_42 (dk_at dksX2_init_32 8 rfl rfl)
theorem dX2_init_766 : decode cX2_init 766 = .ok (.bipush 72, 2) := dk_16 72 (dk_at dksX2_init_32 9 rfl rfl)
theorem dX2_init_768 : decode cX2_init 768 = .ok (.newarray .int, 2) := dk_188_10 (dk_at dksX2_init_32 11 rfl rfl)
theorem dX2_init_770 : decode cX2_init 770 = .ok (.putfield 257, 3) := dk_181 1 1 (dk_at dksX2_init_32 13 rfl rfl)
theorem dX2_init_773 : decode cX2_init 773 = .ok (.aload_n 0, 1) := dk_42 (dk_at dksX2_init_32 16 rfl rfl)
theorem dX2_init_774 : decode cX2_init 774 = .ok (.bipush 6, 2) := dk_16 6 (dk_at dksX2_init_32 17 rfl rfl)
theorem dX2_init_776 : decode cX2_init 776 = .ok (.newarray .int, 2) := dk_188_10 (dk_at dksX2_init_32 19 rfl rfl)
theorem dX2_init_778 : decode cX2_init 778 = .ok (.putfield 260, 3) := dk_181 1 4 (dk_at dksX2_init_32 21 rfl rfl)
theorem dX2_init_781 : decode cX2_init 781 = .ok (.aload_n 0, 1) := dk_42 (dk_at dksX2_init_33 0 rfl rfl)
theorem dX2_init_782 : decode cX2_init 782 = .ok (.bipush 8, 2) := dk_16 8 (dk_at dksX2_init_33 1 rfl rfl)
theorem dX2_init_784 : decode cX2_init 784 = .ok (.newarray .boolean, 2) := dk_188_4 (dk_at dksX2_init_33 3 rfl rfl)
theorem dX2_init_786 : decode cX2_init 786 = .ok (.putfield 263, 3) := dk_181 1 7 (dk_at dksX2_init_33 5 rfl rfl)
theorem dX2_init_789 : decode cX2_init 789 = .ok (.aload_n 0, 1) := dk_42 (dk_at dksX2_init_33 8 rfl rfl)
theorem dX2_init_790 : decode cX2_init 790 = .ok (.bipush 12, 2) := dk_16 12 (dk_at dksX2_init_33 9 rfl rfl)
theorem dX2_init_792 : decode cX2_init 792 = .ok (.newarray .int, 2) := dk_188_10 (dk_at dksX2_init_33 11 rfl rfl)
theorem dX2_init_794 : decode cX2_init 794 = .ok (.putfield 267, 3) := dk_181 1 11 (dk_at dksX2_init_33 13 rfl rfl)
theorem dX2_init_797 : decode cX2_init 797 = .ok (.aload_n 0, 1) := dk_42 (dk_at dksX2_init_33 16 rfl rfl)
theorem dX2_init_798 : decode cX2_init 798 = .ok (.sipush 360, 3) := dk_17 1 104 (dk_at dksX2_init_33 17 rfl rfl)
theorem dX2_init_801 : decode cX2_init 801 = .ok (.newarray .int, 2) := dk_188_10 (dk_at dksX2_init_33 20 rfl rfl)
theorem dX2_init_803 : decode cX2_init 803 = .ok (.putfield 270, 3) := dk_181 1 14 (dk_at dksX2_init_34 0 rfl rfl)
theorem dX2_init_806 : decode cX2_init 806 = .ok (.aload_n 0, 1) := dk_42 (dk_at dksX2_init_34 3 rfl rfl)
theorem dX2_init_807 : decode cX2_init 807 = .ok (.sipush 360, 3) := dk_17 1 104 (dk_at dksX2_init_34 4 rfl rfl)
theorem dX2_init_810 : decode cX2_init 810 = .ok (.newarray .int, 2) := dk_188_10 (dk_at dksX2_init_34 7 rfl rfl)
theorem dX2_init_812 : decode cX2_init 812 = .ok (.putfield 273, 3) := dk_181 1 17 (dk_at dksX2_init_34 9 rfl rfl)
theorem dX2_init_815 : decode cX2_init 815 = .ok (.aload_n 0, 1) := dk_42 (dk_at dksX2_init_34 12 rfl rfl)
theorem dX2_init_816 : decode cX2_init 816 = .ok (.sipush 1600, 3) := dk_17 6 64 (dk_at dksX2_init_34 13 rfl rfl)
theorem dX2_init_819 : decode cX2_init 819 = .ok (.newarray .int, 2) := dk_188_10 (dk_at dksX2_init_34 16 rfl rfl)
theorem dX2_init_821 : decode cX2_init 821 = .ok (.putfield 276, 3) := dk_181 1 20 (dk_at dksX2_init_34 18 rfl rfl)
theorem dX2_init_824 : decode cX2_init 824 = .ok (.aload_n 0, 1) := dk_42 (dk_at dksX2_init_34 21 rfl rfl)
theorem dX2_init_825 : decode cX2_init 825 = .ok (.bipush 12, 2) := dk_16 12 (dk_at dksX2_init_34 22 rfl rfl)
theorem dX2_init_827 : decode cX2_init 827 = .ok (.newarray .int, 2) := dk_188_10 (dk_at dksX2_init_35 0 rfl rfl)
theorem dX2_init_829 : decode cX2_init 829 = .ok (.putfield 279, 3) := dk_181 1 23 (dk_at dksX2_init_35 2 rfl rfl)
theorem dX2_init_832 : decode cX2_init 832 = .ok (.aload_n 0, 1) := dk_42 (dk_at dksX2_init_35 5 rfl rfl)
theorem dX2_init_833 : decode cX2_init 833 = .ok (.bipush 64, 2) := dk_16 64 (dk_at dksX2_init_35 6 rfl rfl)
theorem dX2_init_835 : decode cX2_init 835 = .ok (.newarray .int, 2) := dk_188_10 (dk_at dksX2_init_35 8 rfl rfl)
theorem dX2_init_837 : decode cX2_init 837 = .ok (.putfield 282, 3) := dk_181 1 26 (dk_at dksX2_init_35 10 rfl rfl)
theorem dX2_init_840 : decode cX2_init 840 = .ok (.return_, 1) := dk_177 (dk_at dksX2_init_35 13 rfl rfl)
theorem dX2_thrown_0 : decode cX2_thrown 0 = .ok (.aload_n 0, 1) := by decide +kernel
theorem dX2_thrown_1 : decode cX2_thrown 1 = .ok (.getfield 285, 3) := by decide +kernel
theorem dX2_thrown_4 : decode cX2_thrown 4 = .ok (.ireturn, 1) := by decide +kernel
def dkwX2_feed_5 : List UInt8 := [16, 20, 96, 181, 2, 57, 42, 180, 2, 57, 172]
abbrev dktX2_feed_5 : List UInt8 := dkwX2_feed_5 ++ []
def dkwX2_feed_4 : List UInt8 := [21, 6, 7, 112, 104, 100, 124, 17, 0, 255, 126, 79, 132, 6, 1, 167, 255, 169, 42, 89, 180, 2, 57]
abbrev dktX2_feed_4 : List UInt8 := dkwX2_feed_4 ++ dktX2_feed_5
def dkwX2_feed_3 : List UInt8 := [167, 0, 5, 21, 5, 54, 7, 42, 180, 0, 121, 42, 180, 2, 57, 21, 6, 96, 21, 7, 16, 24, 16, 8]
abbrev dktX2_feed_3 : List UInt8 := dkwX2_feed_3 ++ dktX2_feed_4
def dkwX2_feed_2 : List UInt8 := [28, 167, 0, 28, 21, 6, 16, 12, 162, 0, 7, 29, 167, 0, 17, 21, 6, 16, 16, 162, 0, 8, 21, 4]
abbrev dktX2_feed_2 : List UInt8 := dkwX2_feed_2 ++ dktX2_feed_3
def dkwX2_feed_1 : List UInt8 := [21, 6, 16, 20, 162, 0, 86, 21, 6, 7, 162, 0, 7, 27, 167, 0, 39, 21, 6, 16, 8, 162, 0, 7]
abbrev dktX2_feed_1 : List UInt8 := dkwX2_feed_1 ++ dktX2_feed_2
def dkwX2_feed_0 : List UInt8 := [42, 3, 181, 1, 29, 42, 180, 2, 57, 16, 20, 96, 17, 15, 160, 164, 0, 5, 2, 172, 3, 54, 6]
abbrev dktX2_feed_0 : List UInt8 := dkwX2_feed_0 ++ dktX2_feed_1
theorem dksX2_feed_0 : cX2_feed.data.toList.drop 0 = dktX2_feed_0 := by decide +kernel
theorem dksX2_feed_1 : cX2_feed.data.toList.drop 23 = dktX2_feed_1 := dk_seg dksX2_feed_0 23 rfl rfl
theorem dksX2_feed_2 : cX2_feed.data.toList.drop 47 = dktX2_feed_2 := dk_seg dksX2_feed_1 24 rfl rfl
theorem dksX2_feed_3 : cX2_feed.data.toList.drop 71 = dktX2_feed_3 := dk_seg dksX2_feed_2 24 rfl rfl
theorem dksX2_feed_4 : cX2_feed.data.toList.drop 95 = dktX2_feed_4 := dk_seg dksX2_feed_3 24 rfl rfl
theorem dksX2_feed_5 : cX2_feed.data.toList.drop 118 = dktX2_feed_5 := dk_seg dksX2_feed_4 23 rfl rfl
theorem dX2_feed_0 : decode cX2_feed 0 = .ok (.aload_n 0, 1) := dk_42 (dk_at dksX2_feed_0 0 rfl rfl)
theorem dX2_feed_1 : decode cX2_feed 1 = .ok (.iconst 0, 1) := dk_3 (dk_at dksX2_feed_0 1 rfl rfl)
theorem dX2_feed_2 : decode cX2_feed 2 = .ok (.putfield 285, 3) := dk_181 1 29 (dk_at dksX2_feed_0 2 rfl rfl)
theorem dX2_feed_5 : decode cX2_feed 5 = .ok (.aload_n 0, 1) := dk_42 (dk_at dksX2_feed_0 5 rfl rfl)
theorem dX2_feed_6 : decode cX2_feed 6 = .ok (.getfield 569, 3) := dk_180 2 57 (dk_at dksX2_feed_0 6 rfl rfl)
theorem dX2_feed_9 : decode cX2_feed 9 = .ok (.bipush 20, 2) := dk_16 20 (dk_at dksX2_feed_0 9 rfl rfl)
theorem dX2_feed_11 : decode cX2_feed 11 = .ok (.iadd, 1) := dk_96 (dk_at dksX2_feed_0 11 rfl rfl)
theorem dX2_feed_12 : decode cX2_feed 12 = .ok (.sipush 4000, 3) := dk_17 15 160 (dk_at dksX2_feed_0 12 rfl rfl)
theorem dX2_feed_15 : decode cX2_feed 15 = .ok (.if_icmp .le 5, 3) := dk_164 0 5 (dk_at dksX2_feed_0 15 rfl rfl)
theorem dX2_feed_18 : decode cX2_feed 18 = .ok (.iconst (-1), 1) := dk_2 (dk_at dksX2_feed_0 18 rfl rfl)
theorem dX2_feed_19 : decode cX2_feed 19 = .ok (.ireturn, 1) := dk_172 (dk_at dksX2_feed_0 19 rfl rfl)
theorem dX2_feed_20 : decode cX2_feed 20 = .ok (.iconst 0, 1) := dk_3 (dk_at dksX2_feed_0 20 rfl rfl)
theorem dX2_feed_21 : decode cX2_feed 21 = .ok (.istore 6, 2) := dk_54 6 (dk_at dksX2_feed_0 21 rfl rfl)
theorem dX2_feed_23 : decode cX2_feed 23 = .ok (.iload 6, 2) := dk_21 6 (dk_at dksX2_feed_1 0 rfl rfl)
theorem dX2_feed_25 : decode cX2_feed 25 = .ok (.bipush 20, 2) := dk_16 20 (dk_at dksX2_feed_1 2 rfl rfl)
theorem dX2_feed_27 : decode cX2_feed 27 = .ok (.if_icmp .ge 86, 3) := dk_162 0 86 (dk_at dksX2_feed_1 4 rfl rfl)
theorem dX2_feed_30 : decode cX2_feed 30 = .ok (.iload 6, 2) := dk_21 6 (dk_at dksX2_feed_1 7 rfl rfl)
theorem dX2_feed_32 : decode cX2_feed 32 = .ok (.iconst 4, 1) := dk_7 (dk_at dksX2_feed_1 9 rfl rfl)
theorem dX2_feed_33 : decode cX2_feed 33 = .ok (.if_icmp .ge 7, 3) := dk_162 0 7 (dk_at dksX2_feed_1 10 rfl rfl)
theorem dX2_feed_36 : decode cX2_feed 36 = .ok (.iload_n 1, 1) := dk_27 (dk_at dksX2_feed_1 13 rfl rfl)
theorem dX2_feed_37 : decode cX2_feed 37 = .ok (.goto 39, 3) := dk_167 0 39 (dk_at dksX2_feed_1 14 rfl rfl)
theorem dX2_feed_40 : decode cX2_feed 40 = .ok (.iload 6, 2) := dk_21 6 (dk_at dksX2_feed_1 17 rfl rfl)
theorem dX2_feed_42 : decode cX2_feed 42 = .ok (.bipush 8, 2) := dk_16 8 (dk_at dksX2_feed_1 19 rfl rfl)
theorem dX2_feed_44 : decode cX2_feed 44 = .ok (.if_icmp .ge 7, 3) := dk_162 0 7 (dk_at dksX2_feed_1 21 rfl rfl)
theorem dX2_feed_47 : decode cX2_feed 47 = .ok (.iload_n 2, 1) := dk_28 (dk_at dksX2_feed_2 0 rfl rfl)
theorem dX2_feed_48 : decode cX2_feed 48 = .ok (.goto 28, 3) := dk_167 0 28 (dk_at dksX2_feed_2 1 rfl rfl)
theorem dX2_feed_51 : decode cX2_feed 51 = .ok (.iload 6, 2) := dk_21 6 (dk_at dksX2_feed_2 4 rfl rfl)
theorem dX2_feed_53 : decode cX2_feed 53 = .ok (.bipush 12, 2) := dk_16 12 (dk_at dksX2_feed_2 6 rfl rfl)
theorem dX2_feed_55 : decode cX2_feed 55 = .ok (.if_icmp .ge 7, 3) := dk_162 0 7 (dk_at dksX2_feed_2 8 rfl rfl)
theorem dX2_feed_58 : decode cX2_feed 58 = .ok (.iload_n 3, 1) := dk_29 (dk_at dksX2_feed_2 11 rfl rfl)
theorem dX2_feed_59 : decode cX2_feed 59 = .ok (.goto 17, 3) := dk_167 0 17 (dk_at dksX2_feed_2 12 rfl rfl)
theorem dX2_feed_62 : decode cX2_feed 62 = .ok (.iload 6, 2) := dk_21 6 (dk_at dksX2_feed_2 15 rfl rfl)
theorem dX2_feed_64 : decode cX2_feed 64 = .ok (.bipush 16, 2) := dk_16 16 (dk_at dksX2_feed_2 17 rfl rfl)
theorem dX2_feed_66 : decode cX2_feed 66 = .ok (.if_icmp .ge 8, 3) := dk_162 0 8 (dk_at dksX2_feed_2 19 rfl rfl)
theorem dX2_feed_69 : decode cX2_feed 69 = .ok (.iload 4, 2) := dk_21 4 (dk_at dksX2_feed_2 22 rfl rfl)
theorem dX2_feed_71 : decode cX2_feed 71 = .ok (.goto 5, 3) := dk_167 0 5 (dk_at dksX2_feed_3 0 rfl rfl)
theorem dX2_feed_74 : decode cX2_feed 74 = .ok (.iload 5, 2) := dk_21 5 (dk_at dksX2_feed_3 3 rfl rfl)
theorem dX2_feed_76 : decode cX2_feed 76 = .ok (.istore 7, 2) := dk_54 7 (dk_at dksX2_feed_3 5 rfl rfl)
theorem dX2_feed_78 : decode cX2_feed 78 = .ok (.aload_n 0, 1) := dk_42 (dk_at dksX2_feed_3 7 rfl rfl)
theorem dX2_feed_79 : decode cX2_feed 79 = .ok (.getfield 121, 3) := dk_180 0 121 (dk_at dksX2_feed_3 8 rfl rfl)
theorem dX2_feed_82 : decode cX2_feed 82 = .ok (.aload_n 0, 1) := dk_42 (dk_at dksX2_feed_3 11 rfl rfl)
theorem dX2_feed_83 : decode cX2_feed 83 = .ok (.getfield 569, 3) := dk_180 2 57 (dk_at dksX2_feed_3 12 rfl rfl)
theorem dX2_feed_86 : decode cX2_feed 86 = .ok (.iload 6, 2) := dk_21 6 (dk_at dksX2_feed_3 15 rfl rfl)
theorem dX2_feed_88 : decode cX2_feed 88 = .ok (.iadd, 1) := dk_96 (dk_at dksX2_feed_3 17 rfl rfl)
theorem dX2_feed_89 : decode cX2_feed 89 = .ok (.iload 7, 2) := dk_21 7 (dk_at dksX2_feed_3 18 rfl rfl)
theorem dX2_feed_91 : decode cX2_feed 91 = .ok (.bipush 24, 2) := dk_16 24 (dk_at dksX2_feed_3 20 rfl rfl)
theorem dX2_feed_93 : decode cX2_feed 93 = .ok (.bipush 8, 2) := dk_16 8 (dk_at dksX2_feed_3 22 rfl rfl)
theorem dX2_feed_95 : decode cX2_feed 95 = .ok (.iload 6, 2) := dk_21 6 (dk_at dksX2_feed_4 0 rfl rfl)
theorem dX2_feed_97 : decode cX2_feed 97 = .ok (.iconst 4, 1) := dk_7 (dk_at dksX2_feed_4 2 rfl rfl)
theorem dX2_feed_98 : decode cX2_feed 98 = .ok (.irem, 1) := dk_112 (dk_at dksX2_feed_4 3 rfl rfl)
theorem dX2_feed_99 : decode cX2_feed 99 = .ok (.imul, 1) := dk_104 (dk_at dksX2_feed_4 4 rfl rfl)
theorem dX2_feed_100 : decode cX2_feed 100 = .ok (.isub, 1) := dk_100 (dk_at dksX2_feed_4 5 rfl rfl)
theorem dX2_feed_101 : decode cX2_feed 101 = .ok (.iushr, 1) := dk_124 (dk_at dksX2_feed_4 6 rfl rfl)
theorem dX2_feed_102 : decode cX2_feed 102 = .ok (.sipush 255, 3) := dk_17 0 255 (dk_at dksX2_feed_4 7 rfl rfl)
theorem dX2_feed_105 : decode cX2_feed 105 = .ok (.iand, 1) := dk_126 (dk_at dksX2_feed_4 10 rfl rfl)
theorem dX2_feed_106 : decode cX2_feed 106 = .ok (.iastore, 1) := dk_79 (dk_at dksX2_feed_4 11 rfl rfl)
theorem dX2_feed_107 : decode cX2_feed 107 = .ok (.iinc 6 1, 3) := dk_132 6 1 (dk_at dksX2_feed_4 12 rfl rfl)
theorem dX2_feed_110 : decode cX2_feed 110 = .ok (.goto (-87), 3) := dk_167 255 169 (dk_at dksX2_feed_4 15 rfl rfl)
theorem dX2_feed_113 : decode cX2_feed 113 = .ok (.aload_n 0, 1) := dk_42 (dk_at dksX2_feed_4 18 rfl rfl)
theorem dX2_feed_114 : decode cX2_feed 114 = .ok (.dup, 1) := dk_89 (dk_at dksX2_feed_4 19 rfl rfl)
theorem dX2_feed_115 : decode cX2_feed 115 = .ok (.getfield 569, 3) := dk_180 2 57 (dk_at dksX2_feed_4 20 rfl rfl)
theorem dX2_feed_118 : decode cX2_feed 118 = .ok (.bipush 20, 2) := dk_16 20 (dk_at dksX2_feed_5 0 rfl rfl)
theorem dX2_feed_120 : decode cX2_feed 120 = .ok (.iadd, 1) := dk_96 (dk_at dksX2_feed_5 2 rfl rfl)
theorem dX2_feed_121 : decode cX2_feed 121 = .ok (.putfield 569, 3) := dk_181 2 57 (dk_at dksX2_feed_5 3 rfl rfl)
theorem dX2_feed_124 : decode cX2_feed 124 = .ok (.aload_n 0, 1) := dk_42 (dk_at dksX2_feed_5 6 rfl rfl)
theorem dX2_feed_125 : decode cX2_feed 125 = .ok (.getfield 569, 3) := dk_180 2 57 (dk_at dksX2_feed_5 7 rfl rfl)
theorem dX2_feed_128 : decode cX2_feed 128 = .ok (.ireturn, 1) := dk_172 (dk_at dksX2_feed_5 10 rfl rfl)
def dkwX2_read_7 : List UInt8 := [180, 1, 32, 172]
abbrev dktX2_read_7 : List UInt8 := dkwX2_read_7 ++ []
def dkwX2_read_6 : List UInt8 := [154, 0, 7, 4, 167, 0, 4, 3, 181, 2, 63, 42, 180, 2, 63, 153, 0, 7, 42, 182, 2, 66, 42]
abbrev dktX2_read_6 : List UInt8 := dkwX2_read_6 ++ dktX2_read_7
def dkwX2_read_5 : List UInt8 := [181, 1, 145, 42, 3, 181, 1, 108, 42, 3, 181, 1, 202, 42, 182, 2, 60, 42, 42, 180, 1, 32]
abbrev dktX2_read_5 : List UInt8 := dkwX2_read_5 ++ dktX2_read_6
def dkwX2_read_4 : List UInt8 := [181, 1, 115, 42, 3, 181, 1, 117, 42, 17, 39, 15, 181, 1, 123, 42, 3, 181, 1, 111, 42, 3]
abbrev dktX2_read_4 : List UInt8 := dkwX2_read_4 ++ dktX2_read_5
def dkwX2_read_3 : List UInt8 := [42, 3, 181, 1, 32, 42, 2, 181, 0, 127, 42, 3, 181, 1, 95, 42, 3, 181, 1, 105, 42, 3]
abbrev dktX2_read_3 : List UInt8 := dkwX2_read_3 ++ dktX2_read_4
def dkwX2_read_2 : List UInt8 := [28, 46, 79, 132, 2, 1, 167, 255, 236, 42, 27, 181, 1, 35, 42, 3, 181, 2, 57, 42, 3, 181, 1, 38]
abbrev dktX2_read_2 : List UInt8 := dkwX2_read_2 ++ dktX2_read_3
def dkwX2_read_1 : List UInt8 := [180, 1, 29, 153, 0, 5, 3, 172, 3, 61, 28, 27, 162, 0, 21, 42, 180, 0, 124, 28, 42, 180, 0, 121]
abbrev dktX2_read_1 : List UInt8 := dkwX2_read_1 ++ dktX2_read_2
def dkwX2_read_0 : List UInt8 := [42, 27, 155, 0, 11, 27, 42, 180, 2, 57, 164, 0, 7, 4, 167, 0, 4, 3, 181, 1, 29, 42]
abbrev dktX2_read_0 : List UInt8 := dkwX2_read_0 ++ dktX2_read_1
theorem dksX2_read_0 : cX2_read.data.toList.drop 0 = dktX2_read_0 := by decide +kernel
theorem dksX2_read_1 : cX2_read.data.toList.drop 22 = dktX2_read_1 := dk_seg dksX2_read_0 22 rfl rfl
theorem dksX2_read_2 : cX2_read.data.toList.drop 46 = dktX2_read_2 := dk_seg dksX2_read_1 24 rfl rfl
theorem dksX2_read_3 : cX2_read.data.toList.drop 70 = dktX2_read_3 := dk_seg dksX2_read_2 24 rfl rfl
theorem dksX2_read_4 : cX2_read.data.toList.drop 92 = dktX2_read_4 := dk_seg dksX2_read_3 22 rfl rfl
theorem dksX2_read_5 : cX2_read.data.toList.drop 114 = dktX2_read_5 := dk_seg dksX2_read_4 22 rfl rfl
theorem dksX2_read_6 : cX2_read.data.toList.drop 136 = dktX2_read_6 := dk_seg dksX2_read_5 22 rfl rfl
theorem dksX2_read_7 : cX2_read.data.toList.drop 159 = dktX2_read_7 := dk_seg dksX2_read_6 23 rfl rfl
theorem dX2_read_0 : decode cX2_read 0 = .ok (.aload_n 0, 1) := dk_42 (dk_at dksX2_read_0 0 rfl rfl)
theorem dX2_read_1 : decode cX2_read 1 = .ok (.iload_n 1, 1) := dk_27 (dk_at dksX2_read_0 1 rfl rfl)
theorem dX2_read_2 : decode cX2_read 2 = .ok (.ifCond .lt 11, 3) := dk_155 0 11 (dk_at dksX2_read_0 2 rfl rfl)
theorem dX2_read_5 : decode cX2_read 5 = .ok (.iload_n 1, 1) := dk_27 (dk_at dksX2_read_0 5 rfl rfl)
theorem dX2_read_6 : decode cX2_read 6 = .ok (.aload_n 0, 1) := dk_42 (dk_at dksX2_read_0 6 rfl rfl)
theorem dX2_read_7 : decode cX2_read 7 = .ok (.getfield 569, 3) := dk_180 2 57 (dk_at dksX2_read_0 7 rfl rfl)
theorem dX2_read_10 : decode cX2_read 10 = .ok (.if_icmp .le 7, 3) := dk_164 0 7 (dk_at dksX2_read_0 10 rfl rfl)
theorem dX2_read_13 : decode cX2_read 13 = .ok (.iconst 1, 1) := dk_4 (dk_at dksX2_read_0 13 rfl rfl)
theorem dX2_read_14 : decode cX2_read 14 = .ok (.goto 4, 3) := dk_167 0 4 (dk_at dksX2_read_0 14 rfl rfl)
theorem dX2_read_17 : decode cX2_read 17 = .ok (.iconst 0, 1) := dk_3 (dk_at dksX2_read_0 17 rfl rfl)
theorem dX2_read_18 : decode cX2_read 18 = .ok (.putfield 285, 3) := dk_181 1 29 (dk_at dksX2_read_0 18 rfl rfl)
theorem dX2_read_21 : decode cX2_read 21 = .ok (.aload_n 0, 1) := dk_42 (dk_at dksX2_read_0 21 rfl rfl)
theorem dX2_read_22 : decode cX2_read 22 = .ok (.getfield 285, 3) := dk_180 1 29 (dk_at dksX2_read_1 0 rfl rfl)
theorem dX2_read_25 : decode cX2_read 25 = .ok (.ifCond .eq 5, 3) := dk_153 0 5 (dk_at dksX2_read_1 3 rfl rfl)
theorem dX2_read_28 : decode cX2_read 28 = .ok (.iconst 0, 1) := dk_3 (dk_at dksX2_read_1 6 rfl rfl)
theorem dX2_read_29 : decode cX2_read 29 = .ok (.ireturn, 1) := dk_172 (dk_at dksX2_read_1 7 rfl rfl)
theorem dX2_read_30 : decode cX2_read 30 = .ok (.iconst 0, 1) := dk_3 (dk_at dksX2_read_1 8 rfl rfl)
theorem dX2_read_31 : decode cX2_read 31 = .ok (.istore_n 2, 1) := dk_61 (dk_at dksX2_read_1 9 rfl rfl)
theorem dX2_read_32 : decode cX2_read 32 = .ok (.iload_n 2, 1) := dk_28 (dk_at dksX2_read_1 10 rfl rfl)
theorem dX2_read_33 : decode cX2_read 33 = .ok (.iload_n 1, 1) := dk_27 (dk_at dksX2_read_1 11 rfl rfl)
theorem dX2_read_34 : decode cX2_read 34 = .ok (.if_icmp .ge 21, 3) := dk_162 0 21 (dk_at dksX2_read_1 12 rfl rfl)
theorem dX2_read_37 : decode cX2_read 37 = .ok (.aload_n 0, 1) := dk_42 (dk_at dksX2_read_1 15 rfl rfl)
theorem dX2_read_38 : decode cX2_read 38 = .ok (.getfield 124, 3) := dk_180 0 124 (dk_at dksX2_read_1 16 rfl rfl)
theorem dX2_read_41 : decode cX2_read 41 = .ok (.iload_n 2, 1) := dk_28 (dk_at dksX2_read_1 19 rfl rfl)
theorem dX2_read_42 : decode cX2_read 42 = .ok (.aload_n 0, 1) := dk_42 (dk_at dksX2_read_1 20 rfl rfl)
theorem dX2_read_43 : decode cX2_read 43 = .ok (.getfield 121, 3) := dk_180 0 121 (dk_at dksX2_read_1 21 rfl rfl)
theorem dX2_read_46 : decode cX2_read 46 = .ok (.iload_n 2, 1) := dk_28 (dk_at dksX2_read_2 0 rfl rfl)
theorem dX2_read_47 : decode cX2_read 47 = .ok (.iaload, 1) := dk_46 (dk_at dksX2_read_2 1 rfl rfl)
theorem dX2_read_48 : decode cX2_read 48 = .ok (.iastore, 1) := dk_79 (dk_at dksX2_read_2 2 rfl rfl)
theorem dX2_read_49 : decode cX2_read 49 = .ok (.iinc 2 1, 3) := dk_132 2 1 (dk_at dksX2_read_2 3 rfl rfl)
theorem dX2_read_52 : decode cX2_read 52 = .ok (.goto (-20), 3) := dk_167 255 236 (dk_at dksX2_read_2 6 rfl rfl)
theorem dX2_read_55 : decode cX2_read 55 = .ok (.aload_n 0, 1) := dk_42 (dk_at dksX2_read_2 9 rfl rfl)
theorem dX2_read_56 : decode cX2_read 56 = .ok (.iload_n 1, 1) := dk_27 (dk_at dksX2_read_2 10 rfl rfl)
theorem dX2_read_57 : decode cX2_read 57 = .ok (.putfield 291, 3) := dk_181 1 35 (dk_at dksX2_read_2 11 rfl rfl)
theorem dX2_read_60 : decode cX2_read 60 = .ok (.aload_n 0, 1) := dk_42 (dk_at dksX2_read_2 14 rfl rfl)
theorem dX2_read_61 : decode cX2_read 61 = .ok (.iconst 0, 1) := dk_3 (dk_at dksX2_read_2 15 rfl rfl)
theorem dX2_read_62 : decode cX2_read 62 = .ok (.putfield 569, 3) := dk_181 2 57 (dk_at dksX2_read_2 16 rfl rfl)
theorem dX2_read_65 : decode cX2_read 65 = .ok (.aload_n 0, 1) := dk_42 (dk_at dksX2_read_2 19 rfl rfl)
theorem dX2_read_66 : decode cX2_read 66 = .ok (.iconst 0, 1) := dk_3 (dk_at dksX2_read_2 20 rfl rfl)
theorem dX2_read_67 : decode cX2_read 67 = .ok (.putfield 294, 3) := dk_181 1 38 (dk_at dksX2_read_2 21 rfl rfl)
theorem dX2_read_70 : decode cX2_read 70 = .ok (.aload_n 0, 1) := dk_42 (dk_at dksX2_read_3 0 rfl rfl)
theorem dX2_read_71 : decode cX2_read 71 = .ok (.iconst 0, 1) := dk_3 (dk_at dksX2_read_3 1 rfl rfl)
theorem dX2_read_72 : decode cX2_read 72 = .ok (.putfield 288, 3) := dk_181 1 32 (dk_at dksX2_read_3 2 rfl rfl)
theorem dX2_read_75 : decode cX2_read 75 = .ok (.aload_n 0, 1) := dk_42 (dk_at dksX2_read_3 5 rfl rfl)
theorem dX2_read_76 : decode cX2_read 76 = .ok (.iconst (-1), 1) := dk_2 (dk_at dksX2_read_3 6 rfl rfl)
theorem dX2_read_77 : decode cX2_read 77 = .ok (.putfield 127, 3) := dk_181 0 127 (dk_at dksX2_read_3 7 rfl rfl)
theorem dX2_read_80 : decode cX2_read 80 = .ok (.aload_n 0, 1) := dk_42 (dk_at dksX2_read_3 10 rfl rfl)
theorem dX2_read_81 : decode cX2_read 81 = .ok (.iconst 0, 1) := dk_3 (dk_at dksX2_read_3 11 rfl rfl)
theorem dX2_read_82 : decode cX2_read 82 = .ok (.putfield 351, 3) := dk_181 1 95 (dk_at dksX2_read_3 12 rfl rfl)
theorem dX2_read_85 : decode cX2_read 85 = .ok (.aload_n 0, 1) := dk_42 (dk_at dksX2_read_3 15 rfl rfl)
theorem dX2_read_86 : decode cX2_read 86 = .ok (.iconst 0, 1) := dk_3 (dk_at dksX2_read_3 16 rfl rfl)
theorem dX2_read_87 : decode cX2_read 87 = .ok (.putfield 361, 3) := dk_181 1 105 (dk_at dksX2_read_3 17 rfl rfl)
theorem dX2_read_90 : decode cX2_read 90 = .ok (.aload_n 0, 1) := dk_42 (dk_at dksX2_read_3 20 rfl rfl)
theorem dX2_read_91 : decode cX2_read 91 = .ok (.iconst 0, 1) := dk_3 (dk_at dksX2_read_3 21 rfl rfl)
theorem dX2_read_92 : decode cX2_read 92 = .ok (.putfield 371, 3) := dk_181 1 115 (dk_at dksX2_read_4 0 rfl rfl)
theorem dX2_read_95 : decode cX2_read 95 = .ok (.aload_n 0, 1) := dk_42 (dk_at dksX2_read_4 3 rfl rfl)
theorem dX2_read_96 : decode cX2_read 96 = .ok (.iconst 0, 1) := dk_3 (dk_at dksX2_read_4 4 rfl rfl)
theorem dX2_read_97 : decode cX2_read 97 = .ok (.putfield 373, 3) := dk_181 1 117 (dk_at dksX2_read_4 5 rfl rfl)
theorem dX2_read_100 : decode cX2_read 100 = .ok (.aload_n 0, 1) := dk_42 (dk_at dksX2_read_4 8 rfl rfl)
theorem dX2_read_101 : decode cX2_read 101 = .ok (.sipush 9999, 3) := dk_17 39 15 (dk_at dksX2_read_4 9 rfl rfl)
theorem dX2_read_104 : decode cX2_read 104 = .ok (.putfield 379, 3) := dk_181 1 123 (dk_at dksX2_read_4 12 rfl rfl)
theorem dX2_read_107 : decode cX2_read 107 = .ok (.aload_n 0, 1) := dk_42 (dk_at dksX2_read_4 15 rfl rfl)
theorem dX2_read_108 : decode cX2_read 108 = .ok (.iconst 0, 1) := dk_3 (dk_at dksX2_read_4 16 rfl rfl)
theorem dX2_read_109 : decode cX2_read 109 = .ok (.putfield 367, 3) := dk_181 1 111 (dk_at dksX2_read_4 17 rfl rfl)
theorem dX2_read_112 : decode cX2_read 112 = .ok (.aload_n 0, 1) := dk_42 (dk_at dksX2_read_4 20 rfl rfl)
theorem dX2_read_113 : decode cX2_read 113 = .ok (.iconst 0, 1) := dk_3 (dk_at dksX2_read_4 21 rfl rfl)
theorem dX2_read_114 : decode cX2_read 114 = .ok (.putfield 401, 3) := dk_181 1 145 (dk_at dksX2_read_5 0 rfl rfl)
theorem dX2_read_117 : decode cX2_read 117 = .ok (.aload_n 0, 1) := dk_42 (dk_at dksX2_read_5 3 rfl rfl)
theorem dX2_read_118 : decode cX2_read 118 = .ok (.iconst 0, 1) := dk_3 (dk_at dksX2_read_5 4 rfl rfl)
theorem dX2_read_119 : decode cX2_read 119 = .ok (.putfield 364, 3) := dk_181 1 108 (dk_at dksX2_read_5 5 rfl rfl)
theorem dX2_read_122 : decode cX2_read 122 = .ok (.aload_n 0, 1) := dk_42 (dk_at dksX2_read_5 8 rfl rfl)
theorem dX2_read_123 : decode cX2_read 123 = .ok (.iconst 0, 1) := dk_3 (dk_at dksX2_read_5 9 rfl rfl)
theorem dX2_read_124 : decode cX2_read 124 = .ok (.putfield 458, 3) := dk_181 1 202 (dk_at dksX2_read_5 10 rfl rfl)
theorem dX2_read_127 : decode cX2_read 127 = .ok (.aload_n 0, 1) := dk_42 (dk_at dksX2_read_5 13 rfl rfl)
theorem dX2_read_128 : decode cX2_read 128 = .ok (.invokevirtual 572, 3) := dk_182 2 60 (dk_at dksX2_read_5 14 rfl rfl)
theorem dX2_read_131 : decode cX2_read 131 = .ok (.aload_n 0, 1) := dk_42 (dk_at dksX2_read_5 17 rfl rfl)
theorem dX2_read_132 : decode cX2_read 132 = .ok (.aload_n 0, 1) := dk_42 (dk_at dksX2_read_5 18 rfl rfl)
theorem dX2_read_133 : decode cX2_read 133 = .ok (.getfield 288, 3) := dk_180 1 32 (dk_at dksX2_read_5 19 rfl rfl)
theorem dX2_read_136 : decode cX2_read 136 = .ok (.ifCond .ne 7, 3) := dk_154 0 7 (dk_at dksX2_read_6 0 rfl rfl)
theorem dX2_read_139 : decode cX2_read 139 = .ok (.iconst 1, 1) := dk_4 (dk_at dksX2_read_6 3 rfl rfl)
theorem dX2_read_140 : decode cX2_read 140 = .ok (.goto 4, 3) := dk_167 0 4 (dk_at dksX2_read_6 4 rfl rfl)
theorem dX2_read_143 : decode cX2_read 143 = .ok (.iconst 0, 1) := dk_3 (dk_at dksX2_read_6 7 rfl rfl)
theorem dX2_read_144 : decode cX2_read 144 = .ok (.putfield 575, 3) := dk_181 2 63 (dk_at dksX2_read_6 8 rfl rfl)
theorem dX2_read_147 : decode cX2_read 147 = .ok (.aload_n 0, 1) := dk_42 (dk_at dksX2_read_6 11 rfl rfl)
theorem dX2_read_148 : decode cX2_read 148 = .ok (.getfield 575, 3) := dk_180 2 63 (dk_at dksX2_read_6 12 rfl rfl)
theorem dX2_read_151 : decode cX2_read 151 = .ok (.ifCond .eq 7, 3) := dk_153 0 7 (dk_at dksX2_read_6 15 rfl rfl)
theorem dX2_read_154 : decode cX2_read 154 = .ok (.aload_n 0, 1) := dk_42 (dk_at dksX2_read_6 18 rfl rfl)
theorem dX2_read_155 : decode cX2_read 155 = .ok (.invokevirtual 578, 3) := dk_182 2 66 (dk_at dksX2_read_6 19 rfl rfl)
theorem dX2_read_158 : decode cX2_read 158 = .ok (.aload_n 0, 1) := dk_42 (dk_at dksX2_read_6 22 rfl rfl)
theorem dX2_read_159 : decode cX2_read 159 = .ok (.getfield 288, 3) := dk_180 1 32 (dk_at dksX2_read_7 0 rfl rfl)
theorem dX2_read_162 : decode cX2_read 162 = .ok (.ireturn, 1) := dk_172 (dk_at dksX2_read_7 3 rfl rfl)
def dkwX2_fair_6 : List UInt8 := [180, 0, 134, 28, 46, 79, 132, 1, 1, 167, 255, 157, 177]
abbrev dktX2_fair_6 : List UInt8 := dkwX2_fair_6 ++ []
def dkwX2_fair_5 : List UInt8 := [42, 6, 42, 180, 0, 193, 27, 46, 16, 16, 108, 182, 1, 88, 167, 0, 15, 42, 180, 0, 193, 27, 42]
abbrev dktX2_fair_5 : List UInt8 := dkwX2_fair_5 ++ dktX2_fair_6
def dkwX2_fair_4 : List UInt8 := [27, 46, 16, 16, 112, 182, 1, 98, 61, 28, 2, 159, 0, 13, 42, 180, 0, 131, 28, 46, 6, 159, 0, 20]
abbrev dktX2_fair_4 : List UInt8 := dkwX2_fair_4 ++ dktX2_fair_5
def dkwX2_fair_3 : List UInt8 := [27, 46, 16, 7, 159, 0, 6, 167, 0, 70, 42, 42, 180, 0, 193, 27, 46, 16, 16, 108, 42, 180, 0, 193]
abbrev dktX2_fair_3 : List UInt8 := dkwX2_fair_3 ++ dktX2_fair_4
def dkwX2_fair_2 : List UInt8 := [182, 1, 88, 3, 60, 27, 42, 180, 1, 108, 162, 0, 97, 42, 180, 1, 32, 154, 0, 90, 42, 180, 0, 190]
abbrev dktX2_fair_2 : List UInt8 := dkwX2_fair_2 ++ dktX2_fair_3
def dkwX2_fair_1 : List UInt8 := [167, 255, 238, 42, 180, 1, 32, 154, 0, 19, 42, 180, 1, 105, 154, 0, 12, 42, 4, 42, 180, 1, 35]
abbrev dktX2_fair_1 : List UInt8 := dkwX2_fair_1 ++ dktX2_fair_2
def dkwX2_fair_0 : List UInt8 := [42, 182, 1, 92, 42, 180, 1, 32, 154, 0, 17, 42, 180, 1, 47, 153, 0, 10, 42, 182, 1, 102]
abbrev dktX2_fair_0 : List UInt8 := dkwX2_fair_0 ++ dktX2_fair_1
theorem dksX2_fair_0 : cX2_fair.data.toList.drop 0 = dktX2_fair_0 := by decide +kernel
theorem dksX2_fair_1 : cX2_fair.data.toList.drop 22 = dktX2_fair_1 := dk_seg dksX2_fair_0 22 rfl rfl
theorem dksX2_fair_2 : cX2_fair.data.toList.drop 45 = dktX2_fair_2 := dk_seg dksX2_fair_1 23 rfl rfl
theorem dksX2_fair_3 : cX2_fair.data.toList.drop 69 = dktX2_fair_3 := dk_seg dksX2_fair_2 24 rfl rfl
theorem dksX2_fair_4 : cX2_fair.data.toList.drop 93 = dktX2_fair_4 := dk_seg dksX2_fair_3 24 rfl rfl
theorem dksX2_fair_5 : cX2_fair.data.toList.drop 117 = dktX2_fair_5 := dk_seg dksX2_fair_4 24 rfl rfl
theorem dksX2_fair_6 : cX2_fair.data.toList.drop 140 = dktX2_fair_6 := dk_seg dksX2_fair_5 23 rfl rfl
theorem dX2_fair_0 : decode cX2_fair 0 = .ok (.aload_n 0, 1) := dk_42 (dk_at dksX2_fair_0 0 rfl rfl)
theorem dX2_fair_1 : decode cX2_fair 1 = .ok (.invokevirtual 348, 3) := dk_182 1 92 (dk_at dksX2_fair_0 1 rfl rfl)
theorem dX2_fair_4 : decode cX2_fair 4 = .ok (.aload_n 0, 1) := dk_42 (dk_at dksX2_fair_0 4 rfl rfl)
theorem dX2_fair_5 : decode cX2_fair 5 = .ok (.getfield 288, 3) := dk_180 1 32 (dk_at dksX2_fair_0 5 rfl rfl)
theorem dX2_fair_8 : decode cX2_fair 8 = .ok (.ifCond .ne 17, 3) := dk_154 0 17 (dk_at dksX2_fair_0 8 rfl rfl)
theorem dX2_fair_11 : decode cX2_fair 11 = .ok (.aload_n 0, 1) := dk_42 (dk_at dksX2_fair_0 11 rfl rfl)
theorem dX2_fair_12 : decode cX2_fair 12 = .ok (.getfield 303, 3) := dk_180 1 47 (dk_at dksX2_fair_0 12 rfl rfl)
theorem dX2_fair_15 : decode cX2_fair 15 = .ok (.ifCond .eq 10, 3) := dk_153 0 10 (dk_at dksX2_fair_0 15 rfl rfl)
theorem dX2_fair_18 : decode cX2_fair 18 = .ok (.aload_n 0, 1) := dk_42 (dk_at dksX2_fair_0 18 rfl rfl)
theorem dX2_fair_19 : decode cX2_fair 19 = .ok (.invokevirtual 358, 3) := dk_182 1 102 (dk_at dksX2_fair_0 19 rfl rfl)
theorem dX2_fair_22 : decode cX2_fair 22 = .ok (.goto (-18), 3) := dk_167 255 238 (dk_at dksX2_fair_1 0 rfl rfl)
theorem dX2_fair_25 : decode cX2_fair 25 = .ok (.aload_n 0, 1) := dk_42 (dk_at dksX2_fair_1 3 rfl rfl)
theorem dX2_fair_26 : decode cX2_fair 26 = .ok (.getfield 288, 3) := dk_180 1 32 (dk_at dksX2_fair_1 4 rfl rfl)
theorem dX2_fair_29 : decode cX2_fair 29 = .ok (.ifCond .ne 19, 3) := dk_154 0 19 (dk_at dksX2_fair_1 7 rfl rfl)
theorem dX2_fair_32 : decode cX2_fair 32 = .ok (.aload_n 0, 1) := dk_42 (dk_at dksX2_fair_1 10 rfl rfl)
theorem dX2_fair_33 : decode cX2_fair 33 = .ok (.getfield 361, 3) := dk_180 1 105 (dk_at dksX2_fair_1 11 rfl rfl)
theorem dX2_fair_36 : decode cX2_fair 36 = .ok (.ifCond .ne 12, 3) := dk_154 0 12 (dk_at dksX2_fair_1 14 rfl rfl)
theorem dX2_fair_39 : decode cX2_fair 39 = .ok (.aload_n 0, 1) := dk_42 (dk_at dksX2_fair_1 17 rfl rfl)
theorem dX2_fair_40 : decode cX2_fair 40 = .ok (.iconst 1, 1) := dk_4 (dk_at dksX2_fair_1 18 rfl rfl)
theorem dX2_fair_41 : decode cX2_fair 41 = .ok (.aload_n 0, 1) := dk_42 (dk_at dksX2_fair_1 19 rfl rfl)
theorem dX2_fair_42 : decode cX2_fair 42 = .ok (.getfield 291, 3) := dk_180 1 35 (dk_at dksX2_fair_1 20 rfl rfl)
theorem dX2_fair_45 : decode cX2_fair 45 = .ok (.invokevirtual 344, 3) := dk_182 1 88 (dk_at dksX2_fair_2 0 rfl rfl)
theorem dX2_fair_48 : decode cX2_fair 48 = .ok (.iconst 0, 1) := dk_3 (dk_at dksX2_fair_2 3 rfl rfl)
theorem dX2_fair_49 : decode cX2_fair 49 = .ok (.istore_n 1, 1) := dk_60 (dk_at dksX2_fair_2 4 rfl rfl)
theorem dX2_fair_50 : decode cX2_fair 50 = .ok (.iload_n 1, 1) := dk_27 (dk_at dksX2_fair_2 5 rfl rfl)
theorem dX2_fair_51 : decode cX2_fair 51 = .ok (.aload_n 0, 1) := dk_42 (dk_at dksX2_fair_2 6 rfl rfl)
theorem dX2_fair_52 : decode cX2_fair 52 = .ok (.getfield 364, 3) := dk_180 1 108 (dk_at dksX2_fair_2 7 rfl rfl)
theorem dX2_fair_55 : decode cX2_fair 55 = .ok (.if_icmp .ge 97, 3) := dk_162 0 97 (dk_at dksX2_fair_2 10 rfl rfl)
theorem dX2_fair_58 : decode cX2_fair 58 = .ok (.aload_n 0, 1) := dk_42 (dk_at dksX2_fair_2 13 rfl rfl)
theorem dX2_fair_59 : decode cX2_fair 59 = .ok (.getfield 288, 3) := dk_180 1 32 (dk_at dksX2_fair_2 14 rfl rfl)
theorem dX2_fair_62 : decode cX2_fair 62 = .ok (.ifCond .ne 90, 3) := dk_154 0 90 (dk_at dksX2_fair_2 17 rfl rfl)
theorem dX2_fair_65 : decode cX2_fair 65 = .ok (.aload_n 0, 1) := dk_42 (dk_at dksX2_fair_2 20 rfl rfl)
theorem dX2_fair_66 : decode cX2_fair 66 = .ok (.getfield 190, 3) := dk_180 0 190 (dk_at dksX2_fair_2 21 rfl rfl)
theorem dX2_fair_69 : decode cX2_fair 69 = .ok (.iload_n 1, 1) := dk_27 (dk_at dksX2_fair_3 0 rfl rfl)
theorem dX2_fair_70 : decode cX2_fair 70 = .ok (.iaload, 1) := dk_46 (dk_at dksX2_fair_3 1 rfl rfl)
theorem dX2_fair_71 : decode cX2_fair 71 = .ok (.bipush 7, 2) := dk_16 7 (dk_at dksX2_fair_3 2 rfl rfl)
theorem dX2_fair_73 : decode cX2_fair 73 = .ok (.if_icmp .eq 6, 3) := dk_159 0 6 (dk_at dksX2_fair_3 4 rfl rfl)
theorem dX2_fair_76 : decode cX2_fair 76 = .ok (.goto 70, 3) := dk_167 0 70 (dk_at dksX2_fair_3 7 rfl rfl)
theorem dX2_fair_79 : decode cX2_fair 79 = .ok (.aload_n 0, 1) := dk_42 (dk_at dksX2_fair_3 10 rfl rfl)
theorem dX2_fair_80 : decode cX2_fair 80 = .ok (.aload_n 0, 1) := dk_42 (dk_at dksX2_fair_3 11 rfl rfl)
theorem dX2_fair_81 : decode cX2_fair 81 = .ok (.getfield 193, 3) := dk_180 0 193 (dk_at dksX2_fair_3 12 rfl rfl)
theorem dX2_fair_84 : decode cX2_fair 84 = .ok (.iload_n 1, 1) := dk_27 (dk_at dksX2_fair_3 15 rfl rfl)
theorem dX2_fair_85 : decode cX2_fair 85 = .ok (.iaload, 1) := dk_46 (dk_at dksX2_fair_3 16 rfl rfl)
theorem dX2_fair_86 : decode cX2_fair 86 = .ok (.bipush 16, 2) := dk_16 16 (dk_at dksX2_fair_3 17 rfl rfl)
theorem dX2_fair_88 : decode cX2_fair 88 = .ok (.idiv, 1) := dk_108 (dk_at dksX2_fair_3 19 rfl rfl)
theorem dX2_fair_89 : decode cX2_fair 89 = .ok (.aload_n 0, 1) := dk_42 (dk_at dksX2_fair_3 20 rfl rfl)
theorem dX2_fair_90 : decode cX2_fair 90 = .ok (.getfield 193, 3) := dk_180 0 193 (dk_at dksX2_fair_3 21 rfl rfl)
theorem dX2_fair_93 : decode cX2_fair 93 = .ok (.iload_n 1, 1) := dk_27 (dk_at dksX2_fair_4 0 rfl rfl)
theorem dX2_fair_94 : decode cX2_fair 94 = .ok (.iaload, 1) := dk_46 (dk_at dksX2_fair_4 1 rfl rfl)
theorem dX2_fair_95 : decode cX2_fair 95 = .ok (.bipush 16, 2) := dk_16 16 (dk_at dksX2_fair_4 2 rfl rfl)
theorem dX2_fair_97 : decode cX2_fair 97 = .ok (.irem, 1) := dk_112 (dk_at dksX2_fair_4 4 rfl rfl)
theorem dX2_fair_98 : decode cX2_fair 98 = .ok (.invokevirtual 354, 3) := dk_182 1 98 (dk_at dksX2_fair_4 5 rfl rfl)
theorem dX2_fair_101 : decode cX2_fair 101 = .ok (.istore_n 2, 1) := dk_61 (dk_at dksX2_fair_4 8 rfl rfl)
theorem dX2_fair_102 : decode cX2_fair 102 = .ok (.iload_n 2, 1) := dk_28 (dk_at dksX2_fair_4 9 rfl rfl)
theorem dX2_fair_103 : decode cX2_fair 103 = .ok (.iconst (-1), 1) := dk_2 (dk_at dksX2_fair_4 10 rfl rfl)
theorem dX2_fair_104 : decode cX2_fair 104 = .ok (.if_icmp .eq 13, 3) := dk_159 0 13 (dk_at dksX2_fair_4 11 rfl rfl)
theorem dX2_fair_107 : decode cX2_fair 107 = .ok (.aload_n 0, 1) := dk_42 (dk_at dksX2_fair_4 14 rfl rfl)
theorem dX2_fair_108 : decode cX2_fair 108 = .ok (.getfield 131, 3) := dk_180 0 131 (dk_at dksX2_fair_4 15 rfl rfl)
theorem dX2_fair_111 : decode cX2_fair 111 = .ok (.iload_n 2, 1) := dk_28 (dk_at dksX2_fair_4 18 rfl rfl)
theorem dX2_fair_112 : decode cX2_fair 112 = .ok (.iaload, 1) := dk_46 (dk_at dksX2_fair_4 19 rfl rfl)
theorem dX2_fair_113 : decode cX2_fair 113 = .ok (.iconst 3, 1) := dk_6 (dk_at dksX2_fair_4 20 rfl rfl)
theorem dX2_fair_114 : decode cX2_fair 114 = .ok (.if_icmp .eq 20, 3) := dk_159 0 20 (dk_at dksX2_fair_4 21 rfl rfl)
theorem dX2_fair_117 : decode cX2_fair 117 = .ok (.aload_n 0, 1) := dk_42 (dk_at dksX2_fair_5 0 rfl rfl)
theorem dX2_fair_118 : decode cX2_fair 118 = .ok (.iconst 3, 1) := dk_6 (dk_at dksX2_fair_5 1 rfl rfl)
theorem dX2_fair_119 : decode cX2_fair 119 = .ok (.aload_n 0, 1) := dk_42 (dk_at dksX2_fair_5 2 rfl rfl)
theorem dX2_fair_120 : decode cX2_fair 120 = .ok (.getfield 193, 3) := dk_180 0 193 (dk_at dksX2_fair_5 3 rfl rfl)
theorem dX2_fair_123 : decode cX2_fair 123 = .ok (.iload_n 1, 1) := dk_27 (dk_at dksX2_fair_5 6 rfl rfl)
theorem dX2_fair_124 : decode cX2_fair 124 = .ok (.iaload, 1) := dk_46 (dk_at dksX2_fair_5 7 rfl rfl)
theorem dX2_fair_125 : decode cX2_fair 125 = .ok (.bipush 16, 2) := dk_16 16 (dk_at dksX2_fair_5 8 rfl rfl)
theorem dX2_fair_127 : decode cX2_fair 127 = .ok (.idiv, 1) := dk_108 (dk_at dksX2_fair_5 10 rfl rfl)
theorem dX2_fair_128 : decode cX2_fair 128 = .ok (.invokevirtual 344, 3) := dk_182 1 88 (dk_at dksX2_fair_5 11 rfl rfl)
theorem dX2_fair_131 : decode cX2_fair 131 = .ok (.goto 15, 3) := dk_167 0 15 (dk_at dksX2_fair_5 14 rfl rfl)
theorem dX2_fair_134 : decode cX2_fair 134 = .ok (.aload_n 0, 1) := dk_42 (dk_at dksX2_fair_5 17 rfl rfl)
theorem dX2_fair_135 : decode cX2_fair 135 = .ok (.getfield 193, 3) := dk_180 0 193 (dk_at dksX2_fair_5 18 rfl rfl)
theorem dX2_fair_138 : decode cX2_fair 138 = .ok (.iload_n 1, 1) := dk_27 (dk_at dksX2_fair_5 21 rfl rfl)
theorem dX2_fair_139 : decode cX2_fair 139 = .ok (.aload_n 0, 1) := dk_42 (dk_at dksX2_fair_5 22 rfl rfl)
theorem dX2_fair_140 : decode cX2_fair 140 = .ok (.getfield 134, 3) := dk_180 0 134 (dk_at dksX2_fair_6 0 rfl rfl)
theorem dX2_fair_143 : decode cX2_fair 143 = .ok (.iload_n 2, 1) := dk_28 (dk_at dksX2_fair_6 3 rfl rfl)
theorem dX2_fair_144 : decode cX2_fair 144 = .ok (.iaload, 1) := dk_46 (dk_at dksX2_fair_6 4 rfl rfl)
theorem dX2_fair_145 : decode cX2_fair 145 = .ok (.iastore, 1) := dk_79 (dk_at dksX2_fair_6 5 rfl rfl)
theorem dX2_fair_146 : decode cX2_fair 146 = .ok (.iinc 1 1, 3) := dk_132 1 1 (dk_at dksX2_fair_6 6 rfl rfl)
theorem dX2_fair_149 : decode cX2_fair 149 = .ok (.goto (-99), 3) := dk_167 255 157 (dk_at dksX2_fair_6 9 rfl rfl)
theorem dX2_fair_152 : decode cX2_fair 152 = .ok (.return_, 1) := dk_177 (dk_at dksX2_fair_6 12 rfl rfl)
def dkwX2_cut_5 : List UInt8 := [153, 0, 10, 42, 182, 1, 63, 167, 0, 8, 42, 27, 182, 1, 66, 42, 42, 180, 1, 38, 181, 1, 50, 177]
abbrev dktX2_cut_5 : List UInt8 := dkwX2_cut_5 ++ []
def dkwX2_cut_4 : List UInt8 := [42, 180, 1, 38, 46, 60, 27, 184, 1, 53, 153, 0, 10, 42, 182, 1, 57, 167, 0, 22, 27, 184, 1, 60]
abbrev dktX2_cut_4 : List UInt8 := dkwX2_cut_4 ++ dktX2_cut_5
def dkwX2_cut_3 : List UInt8 := [180, 1, 35, 160, 0, 17, 42, 3, 181, 1, 47, 42, 42, 180, 1, 38, 181, 1, 50, 177, 42, 180, 0, 124]
abbrev dktX2_cut_3 : List UInt8 := dkwX2_cut_3 ++ dktX2_cut_4
def dkwX2_cut_2 : List UInt8 := [181, 1, 38, 167, 255, 207, 42, 42, 180, 1, 38, 181, 1, 41, 42, 2, 181, 1, 44, 42, 180, 1, 38, 42]
abbrev dktX2_cut_2 : List UInt8 := dkwX2_cut_2 ++ dktX2_cut_3
def dkwX2_cut_1 : List UInt8 := [159, 0, 17, 42, 180, 0, 124, 42, 180, 1, 38, 46, 16, 32, 160, 0, 16, 42, 89, 180, 1, 38, 4, 96]
abbrev dktX2_cut_1 : List UInt8 := dkwX2_cut_1 ++ dktX2_cut_2
def dkwX2_cut_0 : List UInt8 := [42, 180, 1, 38, 42, 180, 1, 35, 162, 0, 44, 42, 180, 0, 124, 42, 180, 1, 38, 46, 16, 10]
abbrev dktX2_cut_0 : List UInt8 := dkwX2_cut_0 ++ dktX2_cut_1
theorem dksX2_cut_0 : cX2_cut.data.toList.drop 0 = dktX2_cut_0 := by decide +kernel
theorem dksX2_cut_1 : cX2_cut.data.toList.drop 22 = dktX2_cut_1 := dk_seg dksX2_cut_0 22 rfl rfl
theorem dksX2_cut_2 : cX2_cut.data.toList.drop 46 = dktX2_cut_2 := dk_seg dksX2_cut_1 24 rfl rfl
theorem dksX2_cut_3 : cX2_cut.data.toList.drop 70 = dktX2_cut_3 := dk_seg dksX2_cut_2 24 rfl rfl
theorem dksX2_cut_4 : cX2_cut.data.toList.drop 94 = dktX2_cut_4 := dk_seg dksX2_cut_3 24 rfl rfl
theorem dksX2_cut_5 : cX2_cut.data.toList.drop 118 = dktX2_cut_5 := dk_seg dksX2_cut_4 24 rfl rfl
theorem dX2_cut_0 : decode cX2_cut 0 = .ok (.aload_n 0, 1) := dk_42 (dk_at dksX2_cut_0 0 rfl rfl)
theorem dX2_cut_1 : decode cX2_cut 1 = .ok (.getfield 294, 3) := dk_180 1 38 (dk_at dksX2_cut_0 1 rfl rfl)
theorem dX2_cut_4 : decode cX2_cut 4 = .ok (.aload_n 0, 1) := dk_42 (dk_at dksX2_cut_0 4 rfl rfl)
theorem dX2_cut_5 : decode cX2_cut 5 = .ok (.getfield 291, 3) := dk_180 1 35 (dk_at dksX2_cut_0 5 rfl rfl)
theorem dX2_cut_8 : decode cX2_cut 8 = .ok (.if_icmp .ge 44, 3) := dk_162 0 44 (dk_at dksX2_cut_0 8 rfl rfl)
theorem dX2_cut_11 : decode cX2_cut 11 = .ok (.aload_n 0, 1) := dk_42 (dk_at dksX2_cut_0 11 rfl rfl)
theorem dX2_cut_12 : decode cX2_cut 12 = .ok (.getfield 124, 3) := dk_180 0 124 (dk_at dksX2_cut_0 12 rfl rfl)
theorem dX2_cut_15 : decode cX2_cut 15 = .ok (.aload_n 0, 1) := dk_42 (dk_at dksX2_cut_0 15 rfl rfl)
theorem dX2_cut_16 : decode cX2_cut 16 = .ok (.getfield 294, 3) := dk_180 1 38 (dk_at dksX2_cut_0 16 rfl rfl)
theorem dX2_cut_19 : decode cX2_cut 19 = .ok (.iaload, 1) := dk_46 (dk_at dksX2_cut_0 19 rfl rfl)
theorem dX2_cut_20 : decode cX2_cut 20 = .ok (.bipush 10, 2) := dk_16 10 (dk_at dksX2_cut_0 20 rfl rfl)
theorem dX2_cut_22 : decode cX2_cut 22 = .ok (.if_icmp .eq 17, 3) := dk_159 0 17 (dk_at dksX2_cut_1 0 rfl rfl)
theorem dX2_cut_25 : decode cX2_cut 25 = .ok (.aload_n 0, 1) := dk_42 (dk_at dksX2_cut_1 3 rfl rfl)
theorem dX2_cut_26 : decode cX2_cut 26 = .ok (.getfield 124, 3) := dk_180 0 124 (dk_at dksX2_cut_1 4 rfl rfl)
theorem dX2_cut_29 : decode cX2_cut 29 = .ok (.aload_n 0, 1) := dk_42 (dk_at dksX2_cut_1 7 rfl rfl)
theorem dX2_cut_30 : decode cX2_cut 30 = .ok (.getfield 294, 3) := dk_180 1 38 (dk_at dksX2_cut_1 8 rfl rfl)
theorem dX2_cut_33 : decode cX2_cut 33 = .ok (.iaload, 1) := dk_46 (dk_at dksX2_cut_1 11 rfl rfl)
theorem dX2_cut_34 : decode cX2_cut 34 = .ok (.bipush 32, 2) := dk_16 32 (dk_at dksX2_cut_1 12 rfl rfl)
theorem dX2_cut_36 : decode cX2_cut 36 = .ok (.if_icmp .ne 16, 3) := dk_160 0 16 (dk_at dksX2_cut_1 14 rfl rfl)
theorem dX2_cut_39 : decode cX2_cut 39 = .ok (.aload_n 0, 1) := dk_42 (dk_at dksX2_cut_1 17 rfl rfl)
theorem dX2_cut_40 : decode cX2_cut 40 = .ok (.dup, 1) := dk_89 (dk_at dksX2_cut_1 18 rfl rfl)
theorem dX2_cut_41 : decode cX2_cut 41 = .ok (.getfield 294, 3) := dk_180 1 38 (dk_at dksX2_cut_1 19 rfl rfl)
theorem dX2_cut_44 : decode cX2_cut 44 = .ok (.iconst 1, 1) := dk_4 (dk_at dksX2_cut_1 22 rfl rfl)
theorem dX2_cut_45 : decode cX2_cut 45 = .ok (.iadd, 1) := dk_96 (dk_at dksX2_cut_1 23 rfl rfl)
theorem dX2_cut_46 : decode cX2_cut 46 = .ok (.putfield 294, 3) := dk_181 1 38 (dk_at dksX2_cut_2 0 rfl rfl)
theorem dX2_cut_49 : decode cX2_cut 49 = .ok (.goto (-49), 3) := dk_167 255 207 (dk_at dksX2_cut_2 3 rfl rfl)
theorem dX2_cut_52 : decode cX2_cut 52 = .ok (.aload_n 0, 1) := dk_42 (dk_at dksX2_cut_2 6 rfl rfl)
theorem dX2_cut_53 : decode cX2_cut 53 = .ok (.aload_n 0, 1) := dk_42 (dk_at dksX2_cut_2 7 rfl rfl)
theorem dX2_cut_54 : decode cX2_cut 54 = .ok (.getfield 294, 3) := dk_180 1 38 (dk_at dksX2_cut_2 8 rfl rfl)
theorem dX2_cut_57 : decode cX2_cut 57 = .ok (.putfield 297, 3) := dk_181 1 41 (dk_at dksX2_cut_2 11 rfl rfl)
theorem dX2_cut_60 : decode cX2_cut 60 = .ok (.aload_n 0, 1) := dk_42 (dk_at dksX2_cut_2 14 rfl rfl)
theorem dX2_cut_61 : decode cX2_cut 61 = .ok (.iconst (-1), 1) := dk_2 (dk_at dksX2_cut_2 15 rfl rfl)
theorem dX2_cut_62 : decode cX2_cut 62 = .ok (.putfield 300, 3) := dk_181 1 44 (dk_at dksX2_cut_2 16 rfl rfl)
theorem dX2_cut_65 : decode cX2_cut 65 = .ok (.aload_n 0, 1) := dk_42 (dk_at dksX2_cut_2 19 rfl rfl)
theorem dX2_cut_66 : decode cX2_cut 66 = .ok (.getfield 294, 3) := dk_180 1 38 (dk_at dksX2_cut_2 20 rfl rfl)
theorem dX2_cut_69 : decode cX2_cut 69 = .ok (.aload_n 0, 1) := dk_42 (dk_at dksX2_cut_2 23 rfl rfl)
theorem dX2_cut_70 : decode cX2_cut 70 = .ok (.getfield 291, 3) := dk_180 1 35 (dk_at dksX2_cut_3 0 rfl rfl)
theorem dX2_cut_73 : decode cX2_cut 73 = .ok (.if_icmp .ne 17, 3) := dk_160 0 17 (dk_at dksX2_cut_3 3 rfl rfl)
theorem dX2_cut_76 : decode cX2_cut 76 = .ok (.aload_n 0, 1) := dk_42 (dk_at dksX2_cut_3 6 rfl rfl)
theorem dX2_cut_77 : decode cX2_cut 77 = .ok (.iconst 0, 1) := dk_3 (dk_at dksX2_cut_3 7 rfl rfl)
theorem dX2_cut_78 : decode cX2_cut 78 = .ok (.putfield 303, 3) := dk_181 1 47 (dk_at dksX2_cut_3 8 rfl rfl)
theorem dX2_cut_81 : decode cX2_cut 81 = .ok (.aload_n 0, 1) := dk_42 (dk_at dksX2_cut_3 11 rfl rfl)
theorem dX2_cut_82 : decode cX2_cut 82 = .ok (.aload_n 0, 1) := dk_42 (dk_at dksX2_cut_3 12 rfl rfl)
theorem dX2_cut_83 : decode cX2_cut 83 = .ok (.getfield 294, 3) := dk_180 1 38 (dk_at dksX2_cut_3 13 rfl rfl)
theorem dX2_cut_86 : decode cX2_cut 86 = .ok (.putfield 306, 3) := dk_181 1 50 (dk_at dksX2_cut_3 16 rfl rfl)
theorem dX2_cut_89 : decode cX2_cut 89 = .ok (.return_, 1) := dk_177 (dk_at dksX2_cut_3 19 rfl rfl)
theorem dX2_cut_90 : decode cX2_cut 90 = .ok (.aload_n 0, 1) := dk_42 (dk_at dksX2_cut_3 20 rfl rfl)
theorem dX2_cut_91 : decode cX2_cut 91 = .ok (.getfield 124, 3) := dk_180 0 124 (dk_at dksX2_cut_3 21 rfl rfl)
theorem dX2_cut_94 : decode cX2_cut 94 = .ok (.aload_n 0, 1) := dk_42 (dk_at dksX2_cut_4 0 rfl rfl)
theorem dX2_cut_95 : decode cX2_cut 95 = .ok (.getfield 294, 3) := dk_180 1 38 (dk_at dksX2_cut_4 1 rfl rfl)
theorem dX2_cut_98 : decode cX2_cut 98 = .ok (.iaload, 1) := dk_46 (dk_at dksX2_cut_4 4 rfl rfl)
theorem dX2_cut_99 : decode cX2_cut 99 = .ok (.istore_n 1, 1) := dk_60 (dk_at dksX2_cut_4 5 rfl rfl)
theorem dX2_cut_100 : decode cX2_cut 100 = .ok (.iload_n 1, 1) := dk_27 (dk_at dksX2_cut_4 6 rfl rfl)
theorem dX2_cut_101 : decode cX2_cut 101 = .ok (.invokestatic 309, 3) := dk_184 1 53 (dk_at dksX2_cut_4 7 rfl rfl)
theorem dX2_cut_104 : decode cX2_cut 104 = .ok (.ifCond .eq 10, 3) := dk_153 0 10 (dk_at dksX2_cut_4 10 rfl rfl)
theorem dX2_cut_107 : decode cX2_cut 107 = .ok (.aload_n 0, 1) := dk_42 (dk_at dksX2_cut_4 13 rfl rfl)
theorem dX2_cut_108 : decode cX2_cut 108 = .ok (.invokevirtual 313, 3) := dk_182 1 57 (dk_at dksX2_cut_4 14 rfl rfl)
theorem dX2_cut_111 : decode cX2_cut 111 = .ok (.goto 22, 3) := dk_167 0 22 (dk_at dksX2_cut_4 17 rfl rfl)
theorem dX2_cut_114 : decode cX2_cut 114 = .ok (.iload_n 1, 1) := dk_27 (dk_at dksX2_cut_4 20 rfl rfl)
theorem dX2_cut_115 : decode cX2_cut 115 = .ok (.invokestatic 316, 3) := dk_184 1 60 (dk_at dksX2_cut_4 21 rfl rfl)
theorem dX2_cut_118 : decode cX2_cut 118 = .ok (.ifCond .eq 10, 3) := dk_153 0 10 (dk_at dksX2_cut_5 0 rfl rfl)
theorem dX2_cut_121 : decode cX2_cut 121 = .ok (.aload_n 0, 1) := dk_42 (dk_at dksX2_cut_5 3 rfl rfl)
theorem dX2_cut_122 : decode cX2_cut 122 = .ok (.invokevirtual 319, 3) := dk_182 1 63 (dk_at dksX2_cut_5 4 rfl rfl)
theorem dX2_cut_125 : decode cX2_cut 125 = .ok (.goto 8, 3) := dk_167 0 8 (dk_at dksX2_cut_5 7 rfl rfl)
theorem dX2_cut_128 : decode cX2_cut 128 = .ok (.aload_n 0, 1) := dk_42 (dk_at dksX2_cut_5 10 rfl rfl)
theorem dX2_cut_129 : decode cX2_cut 129 = .ok (.iload_n 1, 1) := dk_27 (dk_at dksX2_cut_5 11 rfl rfl)
theorem dX2_cut_130 : decode cX2_cut 130 = .ok (.invokevirtual 322, 3) := dk_182 1 66 (dk_at dksX2_cut_5 12 rfl rfl)
theorem dX2_cut_133 : decode cX2_cut 133 = .ok (.aload_n 0, 1) := dk_42 (dk_at dksX2_cut_5 15 rfl rfl)
theorem dX2_cut_134 : decode cX2_cut 134 = .ok (.aload_n 0, 1) := dk_42 (dk_at dksX2_cut_5 16 rfl rfl)
theorem dX2_cut_135 : decode cX2_cut 135 = .ok (.getfield 294, 3) := dk_180 1 38 (dk_at dksX2_cut_5 17 rfl rfl)
theorem dX2_cut_138 : decode cX2_cut 138 = .ok (.putfield 306, 3) := dk_181 1 50 (dk_at dksX2_cut_5 20 rfl rfl)
theorem dX2_cut_141 : decode cX2_cut 141 = .ok (.return_, 1) := dk_177 (dk_at dksX2_cut_5 23 rfl rfl)
def dkwX2_isLetter_0 : List UInt8 := [26, 16, 97, 161, 0, 13, 26, 16, 122, 163, 0, 7, 4, 167, 0, 4, 3, 172]
abbrev dktX2_isLetter_0 : List UInt8 := dkwX2_isLetter_0 ++ []
theorem dksX2_isLetter_0 : cX2_isLetter.data.toList.drop 0 = dktX2_isLetter_0 := by decide +kernel
theorem dX2_isLetter_0 : decode cX2_isLetter 0 = .ok (.iload_n 0, 1) := dk_26 (dk_at dksX2_isLetter_0 0 rfl rfl)
theorem dX2_isLetter_1 : decode cX2_isLetter 1 = .ok (.bipush 97, 2) := dk_16 97 (dk_at dksX2_isLetter_0 1 rfl rfl)
theorem dX2_isLetter_3 : decode cX2_isLetter 3 = .ok (.if_icmp .lt 13, 3) := dk_161 0 13 (dk_at dksX2_isLetter_0 3 rfl rfl)
theorem dX2_isLetter_6 : decode cX2_isLetter 6 = .ok (.iload_n 0, 1) := dk_26 (dk_at dksX2_isLetter_0 6 rfl rfl)
theorem dX2_isLetter_7 : decode cX2_isLetter 7 = .ok (.bipush 122, 2) := dk_16 122 (dk_at dksX2_isLetter_0 7 rfl rfl)
theorem dX2_isLetter_9 : decode cX2_isLetter 9 = .ok (.if_icmp .gt 7, 3) := dk_163 0 7 (dk_at dksX2_isLetter_0 9 rfl rfl)
theorem dX2_isLetter_12 : decode cX2_isLetter 12 = .ok (.iconst 1, 1) := dk_4 (dk_at dksX2_isLetter_0 12 rfl rfl)
theorem dX2_isLetter_13 : decode cX2_isLetter 13 = .ok (.goto 4, 3) := dk_167 0 4 (dk_at dksX2_isLetter_0 13 rfl rfl)
theorem dX2_isLetter_16 : decode cX2_isLetter 16 = .ok (.iconst 0, 1) := dk_3 (dk_at dksX2_isLetter_0 16 rfl rfl)
theorem dX2_isLetter_17 : decode cX2_isLetter 17 = .ok (.ireturn, 1) := dk_172 (dk_at dksX2_isLetter_0 17 rfl rfl)
def dkwX2_readWord_7 : List UInt8 := [153, 0, 7, 27, 167, 0, 7, 42, 180, 1, 44, 181, 1, 44, 132, 1, 1, 167, 255, 142, 177]
abbrev dktX2_readWord_7 : List UInt8 := dkwX2_readWord_7 ++ []
def dkwX2_readWord_6 : List UInt8 := [180, 1, 41, 29, 96, 46, 160, 0, 7, 4, 167, 0, 4, 3, 61, 132, 3, 1, 167, 255, 206, 42, 28]
abbrev dktX2_readWord_6 : List UInt8 := dkwX2_readWord_6 ++ dktX2_readWord_7
def dkwX2_readWord_5 : List UInt8 := [100, 162, 0, 43, 28, 153, 0, 31, 42, 180, 0, 111, 27, 50, 29, 182, 1, 78, 42, 180, 0, 124, 42]
abbrev dktX2_readWord_5 : List UInt8 := dkwX2_readWord_5 ++ dktX2_readWord_6
def dkwX2_readWord_4 : List UInt8 := [42, 180, 1, 41, 100, 159, 0, 6, 167, 0, 76, 4, 61, 3, 62, 29, 42, 180, 1, 38, 42, 180, 1, 41]
abbrev dktX2_readWord_4 : List UInt8 := dkwX2_readWord_4 ++ dktX2_readWord_5
def dkwX2_readWord_3 : List UInt8 := [162, 0, 114, 42, 180, 1, 47, 4, 160, 0, 106, 42, 180, 0, 111, 27, 50, 182, 1, 74, 42, 180, 1, 38]
abbrev dktX2_readWord_3 : List UInt8 := dkwX2_readWord_3 ++ dktX2_readWord_4
def dkwX2_readWord_2 : List UInt8 := [42, 180, 1, 41, 100, 16, 8, 164, 0, 7, 7, 167, 0, 4, 4, 181, 1, 47, 3, 60, 27, 16, 51]
abbrev dktX2_readWord_2 : List UInt8 := dkwX2_readWord_2 ++ dktX2_readWord_3
def dkwX2_readWord_1 : List UInt8 := [184, 1, 60, 153, 0, 16, 42, 89, 180, 1, 38, 4, 96, 181, 1, 38, 167, 255, 218, 42, 42, 180, 1, 38]
abbrev dktX2_readWord_1 : List UInt8 := dkwX2_readWord_1 ++ dktX2_readWord_2
def dkwX2_readWord_0 : List UInt8 := [42, 42, 180, 1, 38, 182, 1, 70, 184, 1, 53, 154, 0, 17, 42, 42, 180, 1, 38, 182, 1, 70]
abbrev dktX2_readWord_0 : List UInt8 := dkwX2_readWord_0 ++ dktX2_readWord_1
theorem dksX2_readWord_0 : cX2_readWord.data.toList.drop 0 = dktX2_readWord_0 := by decide +kernel
theorem dksX2_readWord_1 : cX2_readWord.data.toList.drop 22 = dktX2_readWord_1 := dk_seg dksX2_readWord_0 22 rfl rfl
theorem dksX2_readWord_2 : cX2_readWord.data.toList.drop 46 = dktX2_readWord_2 := dk_seg dksX2_readWord_1 24 rfl rfl
theorem dksX2_readWord_3 : cX2_readWord.data.toList.drop 69 = dktX2_readWord_3 := dk_seg dksX2_readWord_2 23 rfl rfl
theorem dksX2_readWord_4 : cX2_readWord.data.toList.drop 93 = dktX2_readWord_4 := dk_seg dksX2_readWord_3 24 rfl rfl
theorem dksX2_readWord_5 : cX2_readWord.data.toList.drop 117 = dktX2_readWord_5 := dk_seg dksX2_readWord_4 24 rfl rfl
theorem dksX2_readWord_6 : cX2_readWord.data.toList.drop 140 = dktX2_readWord_6 := dk_seg dksX2_readWord_5 23 rfl rfl
theorem dksX2_readWord_7 : cX2_readWord.data.toList.drop 163 = dktX2_readWord_7 := dk_seg dksX2_readWord_6 23 rfl rfl
theorem dX2_readWord_0 : decode cX2_readWord 0 = .ok (.aload_n 0, 1) := dk_42 (dk_at dksX2_readWord_0 0 rfl rfl)
theorem dX2_readWord_1 : decode cX2_readWord 1 = .ok (.aload_n 0, 1) := dk_42 (dk_at dksX2_readWord_0 1 rfl rfl)
theorem dX2_readWord_2 : decode cX2_readWord 2 = .ok (.getfield 294, 3) := dk_180 1 38 (dk_at dksX2_readWord_0 2 rfl rfl)
theorem dX2_readWord_5 : decode cX2_readWord 5 = .ok (.invokevirtual 326, 3) := dk_182 1 70 (dk_at dksX2_readWord_0 5 rfl rfl)
theorem dX2_readWord_8 : decode cX2_readWord 8 = .ok (.invokestatic 309, 3) := dk_184 1 53 (dk_at dksX2_readWord_0 8 rfl rfl)
theorem dX2_readWord_11 : decode cX2_readWord 11 = .ok (.ifCond .ne 17, 3) := dk_154 0 17 (dk_at dksX2_readWord_0 11 rfl rfl)
theorem dX2_readWord_14 : decode cX2_readWord 14 = .ok (.aload_n 0, 1) := dk_42 (dk_at dksX2_readWord_0 14 rfl rfl)
theorem dX2_readWord_15 : decode cX2_readWord 15 = .ok (.aload_n 0, 1) := dk_42 (dk_at dksX2_readWord_0 15 rfl rfl)
theorem dX2_readWord_16 : decode cX2_readWord 16 = .ok (.getfield 294, 3) := dk_180 1 38 (dk_at dksX2_readWord_0 16 rfl rfl)
theorem dX2_readWord_19 : decode cX2_readWord 19 = .ok (.invokevirtual 326, 3) := dk_182 1 70 (dk_at dksX2_readWord_0 19 rfl rfl)
theorem dX2_readWord_22 : decode cX2_readWord 22 = .ok (.invokestatic 316, 3) := dk_184 1 60 (dk_at dksX2_readWord_1 0 rfl rfl)
theorem dX2_readWord_25 : decode cX2_readWord 25 = .ok (.ifCond .eq 16, 3) := dk_153 0 16 (dk_at dksX2_readWord_1 3 rfl rfl)
theorem dX2_readWord_28 : decode cX2_readWord 28 = .ok (.aload_n 0, 1) := dk_42 (dk_at dksX2_readWord_1 6 rfl rfl)
theorem dX2_readWord_29 : decode cX2_readWord 29 = .ok (.dup, 1) := dk_89 (dk_at dksX2_readWord_1 7 rfl rfl)
theorem dX2_readWord_30 : decode cX2_readWord 30 = .ok (.getfield 294, 3) := dk_180 1 38 (dk_at dksX2_readWord_1 8 rfl rfl)
theorem dX2_readWord_33 : decode cX2_readWord 33 = .ok (.iconst 1, 1) := dk_4 (dk_at dksX2_readWord_1 11 rfl rfl)
theorem dX2_readWord_34 : decode cX2_readWord 34 = .ok (.iadd, 1) := dk_96 (dk_at dksX2_readWord_1 12 rfl rfl)
theorem dX2_readWord_35 : decode cX2_readWord 35 = .ok (.putfield 294, 3) := dk_181 1 38 (dk_at dksX2_readWord_1 13 rfl rfl)
theorem dX2_readWord_38 : decode cX2_readWord 38 = .ok (.goto (-38), 3) := dk_167 255 218 (dk_at dksX2_readWord_1 16 rfl rfl)
theorem dX2_readWord_41 : decode cX2_readWord 41 = .ok (.aload_n 0, 1) := dk_42 (dk_at dksX2_readWord_1 19 rfl rfl)
theorem dX2_readWord_42 : decode cX2_readWord 42 = .ok (.aload_n 0, 1) := dk_42 (dk_at dksX2_readWord_1 20 rfl rfl)
theorem dX2_readWord_43 : decode cX2_readWord 43 = .ok (.getfield 294, 3) := dk_180 1 38 (dk_at dksX2_readWord_1 21 rfl rfl)
theorem dX2_readWord_46 : decode cX2_readWord 46 = .ok (.aload_n 0, 1) := dk_42 (dk_at dksX2_readWord_2 0 rfl rfl)
theorem dX2_readWord_47 : decode cX2_readWord 47 = .ok (.getfield 297, 3) := dk_180 1 41 (dk_at dksX2_readWord_2 1 rfl rfl)
theorem dX2_readWord_50 : decode cX2_readWord 50 = .ok (.isub, 1) := dk_100 (dk_at dksX2_readWord_2 4 rfl rfl)
theorem dX2_readWord_51 : decode cX2_readWord 51 = .ok (.bipush 8, 2) := dk_16 8 (dk_at dksX2_readWord_2 5 rfl rfl)
theorem dX2_readWord_53 : decode cX2_readWord 53 = .ok (.if_icmp .le 7, 3) := dk_164 0 7 (dk_at dksX2_readWord_2 7 rfl rfl)
theorem dX2_readWord_56 : decode cX2_readWord 56 = .ok (.iconst 4, 1) := dk_7 (dk_at dksX2_readWord_2 10 rfl rfl)
theorem dX2_readWord_57 : decode cX2_readWord 57 = .ok (.goto 4, 3) := dk_167 0 4 (dk_at dksX2_readWord_2 11 rfl rfl)
theorem dX2_readWord_60 : decode cX2_readWord 60 = .ok (.iconst 1, 1) := dk_4 (dk_at dksX2_readWord_2 14 rfl rfl)
theorem dX2_readWord_61 : decode cX2_readWord 61 = .ok (.putfield 303, 3) := dk_181 1 47 (dk_at dksX2_readWord_2 15 rfl rfl)
theorem dX2_readWord_64 : decode cX2_readWord 64 = .ok (.iconst 0, 1) := dk_3 (dk_at dksX2_readWord_2 18 rfl rfl)
theorem dX2_readWord_65 : decode cX2_readWord 65 = .ok (.istore_n 1, 1) := dk_60 (dk_at dksX2_readWord_2 19 rfl rfl)
theorem dX2_readWord_66 : decode cX2_readWord 66 = .ok (.iload_n 1, 1) := dk_27 (dk_at dksX2_readWord_2 20 rfl rfl)
theorem dX2_readWord_67 : decode cX2_readWord 67 = .ok (.bipush 51, 2) := dk_16 51 (dk_at dksX2_readWord_2 21 rfl rfl)
theorem dX2_readWord_69 : decode cX2_readWord 69 = .ok (.if_icmp .ge 114, 3) := dk_162 0 114 (dk_at dksX2_readWord_3 0 rfl rfl)
theorem dX2_readWord_72 : decode cX2_readWord 72 = .ok (.aload_n 0, 1) := dk_42 (dk_at dksX2_readWord_3 3 rfl rfl)
theorem dX2_readWord_73 : decode cX2_readWord 73 = .ok (.getfield 303, 3) := dk_180 1 47 (dk_at dksX2_readWord_3 4 rfl rfl)
theorem dX2_readWord_76 : decode cX2_readWord 76 = .ok (.iconst 1, 1) := dk_4 (dk_at dksX2_readWord_3 7 rfl rfl)
theorem dX2_readWord_77 : decode cX2_readWord 77 = .ok (.if_icmp .ne 106, 3) := dk_160 0 106 (dk_at dksX2_readWord_3 8 rfl rfl)
theorem dX2_readWord_80 : decode cX2_readWord 80 = .ok (.aload_n 0, 1) := dk_42 (dk_at dksX2_readWord_3 11 rfl rfl)
theorem dX2_readWord_81 : decode cX2_readWord 81 = .ok (.getfield 111, 3) := dk_180 0 111 (dk_at dksX2_readWord_3 12 rfl rfl)
theorem dX2_readWord_84 : decode cX2_readWord 84 = .ok (.iload_n 1, 1) := dk_27 (dk_at dksX2_readWord_3 15 rfl rfl)
theorem dX2_readWord_85 : decode cX2_readWord 85 = .ok (.aaload, 1) := dk_50 (dk_at dksX2_readWord_3 16 rfl rfl)
theorem dX2_readWord_86 : decode cX2_readWord 86 = .ok (.invokevirtual 330, 3) := dk_182 1 74 (dk_at dksX2_readWord_3 17 rfl rfl)
theorem dX2_readWord_89 : decode cX2_readWord 89 = .ok (.aload_n 0, 1) := dk_42 (dk_at dksX2_readWord_3 20 rfl rfl)
theorem dX2_readWord_90 : decode cX2_readWord 90 = .ok (.getfield 294, 3) := dk_180 1 38 (dk_at dksX2_readWord_3 21 rfl rfl)
theorem dX2_readWord_93 : decode cX2_readWord 93 = .ok (.aload_n 0, 1) := dk_42 (dk_at dksX2_readWord_4 0 rfl rfl)
theorem dX2_readWord_94 : decode cX2_readWord 94 = .ok (.getfield 297, 3) := dk_180 1 41 (dk_at dksX2_readWord_4 1 rfl rfl)
theorem dX2_readWord_97 : decode cX2_readWord 97 = .ok (.isub, 1) := dk_100 (dk_at dksX2_readWord_4 4 rfl rfl)
theorem dX2_readWord_98 : decode cX2_readWord 98 = .ok (.if_icmp .eq 6, 3) := dk_159 0 6 (dk_at dksX2_readWord_4 5 rfl rfl)
theorem dX2_readWord_101 : decode cX2_readWord 101 = .ok (.goto 76, 3) := dk_167 0 76 (dk_at dksX2_readWord_4 8 rfl rfl)
theorem dX2_readWord_104 : decode cX2_readWord 104 = .ok (.iconst 1, 1) := dk_4 (dk_at dksX2_readWord_4 11 rfl rfl)
theorem dX2_readWord_105 : decode cX2_readWord 105 = .ok (.istore_n 2, 1) := dk_61 (dk_at dksX2_readWord_4 12 rfl rfl)
theorem dX2_readWord_106 : decode cX2_readWord 106 = .ok (.iconst 0, 1) := dk_3 (dk_at dksX2_readWord_4 13 rfl rfl)
theorem dX2_readWord_107 : decode cX2_readWord 107 = .ok (.istore_n 3, 1) := dk_62 (dk_at dksX2_readWord_4 14 rfl rfl)
theorem dX2_readWord_108 : decode cX2_readWord 108 = .ok (.iload_n 3, 1) := dk_29 (dk_at dksX2_readWord_4 15 rfl rfl)
theorem dX2_readWord_109 : decode cX2_readWord 109 = .ok (.aload_n 0, 1) := dk_42 (dk_at dksX2_readWord_4 16 rfl rfl)
theorem dX2_readWord_110 : decode cX2_readWord 110 = .ok (.getfield 294, 3) := dk_180 1 38 (dk_at dksX2_readWord_4 17 rfl rfl)
theorem dX2_readWord_113 : decode cX2_readWord 113 = .ok (.aload_n 0, 1) := dk_42 (dk_at dksX2_readWord_4 20 rfl rfl)
theorem dX2_readWord_114 : decode cX2_readWord 114 = .ok (.getfield 297, 3) := dk_180 1 41 (dk_at dksX2_readWord_4 21 rfl rfl)
theorem dX2_readWord_117 : decode cX2_readWord 117 = .ok (.isub, 1) := dk_100 (dk_at dksX2_readWord_5 0 rfl rfl)
theorem dX2_readWord_118 : decode cX2_readWord 118 = .ok (.if_icmp .ge 43, 3) := dk_162 0 43 (dk_at dksX2_readWord_5 1 rfl rfl)
theorem dX2_readWord_121 : decode cX2_readWord 121 = .ok (.iload_n 2, 1) := dk_28 (dk_at dksX2_readWord_5 4 rfl rfl)
theorem dX2_readWord_122 : decode cX2_readWord 122 = .ok (.ifCond .eq 31, 3) := dk_153 0 31 (dk_at dksX2_readWord_5 5 rfl rfl)
theorem dX2_readWord_125 : decode cX2_readWord 125 = .ok (.aload_n 0, 1) := dk_42 (dk_at dksX2_readWord_5 8 rfl rfl)
theorem dX2_readWord_126 : decode cX2_readWord 126 = .ok (.getfield 111, 3) := dk_180 0 111 (dk_at dksX2_readWord_5 9 rfl rfl)
theorem dX2_readWord_129 : decode cX2_readWord 129 = .ok (.iload_n 1, 1) := dk_27 (dk_at dksX2_readWord_5 12 rfl rfl)
theorem dX2_readWord_130 : decode cX2_readWord 130 = .ok (.aaload, 1) := dk_50 (dk_at dksX2_readWord_5 13 rfl rfl)
theorem dX2_readWord_131 : decode cX2_readWord 131 = .ok (.iload_n 3, 1) := dk_29 (dk_at dksX2_readWord_5 14 rfl rfl)
theorem dX2_readWord_132 : decode cX2_readWord 132 = .ok (.invokevirtual 334, 3) := dk_182 1 78 (dk_at dksX2_readWord_5 15 rfl rfl)
theorem dX2_readWord_135 : decode cX2_readWord 135 = .ok (.aload_n 0, 1) := dk_42 (dk_at dksX2_readWord_5 18 rfl rfl)
theorem dX2_readWord_136 : decode cX2_readWord 136 = .ok (.getfield 124, 3) := dk_180 0 124 (dk_at dksX2_readWord_5 19 rfl rfl)
theorem dX2_readWord_139 : decode cX2_readWord 139 = .ok (.aload_n 0, 1) := dk_42 (dk_at dksX2_readWord_5 22 rfl rfl)
theorem dX2_readWord_140 : decode cX2_readWord 140 = .ok (.getfield 297, 3) := dk_180 1 41 (dk_at dksX2_readWord_6 0 rfl rfl)
theorem dX2_readWord_143 : decode cX2_readWord 143 = .ok (.iload_n 3, 1) := dk_29 (dk_at dksX2_readWord_6 3 rfl rfl)
theorem dX2_readWord_144 : decode cX2_readWord 144 = .ok (.iadd, 1) := dk_96 (dk_at dksX2_readWord_6 4 rfl rfl)
theorem dX2_readWord_145 : decode cX2_readWord 145 = .ok (.iaload, 1) := dk_46 (dk_at dksX2_readWord_6 5 rfl rfl)
theorem dX2_readWord_146 : decode cX2_readWord 146 = .ok (.if_icmp .ne 7, 3) := dk_160 0 7 (dk_at dksX2_readWord_6 6 rfl rfl)
theorem dX2_readWord_149 : decode cX2_readWord 149 = .ok (.iconst 1, 1) := dk_4 (dk_at dksX2_readWord_6 9 rfl rfl)
theorem dX2_readWord_150 : decode cX2_readWord 150 = .ok (.goto 4, 3) := dk_167 0 4 (dk_at dksX2_readWord_6 10 rfl rfl)
theorem dX2_readWord_153 : decode cX2_readWord 153 = .ok (.iconst 0, 1) := dk_3 (dk_at dksX2_readWord_6 13 rfl rfl)
theorem dX2_readWord_154 : decode cX2_readWord 154 = .ok (.istore_n 2, 1) := dk_61 (dk_at dksX2_readWord_6 14 rfl rfl)
theorem dX2_readWord_155 : decode cX2_readWord 155 = .ok (.iinc 3 1, 3) := dk_132 3 1 (dk_at dksX2_readWord_6 15 rfl rfl)
theorem dX2_readWord_158 : decode cX2_readWord 158 = .ok (.goto (-50), 3) := dk_167 255 206 (dk_at dksX2_readWord_6 18 rfl rfl)
theorem dX2_readWord_161 : decode cX2_readWord 161 = .ok (.aload_n 0, 1) := dk_42 (dk_at dksX2_readWord_6 21 rfl rfl)
theorem dX2_readWord_162 : decode cX2_readWord 162 = .ok (.iload_n 2, 1) := dk_28 (dk_at dksX2_readWord_6 22 rfl rfl)
theorem dX2_readWord_163 : decode cX2_readWord 163 = .ok (.ifCond .eq 7, 3) := dk_153 0 7 (dk_at dksX2_readWord_7 0 rfl rfl)
theorem dX2_readWord_166 : decode cX2_readWord 166 = .ok (.iload_n 1, 1) := dk_27 (dk_at dksX2_readWord_7 3 rfl rfl)
theorem dX2_readWord_167 : decode cX2_readWord 167 = .ok (.goto 7, 3) := dk_167 0 7 (dk_at dksX2_readWord_7 4 rfl rfl)
theorem dX2_readWord_170 : decode cX2_readWord 170 = .ok (.aload_n 0, 1) := dk_42 (dk_at dksX2_readWord_7 7 rfl rfl)
theorem dX2_readWord_171 : decode cX2_readWord 171 = .ok (.getfield 300, 3) := dk_180 1 44 (dk_at dksX2_readWord_7 8 rfl rfl)
theorem dX2_readWord_174 : decode cX2_readWord 174 = .ok (.putfield 300, 3) := dk_181 1 44 (dk_at dksX2_readWord_7 11 rfl rfl)
theorem dX2_readWord_177 : decode cX2_readWord 177 = .ok (.iinc 1 1, 3) := dk_132 1 1 (dk_at dksX2_readWord_7 14 rfl rfl)
theorem dX2_readWord_180 : decode cX2_readWord 180 = .ok (.goto (-114), 3) := dk_167 255 142 (dk_at dksX2_readWord_7 17 rfl rfl)
theorem dX2_readWord_183 : decode cX2_readWord 183 = .ok (.return_, 1) := dk_177 (dk_at dksX2_readWord_7 20 rfl rfl)
def dkwX2_byteAt_0 : List UInt8 := [27, 42, 180, 1, 35, 162, 0, 12, 42, 180, 0, 124, 27, 46, 167, 0, 4, 3, 172]
abbrev dktX2_byteAt_0 : List UInt8 := dkwX2_byteAt_0 ++ []
theorem dksX2_byteAt_0 : cX2_byteAt.data.toList.drop 0 = dktX2_byteAt_0 := by decide +kernel
theorem dX2_byteAt_0 : decode cX2_byteAt 0 = .ok (.iload_n 1, 1) := dk_27 (dk_at dksX2_byteAt_0 0 rfl rfl)
theorem dX2_byteAt_1 : decode cX2_byteAt 1 = .ok (.aload_n 0, 1) := dk_42 (dk_at dksX2_byteAt_0 1 rfl rfl)
theorem dX2_byteAt_2 : decode cX2_byteAt 2 = .ok (.getfield 291, 3) := dk_180 1 35 (dk_at dksX2_byteAt_0 2 rfl rfl)
theorem dX2_byteAt_5 : decode cX2_byteAt 5 = .ok (.if_icmp .ge 12, 3) := dk_162 0 12 (dk_at dksX2_byteAt_0 5 rfl rfl)
theorem dX2_byteAt_8 : decode cX2_byteAt 8 = .ok (.aload_n 0, 1) := dk_42 (dk_at dksX2_byteAt_0 8 rfl rfl)
theorem dX2_byteAt_9 : decode cX2_byteAt 9 = .ok (.getfield 124, 3) := dk_180 0 124 (dk_at dksX2_byteAt_0 9 rfl rfl)
theorem dX2_byteAt_12 : decode cX2_byteAt 12 = .ok (.iload_n 1, 1) := dk_27 (dk_at dksX2_byteAt_0 12 rfl rfl)
theorem dX2_byteAt_13 : decode cX2_byteAt 13 = .ok (.iaload, 1) := dk_46 (dk_at dksX2_byteAt_0 13 rfl rfl)
theorem dX2_byteAt_14 : decode cX2_byteAt 14 = .ok (.goto 4, 3) := dk_167 0 4 (dk_at dksX2_byteAt_0 14 rfl rfl)
theorem dX2_byteAt_17 : decode cX2_byteAt 17 = .ok (.iconst 0, 1) := dk_3 (dk_at dksX2_byteAt_0 17 rfl rfl)
theorem dX2_byteAt_18 : decode cX2_byteAt 18 = .ok (.ireturn, 1) := dk_172 (dk_at dksX2_byteAt_0 18 rfl rfl)
def dkwX2_isDigit_0 : List UInt8 := [26, 16, 48, 161, 0, 13, 26, 16, 57, 163, 0, 7, 4, 167, 0, 4, 3, 172]
abbrev dktX2_isDigit_0 : List UInt8 := dkwX2_isDigit_0 ++ []
theorem dksX2_isDigit_0 : cX2_isDigit.data.toList.drop 0 = dktX2_isDigit_0 := by decide +kernel
theorem dX2_isDigit_0 : decode cX2_isDigit 0 = .ok (.iload_n 0, 1) := dk_26 (dk_at dksX2_isDigit_0 0 rfl rfl)
theorem dX2_isDigit_1 : decode cX2_isDigit 1 = .ok (.bipush 48, 2) := dk_16 48 (dk_at dksX2_isDigit_0 1 rfl rfl)
theorem dX2_isDigit_3 : decode cX2_isDigit 3 = .ok (.if_icmp .lt 13, 3) := dk_161 0 13 (dk_at dksX2_isDigit_0 3 rfl rfl)
theorem dX2_isDigit_6 : decode cX2_isDigit 6 = .ok (.iload_n 0, 1) := dk_26 (dk_at dksX2_isDigit_0 6 rfl rfl)
theorem dX2_isDigit_7 : decode cX2_isDigit 7 = .ok (.bipush 57, 2) := dk_16 57 (dk_at dksX2_isDigit_0 7 rfl rfl)
theorem dX2_isDigit_9 : decode cX2_isDigit 9 = .ok (.if_icmp .gt 7, 3) := dk_163 0 7 (dk_at dksX2_isDigit_0 9 rfl rfl)
theorem dX2_isDigit_12 : decode cX2_isDigit 12 = .ok (.iconst 1, 1) := dk_4 (dk_at dksX2_isDigit_0 12 rfl rfl)
theorem dX2_isDigit_13 : decode cX2_isDigit 13 = .ok (.goto 4, 3) := dk_167 0 4 (dk_at dksX2_isDigit_0 13 rfl rfl)
theorem dX2_isDigit_16 : decode cX2_isDigit 16 = .ok (.iconst 0, 1) := dk_3 (dk_at dksX2_isDigit_0 16 rfl rfl)
theorem dX2_isDigit_17 : decode cX2_isDigit 17 = .ok (.ireturn, 1) := dk_172 (dk_at dksX2_isDigit_0 17 rfl rfl)
def dkwX2_readNumber_4 : List UInt8 := [5, 181, 1, 47, 177]
abbrev dktX2_readNumber_4 : List UInt8 := dkwX2_readNumber_4 ++ []
def dkwX2_readNumber_3 : List UInt8 := [181, 1, 38, 167, 255, 188, 42, 42, 180, 1, 38, 42, 180, 1, 41, 100, 7, 164, 0, 7, 7, 167, 0, 4]
abbrev dktX2_readNumber_3 : List UInt8 := dkwX2_readNumber_3 ++ dktX2_readNumber_4
def dkwX2_readNumber_2 : List UInt8 := [46, 96, 16, 48, 100, 167, 0, 7, 42, 180, 1, 82, 181, 1, 82, 42, 89, 180, 1, 38, 4, 96]
abbrev dktX2_readNumber_2 : List UInt8 := dkwX2_readNumber_2 ++ dktX2_readNumber_3
def dkwX2_readNumber_1 : List UInt8 := [42, 180, 1, 41, 100, 7, 162, 0, 26, 16, 10, 42, 180, 1, 82, 104, 42, 180, 0, 124, 42, 180, 1, 38]
abbrev dktX2_readNumber_1 : List UInt8 := dkwX2_readNumber_1 ++ dktX2_readNumber_2
def dkwX2_readNumber_0 : List UInt8 := [42, 3, 181, 1, 82, 42, 42, 180, 1, 38, 182, 1, 70, 184, 1, 60, 153, 0, 60, 42, 42, 180, 1, 38]
abbrev dktX2_readNumber_0 : List UInt8 := dkwX2_readNumber_0 ++ dktX2_readNumber_1
theorem dksX2_readNumber_0 : cX2_readNumber.data.toList.drop 0 = dktX2_readNumber_0 := by decide +kernel
theorem dksX2_readNumber_1 : cX2_readNumber.data.toList.drop 24 = dktX2_readNumber_1 := dk_seg dksX2_readNumber_0 24 rfl rfl
theorem dksX2_readNumber_2 : cX2_readNumber.data.toList.drop 48 = dktX2_readNumber_2 := dk_seg dksX2_readNumber_1 24 rfl rfl
theorem dksX2_readNumber_3 : cX2_readNumber.data.toList.drop 70 = dktX2_readNumber_3 := dk_seg dksX2_readNumber_2 22 rfl rfl
theorem dksX2_readNumber_4 : cX2_readNumber.data.toList.drop 94 = dktX2_readNumber_4 := dk_seg dksX2_readNumber_3 24 rfl rfl
theorem dX2_readNumber_0 : decode cX2_readNumber 0 = .ok (.aload_n 0, 1) := dk_42 (dk_at dksX2_readNumber_0 0 rfl rfl)
theorem dX2_readNumber_1 : decode cX2_readNumber 1 = .ok (.iconst 0, 1) := dk_3 (dk_at dksX2_readNumber_0 1 rfl rfl)
theorem dX2_readNumber_2 : decode cX2_readNumber 2 = .ok (.putfield 338, 3) := dk_181 1 82 (dk_at dksX2_readNumber_0 2 rfl rfl)
theorem dX2_readNumber_5 : decode cX2_readNumber 5 = .ok (.aload_n 0, 1) := dk_42 (dk_at dksX2_readNumber_0 5 rfl rfl)
theorem dX2_readNumber_6 : decode cX2_readNumber 6 = .ok (.aload_n 0, 1) := dk_42 (dk_at dksX2_readNumber_0 6 rfl rfl)
theorem dX2_readNumber_7 : decode cX2_readNumber 7 = .ok (.getfield 294, 3) := dk_180 1 38 (dk_at dksX2_readNumber_0 7 rfl rfl)
theorem dX2_readNumber_10 : decode cX2_readNumber 10 = .ok (.invokevirtual 326, 3) := dk_182 1 70 (dk_at dksX2_readNumber_0 10 rfl rfl)
theorem dX2_readNumber_13 : decode cX2_readNumber 13 = .ok (.invokestatic 316, 3) := dk_184 1 60 (dk_at dksX2_readNumber_0 13 rfl rfl)
theorem dX2_readNumber_16 : decode cX2_readNumber 16 = .ok (.ifCond .eq 60, 3) := dk_153 0 60 (dk_at dksX2_readNumber_0 16 rfl rfl)
theorem dX2_readNumber_19 : decode cX2_readNumber 19 = .ok (.aload_n 0, 1) := dk_42 (dk_at dksX2_readNumber_0 19 rfl rfl)
theorem dX2_readNumber_20 : decode cX2_readNumber 20 = .ok (.aload_n 0, 1) := dk_42 (dk_at dksX2_readNumber_0 20 rfl rfl)
theorem dX2_readNumber_21 : decode cX2_readNumber 21 = .ok (.getfield 294, 3) := dk_180 1 38 (dk_at dksX2_readNumber_0 21 rfl rfl)
theorem dX2_readNumber_24 : decode cX2_readNumber 24 = .ok (.aload_n 0, 1) := dk_42 (dk_at dksX2_readNumber_1 0 rfl rfl)
theorem dX2_readNumber_25 : decode cX2_readNumber 25 = .ok (.getfield 297, 3) := dk_180 1 41 (dk_at dksX2_readNumber_1 1 rfl rfl)
theorem dX2_readNumber_28 : decode cX2_readNumber 28 = .ok (.isub, 1) := dk_100 (dk_at dksX2_readNumber_1 4 rfl rfl)
theorem dX2_readNumber_29 : decode cX2_readNumber 29 = .ok (.iconst 4, 1) := dk_7 (dk_at dksX2_readNumber_1 5 rfl rfl)
theorem dX2_readNumber_30 : decode cX2_readNumber 30 = .ok (.if_icmp .ge 26, 3) := dk_162 0 26 (dk_at dksX2_readNumber_1 6 rfl rfl)
theorem dX2_readNumber_33 : decode cX2_readNumber 33 = .ok (.bipush 10, 2) := dk_16 10 (dk_at dksX2_readNumber_1 9 rfl rfl)
theorem dX2_readNumber_35 : decode cX2_readNumber 35 = .ok (.aload_n 0, 1) := dk_42 (dk_at dksX2_readNumber_1 11 rfl rfl)
theorem dX2_readNumber_36 : decode cX2_readNumber 36 = .ok (.getfield 338, 3) := dk_180 1 82 (dk_at dksX2_readNumber_1 12 rfl rfl)
theorem dX2_readNumber_39 : decode cX2_readNumber 39 = .ok (.imul, 1) := dk_104 (dk_at dksX2_readNumber_1 15 rfl rfl)
theorem dX2_readNumber_40 : decode cX2_readNumber 40 = .ok (.aload_n 0, 1) := dk_42 (dk_at dksX2_readNumber_1 16 rfl rfl)
theorem dX2_readNumber_41 : decode cX2_readNumber 41 = .ok (.getfield 124, 3) := dk_180 0 124 (dk_at dksX2_readNumber_1 17 rfl rfl)
theorem dX2_readNumber_44 : decode cX2_readNumber 44 = .ok (.aload_n 0, 1) := dk_42 (dk_at dksX2_readNumber_1 20 rfl rfl)
theorem dX2_readNumber_45 : decode cX2_readNumber 45 = .ok (.getfield 294, 3) := dk_180 1 38 (dk_at dksX2_readNumber_1 21 rfl rfl)
theorem dX2_readNumber_48 : decode cX2_readNumber 48 = .ok (.iaload, 1) := dk_46 (dk_at dksX2_readNumber_2 0 rfl rfl)
theorem dX2_readNumber_49 : decode cX2_readNumber 49 = .ok (.iadd, 1) := dk_96 (dk_at dksX2_readNumber_2 1 rfl rfl)
theorem dX2_readNumber_50 : decode cX2_readNumber 50 = .ok (.bipush 48, 2) := dk_16 48 (dk_at dksX2_readNumber_2 2 rfl rfl)
theorem dX2_readNumber_52 : decode cX2_readNumber 52 = .ok (.isub, 1) := dk_100 (dk_at dksX2_readNumber_2 4 rfl rfl)
theorem dX2_readNumber_53 : decode cX2_readNumber 53 = .ok (.goto 7, 3) := dk_167 0 7 (dk_at dksX2_readNumber_2 5 rfl rfl)
theorem dX2_readNumber_56 : decode cX2_readNumber 56 = .ok (.aload_n 0, 1) := dk_42 (dk_at dksX2_readNumber_2 8 rfl rfl)
theorem dX2_readNumber_57 : decode cX2_readNumber 57 = .ok (.getfield 338, 3) := dk_180 1 82 (dk_at dksX2_readNumber_2 9 rfl rfl)
theorem dX2_readNumber_60 : decode cX2_readNumber 60 = .ok (.putfield 338, 3) := dk_181 1 82 (dk_at dksX2_readNumber_2 12 rfl rfl)
theorem dX2_readNumber_63 : decode cX2_readNumber 63 = .ok (.aload_n 0, 1) := dk_42 (dk_at dksX2_readNumber_2 15 rfl rfl)
theorem dX2_readNumber_64 : decode cX2_readNumber 64 = .ok (.dup, 1) := dk_89 (dk_at dksX2_readNumber_2 16 rfl rfl)
theorem dX2_readNumber_65 : decode cX2_readNumber 65 = .ok (.getfield 294, 3) := dk_180 1 38 (dk_at dksX2_readNumber_2 17 rfl rfl)
theorem dX2_readNumber_68 : decode cX2_readNumber 68 = .ok (.iconst 1, 1) := dk_4 (dk_at dksX2_readNumber_2 20 rfl rfl)
theorem dX2_readNumber_69 : decode cX2_readNumber 69 = .ok (.iadd, 1) := dk_96 (dk_at dksX2_readNumber_2 21 rfl rfl)
theorem dX2_readNumber_70 : decode cX2_readNumber 70 = .ok (.putfield 294, 3) := dk_181 1 38 (dk_at dksX2_readNumber_3 0 rfl rfl)
theorem dX2_readNumber_73 : decode cX2_readNumber 73 = .ok (.goto (-68), 3) := dk_167 255 188 (dk_at dksX2_readNumber_3 3 rfl rfl)
theorem dX2_readNumber_76 : decode cX2_readNumber 76 = .ok (.aload_n 0, 1) := dk_42 (dk_at dksX2_readNumber_3 6 rfl rfl)
theorem dX2_readNumber_77 : decode cX2_readNumber 77 = .ok (.aload_n 0, 1) := dk_42 (dk_at dksX2_readNumber_3 7 rfl rfl)
theorem dX2_readNumber_78 : decode cX2_readNumber 78 = .ok (.getfield 294, 3) := dk_180 1 38 (dk_at dksX2_readNumber_3 8 rfl rfl)
theorem dX2_readNumber_81 : decode cX2_readNumber 81 = .ok (.aload_n 0, 1) := dk_42 (dk_at dksX2_readNumber_3 11 rfl rfl)
theorem dX2_readNumber_82 : decode cX2_readNumber 82 = .ok (.getfield 297, 3) := dk_180 1 41 (dk_at dksX2_readNumber_3 12 rfl rfl)
theorem dX2_readNumber_85 : decode cX2_readNumber 85 = .ok (.isub, 1) := dk_100 (dk_at dksX2_readNumber_3 15 rfl rfl)
theorem dX2_readNumber_86 : decode cX2_readNumber 86 = .ok (.iconst 4, 1) := dk_7 (dk_at dksX2_readNumber_3 16 rfl rfl)
theorem dX2_readNumber_87 : decode cX2_readNumber 87 = .ok (.if_icmp .le 7, 3) := dk_164 0 7 (dk_at dksX2_readNumber_3 17 rfl rfl)
theorem dX2_readNumber_90 : decode cX2_readNumber 90 = .ok (.iconst 4, 1) := dk_7 (dk_at dksX2_readNumber_3 20 rfl rfl)
theorem dX2_readNumber_91 : decode cX2_readNumber 91 = .ok (.goto 4, 3) := dk_167 0 4 (dk_at dksX2_readNumber_3 21 rfl rfl)
theorem dX2_readNumber_94 : decode cX2_readNumber 94 = .ok (.iconst 2, 1) := dk_5 (dk_at dksX2_readNumber_4 0 rfl rfl)
theorem dX2_readNumber_95 : decode cX2_readNumber 95 = .ok (.putfield 303, 3) := dk_181 1 47 (dk_at dksX2_readNumber_4 1 rfl rfl)
theorem dX2_readNumber_98 : decode cX2_readNumber 98 = .ok (.return_, 1) := dk_177 (dk_at dksX2_readNumber_4 4 rfl rfl)
def dkwX2_readSign_7 : List UInt8 := [181, 1, 47, 42, 28, 153, 0, 11, 17, 1, 0, 27, 96, 167, 0, 4, 27, 181, 1, 82, 177]
abbrev dktX2_readSign_7 : List UInt8 := dkwX2_readSign_7 ++ []
def dkwX2_readSign_6 : List UInt8 := [160, 0, 7, 4, 167, 0, 4, 3, 62, 42, 29, 154, 0, 7, 28, 153, 0, 7, 6, 167, 0, 4, 7]
abbrev dktX2_readSign_6 : List UInt8 := dkwX2_readSign_6 ++ dktX2_readSign_7
def dkwX2_readSign_5 : List UInt8 := [159, 0, 27, 27, 16, 47, 159, 0, 21, 27, 16, 60, 159, 0, 15, 27, 16, 62, 159, 0, 9, 27, 16, 61]
abbrev dktX2_readSign_5 : List UInt8 := dkwX2_readSign_5 ++ dktX2_readSign_6
def dkwX2_readSign_4 : List UInt8 := [159, 0, 51, 27, 16, 46, 159, 0, 45, 27, 16, 43, 159, 0, 39, 27, 16, 45, 159, 0, 33, 27, 16, 42]
abbrev dktX2_readSign_4 : List UInt8 := dkwX2_readSign_4 ++ dktX2_readSign_5
def dkwX2_readSign_3 : List UInt8 := [159, 0, 75, 27, 16, 125, 159, 0, 69, 27, 16, 40, 159, 0, 63, 27, 16, 41, 159, 0, 57, 27, 16, 59]
abbrev dktX2_readSign_3 : List UInt8 := dkwX2_readSign_3 ++ dktX2_readSign_4
def dkwX2_readSign_2 : List UInt8 := [4, 167, 0, 4, 3, 61, 28, 153, 0, 13, 42, 89, 180, 1, 38, 4, 96, 181, 1, 38, 27, 16, 123]
abbrev dktX2_readSign_2 : List UInt8 := dkwX2_readSign_2 ++ dktX2_readSign_3
def dkwX2_readSign_1 : List UInt8 := [16, 61, 159, 0, 9, 27, 16, 33, 160, 0, 20, 42, 42, 180, 1, 38, 182, 1, 70, 16, 61, 160, 0, 7]
abbrev dktX2_readSign_1 : List UInt8 := dkwX2_readSign_1 ++ dktX2_readSign_2
def dkwX2_readSign_0 : List UInt8 := [42, 89, 180, 1, 38, 4, 96, 181, 1, 38, 27, 16, 60, 159, 0, 21, 27, 16, 62, 159, 0, 15, 27]
abbrev dktX2_readSign_0 : List UInt8 := dkwX2_readSign_0 ++ dktX2_readSign_1
theorem dksX2_readSign_0 : cX2_readSign.data.toList.drop 0 = dktX2_readSign_0 := by decide +kernel
theorem dksX2_readSign_1 : cX2_readSign.data.toList.drop 23 = dktX2_readSign_1 := dk_seg dksX2_readSign_0 23 rfl rfl
theorem dksX2_readSign_2 : cX2_readSign.data.toList.drop 47 = dktX2_readSign_2 := dk_seg dksX2_readSign_1 24 rfl rfl
theorem dksX2_readSign_3 : cX2_readSign.data.toList.drop 70 = dktX2_readSign_3 := dk_seg dksX2_readSign_2 23 rfl rfl
theorem dksX2_readSign_4 : cX2_readSign.data.toList.drop 94 = dktX2_readSign_4 := dk_seg dksX2_readSign_3 24 rfl rfl
theorem dksX2_readSign_5 : cX2_readSign.data.toList.drop 118 = dktX2_readSign_5 := dk_seg dksX2_readSign_4 24 rfl rfl
theorem dksX2_readSign_6 : cX2_readSign.data.toList.drop 142 = dktX2_readSign_6 := dk_seg dksX2_readSign_5 24 rfl rfl
theorem dksX2_readSign_7 : cX2_readSign.data.toList.drop 165 = dktX2_readSign_7 := dk_seg dksX2_readSign_6 23 rfl rfl
theorem dX2_readSign_0 : decode cX2_readSign 0 = .ok (.aload_n 0, 1) := dk_42 (dk_at dksX2_readSign_0 0 rfl rfl)
theorem dX2_readSign_1 : decode cX2_readSign 1 = .ok (.dup, 1) := dk_89 (dk_at dksX2_readSign_0 1 rfl rfl)
theorem dX2_readSign_2 : decode cX2_readSign 2 = .ok (.getfield 294, 3) := dk_180 1 38 (dk_at dksX2_readSign_0 2 rfl rfl)
theorem dX2_readSign_5 : decode cX2_readSign 5 = .ok (.iconst 1, 1) := dk_4 (dk_at dksX2_readSign_0 5 rfl rfl)
theorem dX2_readSign_6 : decode cX2_readSign 6 = .ok (.iadd, 1) := dk_96 (dk_at dksX2_readSign_0 6 rfl rfl)
theorem dX2_readSign_7 : decode cX2_readSign 7 = .ok (.putfield 294, 3) := dk_181 1 38 (dk_at dksX2_readSign_0 7 rfl rfl)
theorem dX2_readSign_10 : decode cX2_readSign 10 = .ok (.iload_n 1, 1) := dk_27 (dk_at dksX2_readSign_0 10 rfl rfl)
theorem dX2_readSign_11 : decode cX2_readSign 11 = .ok (.bipush 60, 2) := dk_16 60 (dk_at dksX2_readSign_0 11 rfl rfl)
theorem dX2_readSign_13 : decode cX2_readSign 13 = .ok (.if_icmp .eq 21, 3) := dk_159 0 21 (dk_at dksX2_readSign_0 13 rfl rfl)
theorem dX2_readSign_16 : decode cX2_readSign 16 = .ok (.iload_n 1, 1) := dk_27 (dk_at dksX2_readSign_0 16 rfl rfl)
theorem dX2_readSign_17 : decode cX2_readSign 17 = .ok (.bipush 62, 2) := dk_16 62 (dk_at dksX2_readSign_0 17 rfl rfl)
theorem dX2_readSign_19 : decode cX2_readSign 19 = .ok (.if_icmp .eq 15, 3) := dk_159 0 15 (dk_at dksX2_readSign_0 19 rfl rfl)
theorem dX2_readSign_22 : decode cX2_readSign 22 = .ok (.iload_n 1, 1) := dk_27 (dk_at dksX2_readSign_0 22 rfl rfl)
theorem dX2_readSign_23 : decode cX2_readSign 23 = .ok (.bipush 61, 2) := dk_16 61 (dk_at dksX2_readSign_1 0 rfl rfl)
theorem dX2_readSign_25 : decode cX2_readSign 25 = .ok (.if_icmp .eq 9, 3) := dk_159 0 9 (dk_at dksX2_readSign_1 2 rfl rfl)
theorem dX2_readSign_28 : decode cX2_readSign 28 = .ok (.iload_n 1, 1) := dk_27 (dk_at dksX2_readSign_1 5 rfl rfl)
theorem dX2_readSign_29 : decode cX2_readSign 29 = .ok (.bipush 33, 2) := dk_16 33 (dk_at dksX2_readSign_1 6 rfl rfl)
theorem dX2_readSign_31 : decode cX2_readSign 31 = .ok (.if_icmp .ne 20, 3) := dk_160 0 20 (dk_at dksX2_readSign_1 8 rfl rfl)
theorem dX2_readSign_34 : decode cX2_readSign 34 = .ok (.aload_n 0, 1) := dk_42 (dk_at dksX2_readSign_1 11 rfl rfl)
theorem dX2_readSign_35 : decode cX2_readSign 35 = .ok (.aload_n 0, 1) := dk_42 (dk_at dksX2_readSign_1 12 rfl rfl)
theorem dX2_readSign_36 : decode cX2_readSign 36 = .ok (.getfield 294, 3) := dk_180 1 38 (dk_at dksX2_readSign_1 13 rfl rfl)
theorem dX2_readSign_39 : decode cX2_readSign 39 = .ok (.invokevirtual 326, 3) := dk_182 1 70 (dk_at dksX2_readSign_1 16 rfl rfl)
theorem dX2_readSign_42 : decode cX2_readSign 42 = .ok (.bipush 61, 2) := dk_16 61 (dk_at dksX2_readSign_1 19 rfl rfl)
theorem dX2_readSign_44 : decode cX2_readSign 44 = .ok (.if_icmp .ne 7, 3) := dk_160 0 7 (dk_at dksX2_readSign_1 21 rfl rfl)
theorem dX2_readSign_47 : decode cX2_readSign 47 = .ok (.iconst 1, 1) := dk_4 (dk_at dksX2_readSign_2 0 rfl rfl)
theorem dX2_readSign_48 : decode cX2_readSign 48 = .ok (.goto 4, 3) := dk_167 0 4 (dk_at dksX2_readSign_2 1 rfl rfl)
theorem dX2_readSign_51 : decode cX2_readSign 51 = .ok (.iconst 0, 1) := dk_3 (dk_at dksX2_readSign_2 4 rfl rfl)
theorem dX2_readSign_52 : decode cX2_readSign 52 = .ok (.istore_n 2, 1) := dk_61 (dk_at dksX2_readSign_2 5 rfl rfl)
theorem dX2_readSign_53 : decode cX2_readSign 53 = .ok (.iload_n 2, 1) := dk_28 (dk_at dksX2_readSign_2 6 rfl rfl)
theorem dX2_readSign_54 : decode cX2_readSign 54 = .ok (.ifCond .eq 13, 3) := dk_153 0 13 (dk_at dksX2_readSign_2 7 rfl rfl)
theorem dX2_readSign_57 : decode cX2_readSign 57 = .ok (.aload_n 0, 1) := dk_42 (dk_at dksX2_readSign_2 10 rfl rfl)
theorem dX2_readSign_58 : decode cX2_readSign 58 = .ok (.dup, 1) := dk_89 (dk_at dksX2_readSign_2 11 rfl rfl)
theorem dX2_readSign_59 : decode cX2_readSign 59 = .ok (.getfield 294, 3) := dk_180 1 38 (dk_at dksX2_readSign_2 12 rfl rfl)
theorem dX2_readSign_62 : decode cX2_readSign 62 = .ok (.iconst 1, 1) := dk_4 (dk_at dksX2_readSign_2 15 rfl rfl)
theorem dX2_readSign_63 : decode cX2_readSign 63 = .ok (.iadd, 1) := dk_96 (dk_at dksX2_readSign_2 16 rfl rfl)
theorem dX2_readSign_64 : decode cX2_readSign 64 = .ok (.putfield 294, 3) := dk_181 1 38 (dk_at dksX2_readSign_2 17 rfl rfl)
theorem dX2_readSign_67 : decode cX2_readSign 67 = .ok (.iload_n 1, 1) := dk_27 (dk_at dksX2_readSign_2 20 rfl rfl)
theorem dX2_readSign_68 : decode cX2_readSign 68 = .ok (.bipush 123, 2) := dk_16 123 (dk_at dksX2_readSign_2 21 rfl rfl)
theorem dX2_readSign_70 : decode cX2_readSign 70 = .ok (.if_icmp .eq 75, 3) := dk_159 0 75 (dk_at dksX2_readSign_3 0 rfl rfl)
theorem dX2_readSign_73 : decode cX2_readSign 73 = .ok (.iload_n 1, 1) := dk_27 (dk_at dksX2_readSign_3 3 rfl rfl)
theorem dX2_readSign_74 : decode cX2_readSign 74 = .ok (.bipush 125, 2) := dk_16 125 (dk_at dksX2_readSign_3 4 rfl rfl)
theorem dX2_readSign_76 : decode cX2_readSign 76 = .ok (.if_icmp .eq 69, 3) := dk_159 0 69 (dk_at dksX2_readSign_3 6 rfl rfl)
theorem dX2_readSign_79 : decode cX2_readSign 79 = .ok (.iload_n 1, 1) := dk_27 (dk_at dksX2_readSign_3 9 rfl rfl)
theorem dX2_readSign_80 : decode cX2_readSign 80 = .ok (.bipush 40, 2) := dk_16 40 (dk_at dksX2_readSign_3 10 rfl rfl)
theorem dX2_readSign_82 : decode cX2_readSign 82 = .ok (.if_icmp .eq 63, 3) := dk_159 0 63 (dk_at dksX2_readSign_3 12 rfl rfl)
theorem dX2_readSign_85 : decode cX2_readSign 85 = .ok (.iload_n 1, 1) := dk_27 (dk_at dksX2_readSign_3 15 rfl rfl)
theorem dX2_readSign_86 : decode cX2_readSign 86 = .ok (.bipush 41, 2) := dk_16 41 (dk_at dksX2_readSign_3 16 rfl rfl)
theorem dX2_readSign_88 : decode cX2_readSign 88 = .ok (.if_icmp .eq 57, 3) := dk_159 0 57 (dk_at dksX2_readSign_3 18 rfl rfl)
theorem dX2_readSign_91 : decode cX2_readSign 91 = .ok (.iload_n 1, 1) := dk_27 (dk_at dksX2_readSign_3 21 rfl rfl)
theorem dX2_readSign_92 : decode cX2_readSign 92 = .ok (.bipush 59, 2) := dk_16 59 (dk_at dksX2_readSign_3 22 rfl rfl)
theorem dX2_readSign_94 : decode cX2_readSign 94 = .ok (.if_icmp .eq 51, 3) := dk_159 0 51 (dk_at dksX2_readSign_4 0 rfl rfl)
theorem dX2_readSign_97 : decode cX2_readSign 97 = .ok (.iload_n 1, 1) := dk_27 (dk_at dksX2_readSign_4 3 rfl rfl)
theorem dX2_readSign_98 : decode cX2_readSign 98 = .ok (.bipush 46, 2) := dk_16 46 (dk_at dksX2_readSign_4 4 rfl rfl)
theorem dX2_readSign_100 : decode cX2_readSign 100 = .ok (.if_icmp .eq 45, 3) := dk_159 0 45 (dk_at dksX2_readSign_4 6 rfl rfl)
theorem dX2_readSign_103 : decode cX2_readSign 103 = .ok (.iload_n 1, 1) := dk_27 (dk_at dksX2_readSign_4 9 rfl rfl)
theorem dX2_readSign_104 : decode cX2_readSign 104 = .ok (.bipush 43, 2) := dk_16 43 (dk_at dksX2_readSign_4 10 rfl rfl)
theorem dX2_readSign_106 : decode cX2_readSign 106 = .ok (.if_icmp .eq 39, 3) := dk_159 0 39 (dk_at dksX2_readSign_4 12 rfl rfl)
theorem dX2_readSign_109 : decode cX2_readSign 109 = .ok (.iload_n 1, 1) := dk_27 (dk_at dksX2_readSign_4 15 rfl rfl)
theorem dX2_readSign_110 : decode cX2_readSign 110 = .ok (.bipush 45, 2) := dk_16 45 (dk_at dksX2_readSign_4 16 rfl rfl)
theorem dX2_readSign_112 : decode cX2_readSign 112 = .ok (.if_icmp .eq 33, 3) := dk_159 0 33 (dk_at dksX2_readSign_4 18 rfl rfl)
theorem dX2_readSign_115 : decode cX2_readSign 115 = .ok (.iload_n 1, 1) := dk_27 (dk_at dksX2_readSign_4 21 rfl rfl)
theorem dX2_readSign_116 : decode cX2_readSign 116 = .ok (.bipush 42, 2) := dk_16 42 (dk_at dksX2_readSign_4 22 rfl rfl)
theorem dX2_readSign_118 : decode cX2_readSign 118 = .ok (.if_icmp .eq 27, 3) := dk_159 0 27 (dk_at dksX2_readSign_5 0 rfl rfl)
theorem dX2_readSign_121 : decode cX2_readSign 121 = .ok (.iload_n 1, 1) := dk_27 (dk_at dksX2_readSign_5 3 rfl rfl)
theorem dX2_readSign_122 : decode cX2_readSign 122 = .ok (.bipush 47, 2) := dk_16 47 (dk_at dksX2_readSign_5 4 rfl rfl)
theorem dX2_readSign_124 : decode cX2_readSign 124 = .ok (.if_icmp .eq 21, 3) := dk_159 0 21 (dk_at dksX2_readSign_5 6 rfl rfl)
theorem dX2_readSign_127 : decode cX2_readSign 127 = .ok (.iload_n 1, 1) := dk_27 (dk_at dksX2_readSign_5 9 rfl rfl)
theorem dX2_readSign_128 : decode cX2_readSign 128 = .ok (.bipush 60, 2) := dk_16 60 (dk_at dksX2_readSign_5 10 rfl rfl)
theorem dX2_readSign_130 : decode cX2_readSign 130 = .ok (.if_icmp .eq 15, 3) := dk_159 0 15 (dk_at dksX2_readSign_5 12 rfl rfl)
theorem dX2_readSign_133 : decode cX2_readSign 133 = .ok (.iload_n 1, 1) := dk_27 (dk_at dksX2_readSign_5 15 rfl rfl)
theorem dX2_readSign_134 : decode cX2_readSign 134 = .ok (.bipush 62, 2) := dk_16 62 (dk_at dksX2_readSign_5 16 rfl rfl)
theorem dX2_readSign_136 : decode cX2_readSign 136 = .ok (.if_icmp .eq 9, 3) := dk_159 0 9 (dk_at dksX2_readSign_5 18 rfl rfl)
theorem dX2_readSign_139 : decode cX2_readSign 139 = .ok (.iload_n 1, 1) := dk_27 (dk_at dksX2_readSign_5 21 rfl rfl)
theorem dX2_readSign_140 : decode cX2_readSign 140 = .ok (.bipush 61, 2) := dk_16 61 (dk_at dksX2_readSign_5 22 rfl rfl)
theorem dX2_readSign_142 : decode cX2_readSign 142 = .ok (.if_icmp .ne 7, 3) := dk_160 0 7 (dk_at dksX2_readSign_6 0 rfl rfl)
theorem dX2_readSign_145 : decode cX2_readSign 145 = .ok (.iconst 1, 1) := dk_4 (dk_at dksX2_readSign_6 3 rfl rfl)
theorem dX2_readSign_146 : decode cX2_readSign 146 = .ok (.goto 4, 3) := dk_167 0 4 (dk_at dksX2_readSign_6 4 rfl rfl)
theorem dX2_readSign_149 : decode cX2_readSign 149 = .ok (.iconst 0, 1) := dk_3 (dk_at dksX2_readSign_6 7 rfl rfl)
theorem dX2_readSign_150 : decode cX2_readSign 150 = .ok (.istore_n 3, 1) := dk_62 (dk_at dksX2_readSign_6 8 rfl rfl)
theorem dX2_readSign_151 : decode cX2_readSign 151 = .ok (.aload_n 0, 1) := dk_42 (dk_at dksX2_readSign_6 9 rfl rfl)
theorem dX2_readSign_152 : decode cX2_readSign 152 = .ok (.iload_n 3, 1) := dk_29 (dk_at dksX2_readSign_6 10 rfl rfl)
theorem dX2_readSign_153 : decode cX2_readSign 153 = .ok (.ifCond .ne 7, 3) := dk_154 0 7 (dk_at dksX2_readSign_6 11 rfl rfl)
theorem dX2_readSign_156 : decode cX2_readSign 156 = .ok (.iload_n 2, 1) := dk_28 (dk_at dksX2_readSign_6 14 rfl rfl)
theorem dX2_readSign_157 : decode cX2_readSign 157 = .ok (.ifCond .eq 7, 3) := dk_153 0 7 (dk_at dksX2_readSign_6 15 rfl rfl)
theorem dX2_readSign_160 : decode cX2_readSign 160 = .ok (.iconst 3, 1) := dk_6 (dk_at dksX2_readSign_6 18 rfl rfl)
theorem dX2_readSign_161 : decode cX2_readSign 161 = .ok (.goto 4, 3) := dk_167 0 4 (dk_at dksX2_readSign_6 19 rfl rfl)
theorem dX2_readSign_164 : decode cX2_readSign 164 = .ok (.iconst 4, 1) := dk_7 (dk_at dksX2_readSign_6 22 rfl rfl)
theorem dX2_readSign_165 : decode cX2_readSign 165 = .ok (.putfield 303, 3) := dk_181 1 47 (dk_at dksX2_readSign_7 0 rfl rfl)
theorem dX2_readSign_168 : decode cX2_readSign 168 = .ok (.aload_n 0, 1) := dk_42 (dk_at dksX2_readSign_7 3 rfl rfl)
theorem dX2_readSign_169 : decode cX2_readSign 169 = .ok (.iload_n 2, 1) := dk_28 (dk_at dksX2_readSign_7 4 rfl rfl)
theorem dX2_readSign_170 : decode cX2_readSign 170 = .ok (.ifCond .eq 11, 3) := dk_153 0 11 (dk_at dksX2_readSign_7 5 rfl rfl)
theorem dX2_readSign_173 : decode cX2_readSign 173 = .ok (.sipush 256, 3) := dk_17 1 0 (dk_at dksX2_readSign_7 8 rfl rfl)
theorem dX2_readSign_176 : decode cX2_readSign 176 = .ok (.iload_n 1, 1) := dk_27 (dk_at dksX2_readSign_7 11 rfl rfl)
theorem dX2_readSign_177 : decode cX2_readSign 177 = .ok (.iadd, 1) := dk_96 (dk_at dksX2_readSign_7 12 rfl rfl)
theorem dX2_readSign_178 : decode cX2_readSign 178 = .ok (.goto 4, 3) := dk_167 0 4 (dk_at dksX2_readSign_7 13 rfl rfl)
theorem dX2_readSign_181 : decode cX2_readSign 181 = .ok (.iload_n 1, 1) := dk_27 (dk_at dksX2_readSign_7 16 rfl rfl)
theorem dX2_readSign_182 : decode cX2_readSign 182 = .ok (.putfield 338, 3) := dk_181 1 82 (dk_at dksX2_readSign_7 17 rfl rfl)
theorem dX2_readSign_185 : decode cX2_readSign 185 = .ok (.return_, 1) := dk_177 (dk_at dksX2_readSign_7 20 rfl rfl)
def dkwX2_declaration_9 : List UInt8 := [42, 182, 1, 129, 177, 42, 180, 1, 32, 154, 0, 10, 42, 16, 59, 182, 1, 131, 87, 177]
abbrev dktX2_declaration_9 : List UInt8 := dkwX2_declaration_9 ++ []
def dkwX2_declaration_8 : List UInt8 := [42, 180, 1, 117, 182, 1, 125, 154, 0, 4, 177, 42, 89, 180, 1, 117, 4, 96, 181, 1, 117, 167, 0, 8]
abbrev dktX2_declaration_8 : List UInt8 := dkwX2_declaration_8 ++ dktX2_declaration_9
def dkwX2_declaration_7 : List UInt8 := [182, 1, 120, 79, 42, 89, 180, 1, 115, 4, 96, 181, 1, 115, 167, 0, 39, 28, 5, 160, 0, 29, 42, 5]
abbrev dktX2_declaration_7 : List UInt8 := dkwX2_declaration_7 ++ dktX2_declaration_8
def dkwX2_declaration_6 : List UInt8 := [180, 1, 115, 182, 1, 125, 154, 0, 4, 177, 42, 180, 0, 169, 42, 180, 1, 115, 42, 4, 16, 9]
abbrev dktX2_declaration_6 : List UInt8 := dkwX2_declaration_6 ++ dktX2_declaration_7
def dkwX2_declaration_5 : List UInt8 := [182, 1, 120, 181, 1, 123, 42, 4, 181, 1, 111, 167, 0, 86, 28, 4, 160, 0, 45, 42, 4, 42]
abbrev dktX2_declaration_5 : List UInt8 := dkwX2_declaration_5 ++ dktX2_declaration_6
def dkwX2_declaration_4 : List UInt8 := [160, 0, 10, 42, 7, 27, 182, 1, 88, 177, 42, 182, 1, 92, 28, 154, 0, 23, 42, 42, 4, 17, 39, 15]
abbrev dktX2_declaration_4 : List UInt8 := dkwX2_declaration_4 ++ dktX2_declaration_5
def dkwX2_declaration_3 : List UInt8 := [160, 0, 12, 42, 180, 1, 117, 16, 8, 159, 0, 17, 28, 6, 160, 0, 19, 42, 180, 1, 105, 16, 12]
abbrev dktX2_declaration_3 : List UInt8 := dkwX2_declaration_3 ++ dktX2_declaration_4
def dkwX2_declaration_2 : List UInt8 := [180, 1, 111, 154, 0, 45, 28, 4, 160, 0, 12, 42, 180, 1, 115, 16, 6, 159, 0, 31, 28, 5]
abbrev dktX2_declaration_2 : List UInt8 := dkwX2_declaration_2 ++ dktX2_declaration_3
def dkwX2_declaration_1 : List UInt8 := [6, 164, 0, 13, 42, 4, 42, 180, 1, 41, 182, 1, 88, 177, 42, 180, 1, 44, 61, 28, 154, 0, 10, 42]
abbrev dktX2_declaration_1 : List UInt8 := dkwX2_declaration_1 ++ dktX2_declaration_2
def dkwX2_declaration_0 : List UInt8 := [42, 180, 1, 41, 60, 42, 180, 1, 47, 4, 160, 0, 18, 42, 180, 1, 44, 155, 0, 11, 42, 180, 1, 44]
abbrev dktX2_declaration_0 : List UInt8 := dkwX2_declaration_0 ++ dktX2_declaration_1
theorem dksX2_declaration_0 : cX2_declaration.data.toList.drop 0 = dktX2_declaration_0 := by decide +kernel
theorem dksX2_declaration_1 : cX2_declaration.data.toList.drop 24 = dktX2_declaration_1 := dk_seg dksX2_declaration_0 24 rfl rfl
theorem dksX2_declaration_2 : cX2_declaration.data.toList.drop 48 = dktX2_declaration_2 := dk_seg dksX2_declaration_1 24 rfl rfl
theorem dksX2_declaration_3 : cX2_declaration.data.toList.drop 70 = dktX2_declaration_3 := dk_seg dksX2_declaration_2 22 rfl rfl
theorem dksX2_declaration_4 : cX2_declaration.data.toList.drop 93 = dktX2_declaration_4 := dk_seg dksX2_declaration_3 23 rfl rfl
theorem dksX2_declaration_5 : cX2_declaration.data.toList.drop 117 = dktX2_declaration_5 := dk_seg dksX2_declaration_4 24 rfl rfl
theorem dksX2_declaration_6 : cX2_declaration.data.toList.drop 139 = dktX2_declaration_6 := dk_seg dksX2_declaration_5 22 rfl rfl
theorem dksX2_declaration_7 : cX2_declaration.data.toList.drop 161 = dktX2_declaration_7 := dk_seg dksX2_declaration_6 22 rfl rfl
theorem dksX2_declaration_8 : cX2_declaration.data.toList.drop 185 = dktX2_declaration_8 := dk_seg dksX2_declaration_7 24 rfl rfl
theorem dksX2_declaration_9 : cX2_declaration.data.toList.drop 209 = dktX2_declaration_9 := dk_seg dksX2_declaration_8 24 rfl rfl
theorem dX2_declaration_0 : decode cX2_declaration 0 = .ok (.aload_n 0, 1) := dk_42 (dk_at dksX2_declaration_0 0 rfl rfl)
theorem dX2_declaration_1 : decode cX2_declaration 1 = .ok (.getfield 297, 3) := dk_180 1 41 (dk_at dksX2_declaration_0 1 rfl rfl)
theorem dX2_declaration_4 : decode cX2_declaration 4 = .ok (.istore_n 1, 1) := dk_60 (dk_at dksX2_declaration_0 4 rfl rfl)
theorem dX2_declaration_5 : decode cX2_declaration 5 = .ok (.aload_n 0, 1) := dk_42 (dk_at dksX2_declaration_0 5 rfl rfl)
theorem dX2_declaration_6 : decode cX2_declaration 6 = .ok (.getfield 303, 3) := dk_180 1 47 (dk_at dksX2_declaration_0 6 rfl rfl)
theorem dX2_declaration_9 : decode cX2_declaration 9 = .ok (.iconst 1, 1) := dk_4 (dk_at dksX2_declaration_0 9 rfl rfl)
theorem dX2_declaration_10 : decode cX2_declaration 10 = .ok (.if_icmp .ne 18, 3) := dk_160 0 18 (dk_at dksX2_declaration_0 10 rfl rfl)
theorem dX2_declaration_13 : decode cX2_declaration 13 = .ok (.aload_n 0, 1) := dk_42 (dk_at dksX2_declaration_0 13 rfl rfl)
theorem dX2_declaration_14 : decode cX2_declaration 14 = .ok (.getfield 300, 3) := dk_180 1 44 (dk_at dksX2_declaration_0 14 rfl rfl)
theorem dX2_declaration_17 : decode cX2_declaration 17 = .ok (.ifCond .lt 11, 3) := dk_155 0 11 (dk_at dksX2_declaration_0 17 rfl rfl)
theorem dX2_declaration_20 : decode cX2_declaration 20 = .ok (.aload_n 0, 1) := dk_42 (dk_at dksX2_declaration_0 20 rfl rfl)
theorem dX2_declaration_21 : decode cX2_declaration 21 = .ok (.getfield 300, 3) := dk_180 1 44 (dk_at dksX2_declaration_0 21 rfl rfl)
theorem dX2_declaration_24 : decode cX2_declaration 24 = .ok (.iconst 3, 1) := dk_6 (dk_at dksX2_declaration_1 0 rfl rfl)
theorem dX2_declaration_25 : decode cX2_declaration 25 = .ok (.if_icmp .le 13, 3) := dk_164 0 13 (dk_at dksX2_declaration_1 1 rfl rfl)
theorem dX2_declaration_28 : decode cX2_declaration 28 = .ok (.aload_n 0, 1) := dk_42 (dk_at dksX2_declaration_1 4 rfl rfl)
theorem dX2_declaration_29 : decode cX2_declaration 29 = .ok (.iconst 1, 1) := dk_4 (dk_at dksX2_declaration_1 5 rfl rfl)
theorem dX2_declaration_30 : decode cX2_declaration 30 = .ok (.aload_n 0, 1) := dk_42 (dk_at dksX2_declaration_1 6 rfl rfl)
theorem dX2_declaration_31 : decode cX2_declaration 31 = .ok (.getfield 297, 3) := dk_180 1 41 (dk_at dksX2_declaration_1 7 rfl rfl)
theorem dX2_declaration_34 : decode cX2_declaration 34 = .ok (.invokevirtual 344, 3) := dk_182 1 88 (dk_at dksX2_declaration_1 10 rfl rfl)
theorem dX2_declaration_37 : decode cX2_declaration 37 = .ok (.return_, 1) := dk_177 (dk_at dksX2_declaration_1 13 rfl rfl)
theorem dX2_declaration_38 : decode cX2_declaration 38 = .ok (.aload_n 0, 1) := dk_42 (dk_at dksX2_declaration_1 14 rfl rfl)
theorem dX2_declaration_39 : decode cX2_declaration 39 = .ok (.getfield 300, 3) := dk_180 1 44 (dk_at dksX2_declaration_1 15 rfl rfl)
theorem dX2_declaration_42 : decode cX2_declaration 42 = .ok (.istore_n 2, 1) := dk_61 (dk_at dksX2_declaration_1 18 rfl rfl)
theorem dX2_declaration_43 : decode cX2_declaration 43 = .ok (.iload_n 2, 1) := dk_28 (dk_at dksX2_declaration_1 19 rfl rfl)
theorem dX2_declaration_44 : decode cX2_declaration 44 = .ok (.ifCond .ne 10, 3) := dk_154 0 10 (dk_at dksX2_declaration_1 20 rfl rfl)
theorem dX2_declaration_47 : decode cX2_declaration 47 = .ok (.aload_n 0, 1) := dk_42 (dk_at dksX2_declaration_1 23 rfl rfl)
theorem dX2_declaration_48 : decode cX2_declaration 48 = .ok (.getfield 367, 3) := dk_180 1 111 (dk_at dksX2_declaration_2 0 rfl rfl)
theorem dX2_declaration_51 : decode cX2_declaration 51 = .ok (.ifCond .ne 45, 3) := dk_154 0 45 (dk_at dksX2_declaration_2 3 rfl rfl)
theorem dX2_declaration_54 : decode cX2_declaration 54 = .ok (.iload_n 2, 1) := dk_28 (dk_at dksX2_declaration_2 6 rfl rfl)
theorem dX2_declaration_55 : decode cX2_declaration 55 = .ok (.iconst 1, 1) := dk_4 (dk_at dksX2_declaration_2 7 rfl rfl)
theorem dX2_declaration_56 : decode cX2_declaration 56 = .ok (.if_icmp .ne 12, 3) := dk_160 0 12 (dk_at dksX2_declaration_2 8 rfl rfl)
theorem dX2_declaration_59 : decode cX2_declaration 59 = .ok (.aload_n 0, 1) := dk_42 (dk_at dksX2_declaration_2 11 rfl rfl)
theorem dX2_declaration_60 : decode cX2_declaration 60 = .ok (.getfield 371, 3) := dk_180 1 115 (dk_at dksX2_declaration_2 12 rfl rfl)
theorem dX2_declaration_63 : decode cX2_declaration 63 = .ok (.bipush 6, 2) := dk_16 6 (dk_at dksX2_declaration_2 15 rfl rfl)
theorem dX2_declaration_65 : decode cX2_declaration 65 = .ok (.if_icmp .eq 31, 3) := dk_159 0 31 (dk_at dksX2_declaration_2 17 rfl rfl)
theorem dX2_declaration_68 : decode cX2_declaration 68 = .ok (.iload_n 2, 1) := dk_28 (dk_at dksX2_declaration_2 20 rfl rfl)
theorem dX2_declaration_69 : decode cX2_declaration 69 = .ok (.iconst 2, 1) := dk_5 (dk_at dksX2_declaration_2 21 rfl rfl)
theorem dX2_declaration_70 : decode cX2_declaration 70 = .ok (.if_icmp .ne 12, 3) := dk_160 0 12 (dk_at dksX2_declaration_3 0 rfl rfl)
theorem dX2_declaration_73 : decode cX2_declaration 73 = .ok (.aload_n 0, 1) := dk_42 (dk_at dksX2_declaration_3 3 rfl rfl)
theorem dX2_declaration_74 : decode cX2_declaration 74 = .ok (.getfield 373, 3) := dk_180 1 117 (dk_at dksX2_declaration_3 4 rfl rfl)
theorem dX2_declaration_77 : decode cX2_declaration 77 = .ok (.bipush 8, 2) := dk_16 8 (dk_at dksX2_declaration_3 7 rfl rfl)
theorem dX2_declaration_79 : decode cX2_declaration 79 = .ok (.if_icmp .eq 17, 3) := dk_159 0 17 (dk_at dksX2_declaration_3 9 rfl rfl)
theorem dX2_declaration_82 : decode cX2_declaration 82 = .ok (.iload_n 2, 1) := dk_28 (dk_at dksX2_declaration_3 12 rfl rfl)
theorem dX2_declaration_83 : decode cX2_declaration 83 = .ok (.iconst 3, 1) := dk_6 (dk_at dksX2_declaration_3 13 rfl rfl)
theorem dX2_declaration_84 : decode cX2_declaration 84 = .ok (.if_icmp .ne 19, 3) := dk_160 0 19 (dk_at dksX2_declaration_3 14 rfl rfl)
theorem dX2_declaration_87 : decode cX2_declaration 87 = .ok (.aload_n 0, 1) := dk_42 (dk_at dksX2_declaration_3 17 rfl rfl)
theorem dX2_declaration_88 : decode cX2_declaration 88 = .ok (.getfield 361, 3) := dk_180 1 105 (dk_at dksX2_declaration_3 18 rfl rfl)
theorem dX2_declaration_91 : decode cX2_declaration 91 = .ok (.bipush 12, 2) := dk_16 12 (dk_at dksX2_declaration_3 21 rfl rfl)
theorem dX2_declaration_93 : decode cX2_declaration 93 = .ok (.if_icmp .ne 10, 3) := dk_160 0 10 (dk_at dksX2_declaration_4 0 rfl rfl)
theorem dX2_declaration_96 : decode cX2_declaration 96 = .ok (.aload_n 0, 1) := dk_42 (dk_at dksX2_declaration_4 3 rfl rfl)
theorem dX2_declaration_97 : decode cX2_declaration 97 = .ok (.iconst 4, 1) := dk_7 (dk_at dksX2_declaration_4 4 rfl rfl)
theorem dX2_declaration_98 : decode cX2_declaration 98 = .ok (.iload_n 1, 1) := dk_27 (dk_at dksX2_declaration_4 5 rfl rfl)
theorem dX2_declaration_99 : decode cX2_declaration 99 = .ok (.invokevirtual 344, 3) := dk_182 1 88 (dk_at dksX2_declaration_4 6 rfl rfl)
theorem dX2_declaration_102 : decode cX2_declaration 102 = .ok (.return_, 1) := dk_177 (dk_at dksX2_declaration_4 9 rfl rfl)
theorem dX2_declaration_103 : decode cX2_declaration 103 = .ok (.aload_n 0, 1) := dk_42 (dk_at dksX2_declaration_4 10 rfl rfl)
theorem dX2_declaration_104 : decode cX2_declaration 104 = .ok (.invokevirtual 348, 3) := dk_182 1 92 (dk_at dksX2_declaration_4 11 rfl rfl)
theorem dX2_declaration_107 : decode cX2_declaration 107 = .ok (.iload_n 2, 1) := dk_28 (dk_at dksX2_declaration_4 14 rfl rfl)
theorem dX2_declaration_108 : decode cX2_declaration 108 = .ok (.ifCond .ne 23, 3) := dk_154 0 23 (dk_at dksX2_declaration_4 15 rfl rfl)
theorem dX2_declaration_111 : decode cX2_declaration 111 = .ok (.aload_n 0, 1) := dk_42 (dk_at dksX2_declaration_4 18 rfl rfl)
theorem dX2_declaration_112 : decode cX2_declaration 112 = .ok (.aload_n 0, 1) := dk_42 (dk_at dksX2_declaration_4 19 rfl rfl)
theorem dX2_declaration_113 : decode cX2_declaration 113 = .ok (.iconst 1, 1) := dk_4 (dk_at dksX2_declaration_4 20 rfl rfl)
theorem dX2_declaration_114 : decode cX2_declaration 114 = .ok (.sipush 9999, 3) := dk_17 39 15 (dk_at dksX2_declaration_4 21 rfl rfl)
theorem dX2_declaration_117 : decode cX2_declaration 117 = .ok (.invokevirtual 376, 3) := dk_182 1 120 (dk_at dksX2_declaration_5 0 rfl rfl)
theorem dX2_declaration_120 : decode cX2_declaration 120 = .ok (.putfield 379, 3) := dk_181 1 123 (dk_at dksX2_declaration_5 3 rfl rfl)
theorem dX2_declaration_123 : decode cX2_declaration 123 = .ok (.aload_n 0, 1) := dk_42 (dk_at dksX2_declaration_5 6 rfl rfl)
theorem dX2_declaration_124 : decode cX2_declaration 124 = .ok (.iconst 1, 1) := dk_4 (dk_at dksX2_declaration_5 7 rfl rfl)
theorem dX2_declaration_125 : decode cX2_declaration 125 = .ok (.putfield 367, 3) := dk_181 1 111 (dk_at dksX2_declaration_5 8 rfl rfl)
theorem dX2_declaration_128 : decode cX2_declaration 128 = .ok (.goto 86, 3) := dk_167 0 86 (dk_at dksX2_declaration_5 11 rfl rfl)
theorem dX2_declaration_131 : decode cX2_declaration 131 = .ok (.iload_n 2, 1) := dk_28 (dk_at dksX2_declaration_5 14 rfl rfl)
theorem dX2_declaration_132 : decode cX2_declaration 132 = .ok (.iconst 1, 1) := dk_4 (dk_at dksX2_declaration_5 15 rfl rfl)
theorem dX2_declaration_133 : decode cX2_declaration 133 = .ok (.if_icmp .ne 45, 3) := dk_160 0 45 (dk_at dksX2_declaration_5 16 rfl rfl)
theorem dX2_declaration_136 : decode cX2_declaration 136 = .ok (.aload_n 0, 1) := dk_42 (dk_at dksX2_declaration_5 19 rfl rfl)
theorem dX2_declaration_137 : decode cX2_declaration 137 = .ok (.iconst 1, 1) := dk_4 (dk_at dksX2_declaration_5 20 rfl rfl)
theorem dX2_declaration_138 : decode cX2_declaration 138 = .ok (.aload_n 0, 1) := dk_42 (dk_at dksX2_declaration_5 21 rfl rfl)
theorem dX2_declaration_139 : decode cX2_declaration 139 = .ok (.getfield 371, 3) := dk_180 1 115 (dk_at dksX2_declaration_6 0 rfl rfl)
theorem dX2_declaration_142 : decode cX2_declaration 142 = .ok (.invokevirtual 381, 3) := dk_182 1 125 (dk_at dksX2_declaration_6 3 rfl rfl)
theorem dX2_declaration_145 : decode cX2_declaration 145 = .ok (.ifCond .ne 4, 3) := dk_154 0 4 (dk_at dksX2_declaration_6 6 rfl rfl)
theorem dX2_declaration_148 : decode cX2_declaration 148 = .ok (.return_, 1) := dk_177 (dk_at dksX2_declaration_6 9 rfl rfl)
theorem dX2_declaration_149 : decode cX2_declaration 149 = .ok (.aload_n 0, 1) := dk_42 (dk_at dksX2_declaration_6 10 rfl rfl)
theorem dX2_declaration_150 : decode cX2_declaration 150 = .ok (.getfield 169, 3) := dk_180 0 169 (dk_at dksX2_declaration_6 11 rfl rfl)
theorem dX2_declaration_153 : decode cX2_declaration 153 = .ok (.aload_n 0, 1) := dk_42 (dk_at dksX2_declaration_6 14 rfl rfl)
theorem dX2_declaration_154 : decode cX2_declaration 154 = .ok (.getfield 371, 3) := dk_180 1 115 (dk_at dksX2_declaration_6 15 rfl rfl)
theorem dX2_declaration_157 : decode cX2_declaration 157 = .ok (.aload_n 0, 1) := dk_42 (dk_at dksX2_declaration_6 18 rfl rfl)
theorem dX2_declaration_158 : decode cX2_declaration 158 = .ok (.iconst 1, 1) := dk_4 (dk_at dksX2_declaration_6 19 rfl rfl)
theorem dX2_declaration_159 : decode cX2_declaration 159 = .ok (.bipush 9, 2) := dk_16 9 (dk_at dksX2_declaration_6 20 rfl rfl)
theorem dX2_declaration_161 : decode cX2_declaration 161 = .ok (.invokevirtual 376, 3) := dk_182 1 120 (dk_at dksX2_declaration_7 0 rfl rfl)
theorem dX2_declaration_164 : decode cX2_declaration 164 = .ok (.iastore, 1) := dk_79 (dk_at dksX2_declaration_7 3 rfl rfl)
theorem dX2_declaration_165 : decode cX2_declaration 165 = .ok (.aload_n 0, 1) := dk_42 (dk_at dksX2_declaration_7 4 rfl rfl)
theorem dX2_declaration_166 : decode cX2_declaration 166 = .ok (.dup, 1) := dk_89 (dk_at dksX2_declaration_7 5 rfl rfl)
theorem dX2_declaration_167 : decode cX2_declaration 167 = .ok (.getfield 371, 3) := dk_180 1 115 (dk_at dksX2_declaration_7 6 rfl rfl)
theorem dX2_declaration_170 : decode cX2_declaration 170 = .ok (.iconst 1, 1) := dk_4 (dk_at dksX2_declaration_7 9 rfl rfl)
theorem dX2_declaration_171 : decode cX2_declaration 171 = .ok (.iadd, 1) := dk_96 (dk_at dksX2_declaration_7 10 rfl rfl)
theorem dX2_declaration_172 : decode cX2_declaration 172 = .ok (.putfield 371, 3) := dk_181 1 115 (dk_at dksX2_declaration_7 11 rfl rfl)
theorem dX2_declaration_175 : decode cX2_declaration 175 = .ok (.goto 39, 3) := dk_167 0 39 (dk_at dksX2_declaration_7 14 rfl rfl)
theorem dX2_declaration_178 : decode cX2_declaration 178 = .ok (.iload_n 2, 1) := dk_28 (dk_at dksX2_declaration_7 17 rfl rfl)
theorem dX2_declaration_179 : decode cX2_declaration 179 = .ok (.iconst 2, 1) := dk_5 (dk_at dksX2_declaration_7 18 rfl rfl)
theorem dX2_declaration_180 : decode cX2_declaration 180 = .ok (.if_icmp .ne 29, 3) := dk_160 0 29 (dk_at dksX2_declaration_7 19 rfl rfl)
theorem dX2_declaration_183 : decode cX2_declaration 183 = .ok (.aload_n 0, 1) := dk_42 (dk_at dksX2_declaration_7 22 rfl rfl)
theorem dX2_declaration_184 : decode cX2_declaration 184 = .ok (.iconst 2, 1) := dk_5 (dk_at dksX2_declaration_7 23 rfl rfl)
theorem dX2_declaration_185 : decode cX2_declaration 185 = .ok (.aload_n 0, 1) := dk_42 (dk_at dksX2_declaration_8 0 rfl rfl)
theorem dX2_declaration_186 : decode cX2_declaration 186 = .ok (.getfield 373, 3) := dk_180 1 117 (dk_at dksX2_declaration_8 1 rfl rfl)
theorem dX2_declaration_189 : decode cX2_declaration 189 = .ok (.invokevirtual 381, 3) := dk_182 1 125 (dk_at dksX2_declaration_8 4 rfl rfl)
theorem dX2_declaration_192 : decode cX2_declaration 192 = .ok (.ifCond .ne 4, 3) := dk_154 0 4 (dk_at dksX2_declaration_8 7 rfl rfl)
theorem dX2_declaration_195 : decode cX2_declaration 195 = .ok (.return_, 1) := dk_177 (dk_at dksX2_declaration_8 10 rfl rfl)
theorem dX2_declaration_196 : decode cX2_declaration 196 = .ok (.aload_n 0, 1) := dk_42 (dk_at dksX2_declaration_8 11 rfl rfl)
theorem dX2_declaration_197 : decode cX2_declaration 197 = .ok (.dup, 1) := dk_89 (dk_at dksX2_declaration_8 12 rfl rfl)
theorem dX2_declaration_198 : decode cX2_declaration 198 = .ok (.getfield 373, 3) := dk_180 1 117 (dk_at dksX2_declaration_8 13 rfl rfl)
theorem dX2_declaration_201 : decode cX2_declaration 201 = .ok (.iconst 1, 1) := dk_4 (dk_at dksX2_declaration_8 16 rfl rfl)
theorem dX2_declaration_202 : decode cX2_declaration 202 = .ok (.iadd, 1) := dk_96 (dk_at dksX2_declaration_8 17 rfl rfl)
theorem dX2_declaration_203 : decode cX2_declaration 203 = .ok (.putfield 373, 3) := dk_181 1 117 (dk_at dksX2_declaration_8 18 rfl rfl)
theorem dX2_declaration_206 : decode cX2_declaration 206 = .ok (.goto 8, 3) := dk_167 0 8 (dk_at dksX2_declaration_8 21 rfl rfl)
theorem dX2_declaration_209 : decode cX2_declaration 209 = .ok (.aload_n 0, 1) := dk_42 (dk_at dksX2_declaration_9 0 rfl rfl)
theorem dX2_declaration_210 : decode cX2_declaration 210 = .ok (.invokevirtual 385, 3) := dk_182 1 129 (dk_at dksX2_declaration_9 1 rfl rfl)
theorem dX2_declaration_213 : decode cX2_declaration 213 = .ok (.return_, 1) := dk_177 (dk_at dksX2_declaration_9 4 rfl rfl)
theorem dX2_declaration_214 : decode cX2_declaration 214 = .ok (.aload_n 0, 1) := dk_42 (dk_at dksX2_declaration_9 5 rfl rfl)
theorem dX2_declaration_215 : decode cX2_declaration 215 = .ok (.getfield 288, 3) := dk_180 1 32 (dk_at dksX2_declaration_9 6 rfl rfl)
theorem dX2_declaration_218 : decode cX2_declaration 218 = .ok (.ifCond .ne 10, 3) := dk_154 0 10 (dk_at dksX2_declaration_9 9 rfl rfl)
theorem dX2_declaration_221 : decode cX2_declaration 221 = .ok (.aload_n 0, 1) := dk_42 (dk_at dksX2_declaration_9 12 rfl rfl)
theorem dX2_declaration_222 : decode cX2_declaration 222 = .ok (.bipush 59, 2) := dk_16 59 (dk_at dksX2_declaration_9 13 rfl rfl)
theorem dX2_declaration_224 : decode cX2_declaration 224 = .ok (.invokevirtual 387, 3) := dk_182 1 131 (dk_at dksX2_declaration_9 15 rfl rfl)
theorem dX2_declaration_227 : decode cX2_declaration 227 = .ok (.pop, 1) := dk_87 (dk_at dksX2_declaration_9 18 rfl rfl)
theorem dX2_declaration_228 : decode cX2_declaration 228 = .ok (.return_, 1) := dk_177 (dk_at dksX2_declaration_9 19 rfl rfl)
def dkwX2_wrong_0 : List UInt8 := [42, 180, 1, 32, 154, 0, 13, 42, 27, 181, 1, 32, 42, 28, 181, 0, 127, 177]
abbrev dktX2_wrong_0 : List UInt8 := dkwX2_wrong_0 ++ []
theorem dksX2_wrong_0 : cX2_wrong.data.toList.drop 0 = dktX2_wrong_0 := by decide +kernel
theorem dX2_wrong_0 : decode cX2_wrong 0 = .ok (.aload_n 0, 1) := dk_42 (dk_at dksX2_wrong_0 0 rfl rfl)
theorem dX2_wrong_1 : decode cX2_wrong 1 = .ok (.getfield 288, 3) := dk_180 1 32 (dk_at dksX2_wrong_0 1 rfl rfl)
theorem dX2_wrong_4 : decode cX2_wrong 4 = .ok (.ifCond .ne 13, 3) := dk_154 0 13 (dk_at dksX2_wrong_0 4 rfl rfl)
theorem dX2_wrong_7 : decode cX2_wrong 7 = .ok (.aload_n 0, 1) := dk_42 (dk_at dksX2_wrong_0 7 rfl rfl)
theorem dX2_wrong_8 : decode cX2_wrong 8 = .ok (.iload_n 1, 1) := dk_27 (dk_at dksX2_wrong_0 8 rfl rfl)
theorem dX2_wrong_9 : decode cX2_wrong 9 = .ok (.putfield 288, 3) := dk_181 1 32 (dk_at dksX2_wrong_0 9 rfl rfl)
theorem dX2_wrong_12 : decode cX2_wrong 12 = .ok (.aload_n 0, 1) := dk_42 (dk_at dksX2_wrong_0 12 rfl rfl)
theorem dX2_wrong_13 : decode cX2_wrong 13 = .ok (.iload_n 2, 1) := dk_28 (dk_at dksX2_wrong_0 13 rfl rfl)
theorem dX2_wrong_14 : decode cX2_wrong 14 = .ok (.putfield 127, 3) := dk_181 0 127 (dk_at dksX2_wrong_0 14 rfl rfl)
theorem dX2_wrong_17 : decode cX2_wrong 17 = .ok (.return_, 1) := dk_177 (dk_at dksX2_wrong_0 17 rfl rfl)
def dkwX2_numberIn_2 : List UInt8 := [154, 0, 7, 42, 182, 1, 92, 29, 172]
abbrev dktX2_numberIn_2 : List UInt8 := dkwX2_numberIn_2 ++ []
def dkwX2_numberIn_1 : List UInt8 := [29, 27, 161, 0, 8, 29, 28, 164, 0, 12, 42, 8, 42, 180, 1, 41, 182, 1, 88, 42, 180, 1, 32]
abbrev dktX2_numberIn_1 : List UInt8 := dkwX2_numberIn_1 ++ dktX2_numberIn_2
def dkwX2_numberIn_0 : List UInt8 := [42, 180, 1, 47, 5, 159, 0, 14, 42, 4, 42, 180, 1, 41, 182, 1, 88, 3, 172, 42, 180, 1, 82, 62]
abbrev dktX2_numberIn_0 : List UInt8 := dkwX2_numberIn_0 ++ dktX2_numberIn_1
theorem dksX2_numberIn_0 : cX2_numberIn.data.toList.drop 0 = dktX2_numberIn_0 := by decide +kernel
theorem dksX2_numberIn_1 : cX2_numberIn.data.toList.drop 24 = dktX2_numberIn_1 := dk_seg dksX2_numberIn_0 24 rfl rfl
theorem dksX2_numberIn_2 : cX2_numberIn.data.toList.drop 47 = dktX2_numberIn_2 := dk_seg dksX2_numberIn_1 23 rfl rfl
theorem dX2_numberIn_0 : decode cX2_numberIn 0 = .ok (.aload_n 0, 1) := dk_42 (dk_at dksX2_numberIn_0 0 rfl rfl)
theorem dX2_numberIn_1 : decode cX2_numberIn 1 = .ok (.getfield 303, 3) := dk_180 1 47 (dk_at dksX2_numberIn_0 1 rfl rfl)
theorem dX2_numberIn_4 : decode cX2_numberIn 4 = .ok (.iconst 2, 1) := dk_5 (dk_at dksX2_numberIn_0 4 rfl rfl)
theorem dX2_numberIn_5 : decode cX2_numberIn 5 = .ok (.if_icmp .eq 14, 3) := dk_159 0 14 (dk_at dksX2_numberIn_0 5 rfl rfl)
theorem dX2_numberIn_8 : decode cX2_numberIn 8 = .ok (.aload_n 0, 1) := dk_42 (dk_at dksX2_numberIn_0 8 rfl rfl)
theorem dX2_numberIn_9 : decode cX2_numberIn 9 = .ok (.iconst 1, 1) := dk_4 (dk_at dksX2_numberIn_0 9 rfl rfl)
theorem dX2_numberIn_10 : decode cX2_numberIn 10 = .ok (.aload_n 0, 1) := dk_42 (dk_at dksX2_numberIn_0 10 rfl rfl)
theorem dX2_numberIn_11 : decode cX2_numberIn 11 = .ok (.getfield 297, 3) := dk_180 1 41 (dk_at dksX2_numberIn_0 11 rfl rfl)
theorem dX2_numberIn_14 : decode cX2_numberIn 14 = .ok (.invokevirtual 344, 3) := dk_182 1 88 (dk_at dksX2_numberIn_0 14 rfl rfl)
theorem dX2_numberIn_17 : decode cX2_numberIn 17 = .ok (.iconst 0, 1) := dk_3 (dk_at dksX2_numberIn_0 17 rfl rfl)
theorem dX2_numberIn_18 : decode cX2_numberIn 18 = .ok (.ireturn, 1) := dk_172 (dk_at dksX2_numberIn_0 18 rfl rfl)
theorem dX2_numberIn_19 : decode cX2_numberIn 19 = .ok (.aload_n 0, 1) := dk_42 (dk_at dksX2_numberIn_0 19 rfl rfl)
theorem dX2_numberIn_20 : decode cX2_numberIn 20 = .ok (.getfield 338, 3) := dk_180 1 82 (dk_at dksX2_numberIn_0 20 rfl rfl)
theorem dX2_numberIn_23 : decode cX2_numberIn 23 = .ok (.istore_n 3, 1) := dk_62 (dk_at dksX2_numberIn_0 23 rfl rfl)
theorem dX2_numberIn_24 : decode cX2_numberIn 24 = .ok (.iload_n 3, 1) := dk_29 (dk_at dksX2_numberIn_1 0 rfl rfl)
theorem dX2_numberIn_25 : decode cX2_numberIn 25 = .ok (.iload_n 1, 1) := dk_27 (dk_at dksX2_numberIn_1 1 rfl rfl)
theorem dX2_numberIn_26 : decode cX2_numberIn 26 = .ok (.if_icmp .lt 8, 3) := dk_161 0 8 (dk_at dksX2_numberIn_1 2 rfl rfl)
theorem dX2_numberIn_29 : decode cX2_numberIn 29 = .ok (.iload_n 3, 1) := dk_29 (dk_at dksX2_numberIn_1 5 rfl rfl)
theorem dX2_numberIn_30 : decode cX2_numberIn 30 = .ok (.iload_n 2, 1) := dk_28 (dk_at dksX2_numberIn_1 6 rfl rfl)
theorem dX2_numberIn_31 : decode cX2_numberIn 31 = .ok (.if_icmp .le 12, 3) := dk_164 0 12 (dk_at dksX2_numberIn_1 7 rfl rfl)
theorem dX2_numberIn_34 : decode cX2_numberIn 34 = .ok (.aload_n 0, 1) := dk_42 (dk_at dksX2_numberIn_1 10 rfl rfl)
theorem dX2_numberIn_35 : decode cX2_numberIn 35 = .ok (.iconst 5, 1) := dk_8 (dk_at dksX2_numberIn_1 11 rfl rfl)
theorem dX2_numberIn_36 : decode cX2_numberIn 36 = .ok (.aload_n 0, 1) := dk_42 (dk_at dksX2_numberIn_1 12 rfl rfl)
theorem dX2_numberIn_37 : decode cX2_numberIn 37 = .ok (.getfield 297, 3) := dk_180 1 41 (dk_at dksX2_numberIn_1 13 rfl rfl)
theorem dX2_numberIn_40 : decode cX2_numberIn 40 = .ok (.invokevirtual 344, 3) := dk_182 1 88 (dk_at dksX2_numberIn_1 16 rfl rfl)
theorem dX2_numberIn_43 : decode cX2_numberIn 43 = .ok (.aload_n 0, 1) := dk_42 (dk_at dksX2_numberIn_1 19 rfl rfl)
theorem dX2_numberIn_44 : decode cX2_numberIn 44 = .ok (.getfield 288, 3) := dk_180 1 32 (dk_at dksX2_numberIn_1 20 rfl rfl)
theorem dX2_numberIn_47 : decode cX2_numberIn 47 = .ok (.ifCond .ne 7, 3) := dk_154 0 7 (dk_at dksX2_numberIn_2 0 rfl rfl)
theorem dX2_numberIn_50 : decode cX2_numberIn 50 = .ok (.aload_n 0, 1) := dk_42 (dk_at dksX2_numberIn_2 3 rfl rfl)
theorem dX2_numberIn_51 : decode cX2_numberIn 51 = .ok (.invokevirtual 348, 3) := dk_182 1 92 (dk_at dksX2_numberIn_2 4 rfl rfl)
theorem dX2_numberIn_54 : decode cX2_numberIn 54 = .ok (.iload_n 3, 1) := dk_29 (dk_at dksX2_numberIn_2 7 rfl rfl)
theorem dX2_numberIn_55 : decode cX2_numberIn 55 = .ok (.ireturn, 1) := dk_172 (dk_at dksX2_numberIn_2 8 rfl rfl)
def dkwX2_newName_5 : List UInt8 := [100, 79, 42, 89, 180, 1, 95, 4, 96, 181, 1, 95, 42, 182, 1, 92, 4, 172]
abbrev dktX2_newName_5 : List UInt8 := dkwX2_newName_5 ++ []
def dkwX2_newName_4 : List UInt8 := [180, 1, 95, 42, 180, 1, 41, 79, 42, 180, 0, 140, 42, 180, 1, 95, 42, 180, 1, 50, 42, 180, 1, 41]
abbrev dktX2_newName_4 : List UInt8 := dkwX2_newName_4 ++ dktX2_newName_5
def dkwX2_newName_3 : List UInt8 := [180, 0, 131, 42, 180, 1, 95, 27, 79, 42, 180, 0, 134, 42, 180, 1, 95, 28, 79, 42, 180, 0, 137, 42]
abbrev dktX2_newName_3 : List UInt8 := dkwX2_newName_3 ++ dktX2_newName_4
def dkwX2_newName_2 : List UInt8 := [159, 0, 12, 42, 5, 42, 180, 1, 41, 182, 1, 88, 42, 180, 1, 32, 153, 0, 5, 3, 172, 42]
abbrev dktX2_newName_2 : List UInt8 := dkwX2_newName_2 ++ dktX2_newName_3
def dkwX2_newName_1 : List UInt8 := [2, 160, 0, 24, 42, 42, 180, 1, 41, 42, 180, 1, 50, 42, 180, 1, 41, 100, 182, 1, 98, 2]
abbrev dktX2_newName_1 : List UInt8 := dkwX2_newName_1 ++ dktX2_newName_2
def dkwX2_newName_0 : List UInt8 := [42, 180, 1, 47, 4, 159, 0, 15, 42, 4, 42, 180, 1, 41, 182, 1, 88, 167, 0, 41, 42, 180, 1, 44]
abbrev dktX2_newName_0 : List UInt8 := dkwX2_newName_0 ++ dktX2_newName_1
theorem dksX2_newName_0 : cX2_newName.data.toList.drop 0 = dktX2_newName_0 := by decide +kernel
theorem dksX2_newName_1 : cX2_newName.data.toList.drop 24 = dktX2_newName_1 := dk_seg dksX2_newName_0 24 rfl rfl
theorem dksX2_newName_2 : cX2_newName.data.toList.drop 46 = dktX2_newName_2 := dk_seg dksX2_newName_1 22 rfl rfl
theorem dksX2_newName_3 : cX2_newName.data.toList.drop 68 = dktX2_newName_3 := dk_seg dksX2_newName_2 22 rfl rfl
theorem dksX2_newName_4 : cX2_newName.data.toList.drop 92 = dktX2_newName_4 := dk_seg dksX2_newName_3 24 rfl rfl
theorem dksX2_newName_5 : cX2_newName.data.toList.drop 116 = dktX2_newName_5 := dk_seg dksX2_newName_4 24 rfl rfl
theorem dX2_newName_0 : decode cX2_newName 0 = .ok (.aload_n 0, 1) := dk_42 (dk_at dksX2_newName_0 0 rfl rfl)
theorem dX2_newName_1 : decode cX2_newName 1 = .ok (.getfield 303, 3) := dk_180 1 47 (dk_at dksX2_newName_0 1 rfl rfl)
theorem dX2_newName_4 : decode cX2_newName 4 = .ok (.iconst 1, 1) := dk_4 (dk_at dksX2_newName_0 4 rfl rfl)
theorem dX2_newName_5 : decode cX2_newName 5 = .ok (.if_icmp .eq 15, 3) := dk_159 0 15 (dk_at dksX2_newName_0 5 rfl rfl)
theorem dX2_newName_8 : decode cX2_newName 8 = .ok (.aload_n 0, 1) := dk_42 (dk_at dksX2_newName_0 8 rfl rfl)
theorem dX2_newName_9 : decode cX2_newName 9 = .ok (.iconst 1, 1) := dk_4 (dk_at dksX2_newName_0 9 rfl rfl)
theorem dX2_newName_10 : decode cX2_newName 10 = .ok (.aload_n 0, 1) := dk_42 (dk_at dksX2_newName_0 10 rfl rfl)
theorem dX2_newName_11 : decode cX2_newName 11 = .ok (.getfield 297, 3) := dk_180 1 41 (dk_at dksX2_newName_0 11 rfl rfl)
theorem dX2_newName_14 : decode cX2_newName 14 = .ok (.invokevirtual 344, 3) := dk_182 1 88 (dk_at dksX2_newName_0 14 rfl rfl)
theorem dX2_newName_17 : decode cX2_newName 17 = .ok (.goto 41, 3) := dk_167 0 41 (dk_at dksX2_newName_0 17 rfl rfl)
theorem dX2_newName_20 : decode cX2_newName 20 = .ok (.aload_n 0, 1) := dk_42 (dk_at dksX2_newName_0 20 rfl rfl)
theorem dX2_newName_21 : decode cX2_newName 21 = .ok (.getfield 300, 3) := dk_180 1 44 (dk_at dksX2_newName_0 21 rfl rfl)
theorem dX2_newName_24 : decode cX2_newName 24 = .ok (.iconst (-1), 1) := dk_2 (dk_at dksX2_newName_1 0 rfl rfl)
theorem dX2_newName_25 : decode cX2_newName 25 = .ok (.if_icmp .ne 24, 3) := dk_160 0 24 (dk_at dksX2_newName_1 1 rfl rfl)
theorem dX2_newName_28 : decode cX2_newName 28 = .ok (.aload_n 0, 1) := dk_42 (dk_at dksX2_newName_1 4 rfl rfl)
theorem dX2_newName_29 : decode cX2_newName 29 = .ok (.aload_n 0, 1) := dk_42 (dk_at dksX2_newName_1 5 rfl rfl)
theorem dX2_newName_30 : decode cX2_newName 30 = .ok (.getfield 297, 3) := dk_180 1 41 (dk_at dksX2_newName_1 6 rfl rfl)
theorem dX2_newName_33 : decode cX2_newName 33 = .ok (.aload_n 0, 1) := dk_42 (dk_at dksX2_newName_1 9 rfl rfl)
theorem dX2_newName_34 : decode cX2_newName 34 = .ok (.getfield 306, 3) := dk_180 1 50 (dk_at dksX2_newName_1 10 rfl rfl)
theorem dX2_newName_37 : decode cX2_newName 37 = .ok (.aload_n 0, 1) := dk_42 (dk_at dksX2_newName_1 13 rfl rfl)
theorem dX2_newName_38 : decode cX2_newName 38 = .ok (.getfield 297, 3) := dk_180 1 41 (dk_at dksX2_newName_1 14 rfl rfl)
theorem dX2_newName_41 : decode cX2_newName 41 = .ok (.isub, 1) := dk_100 (dk_at dksX2_newName_1 17 rfl rfl)
theorem dX2_newName_42 : decode cX2_newName 42 = .ok (.invokevirtual 354, 3) := dk_182 1 98 (dk_at dksX2_newName_1 18 rfl rfl)
theorem dX2_newName_45 : decode cX2_newName 45 = .ok (.iconst (-1), 1) := dk_2 (dk_at dksX2_newName_1 21 rfl rfl)
theorem dX2_newName_46 : decode cX2_newName 46 = .ok (.if_icmp .eq 12, 3) := dk_159 0 12 (dk_at dksX2_newName_2 0 rfl rfl)
theorem dX2_newName_49 : decode cX2_newName 49 = .ok (.aload_n 0, 1) := dk_42 (dk_at dksX2_newName_2 3 rfl rfl)
theorem dX2_newName_50 : decode cX2_newName 50 = .ok (.iconst 2, 1) := dk_5 (dk_at dksX2_newName_2 4 rfl rfl)
theorem dX2_newName_51 : decode cX2_newName 51 = .ok (.aload_n 0, 1) := dk_42 (dk_at dksX2_newName_2 5 rfl rfl)
theorem dX2_newName_52 : decode cX2_newName 52 = .ok (.getfield 297, 3) := dk_180 1 41 (dk_at dksX2_newName_2 6 rfl rfl)
theorem dX2_newName_55 : decode cX2_newName 55 = .ok (.invokevirtual 344, 3) := dk_182 1 88 (dk_at dksX2_newName_2 9 rfl rfl)
theorem dX2_newName_58 : decode cX2_newName 58 = .ok (.aload_n 0, 1) := dk_42 (dk_at dksX2_newName_2 12 rfl rfl)
theorem dX2_newName_59 : decode cX2_newName 59 = .ok (.getfield 288, 3) := dk_180 1 32 (dk_at dksX2_newName_2 13 rfl rfl)
theorem dX2_newName_62 : decode cX2_newName 62 = .ok (.ifCond .eq 5, 3) := dk_153 0 5 (dk_at dksX2_newName_2 16 rfl rfl)
theorem dX2_newName_65 : decode cX2_newName 65 = .ok (.iconst 0, 1) := dk_3 (dk_at dksX2_newName_2 19 rfl rfl)
theorem dX2_newName_66 : decode cX2_newName 66 = .ok (.ireturn, 1) := dk_172 (dk_at dksX2_newName_2 20 rfl rfl)
theorem dX2_newName_67 : decode cX2_newName 67 = .ok (.aload_n 0, 1) := dk_42 (dk_at dksX2_newName_2 21 rfl rfl)
theorem dX2_newName_68 : decode cX2_newName 68 = .ok (.getfield 131, 3) := dk_180 0 131 (dk_at dksX2_newName_3 0 rfl rfl)
theorem dX2_newName_71 : decode cX2_newName 71 = .ok (.aload_n 0, 1) := dk_42 (dk_at dksX2_newName_3 3 rfl rfl)
theorem dX2_newName_72 : decode cX2_newName 72 = .ok (.getfield 351, 3) := dk_180 1 95 (dk_at dksX2_newName_3 4 rfl rfl)
theorem dX2_newName_75 : decode cX2_newName 75 = .ok (.iload_n 1, 1) := dk_27 (dk_at dksX2_newName_3 7 rfl rfl)
theorem dX2_newName_76 : decode cX2_newName 76 = .ok (.iastore, 1) := dk_79 (dk_at dksX2_newName_3 8 rfl rfl)
theorem dX2_newName_77 : decode cX2_newName 77 = .ok (.aload_n 0, 1) := dk_42 (dk_at dksX2_newName_3 9 rfl rfl)
theorem dX2_newName_78 : decode cX2_newName 78 = .ok (.getfield 134, 3) := dk_180 0 134 (dk_at dksX2_newName_3 10 rfl rfl)
theorem dX2_newName_81 : decode cX2_newName 81 = .ok (.aload_n 0, 1) := dk_42 (dk_at dksX2_newName_3 13 rfl rfl)
theorem dX2_newName_82 : decode cX2_newName 82 = .ok (.getfield 351, 3) := dk_180 1 95 (dk_at dksX2_newName_3 14 rfl rfl)
theorem dX2_newName_85 : decode cX2_newName 85 = .ok (.iload_n 2, 1) := dk_28 (dk_at dksX2_newName_3 17 rfl rfl)
theorem dX2_newName_86 : decode cX2_newName 86 = .ok (.iastore, 1) := dk_79 (dk_at dksX2_newName_3 18 rfl rfl)
theorem dX2_newName_87 : decode cX2_newName 87 = .ok (.aload_n 0, 1) := dk_42 (dk_at dksX2_newName_3 19 rfl rfl)
theorem dX2_newName_88 : decode cX2_newName 88 = .ok (.getfield 137, 3) := dk_180 0 137 (dk_at dksX2_newName_3 20 rfl rfl)
theorem dX2_newName_91 : decode cX2_newName 91 = .ok (.aload_n 0, 1) := dk_42 (dk_at dksX2_newName_3 23 rfl rfl)
theorem dX2_newName_92 : decode cX2_newName 92 = .ok (.getfield 351, 3) := dk_180 1 95 (dk_at dksX2_newName_4 0 rfl rfl)
theorem dX2_newName_95 : decode cX2_newName 95 = .ok (.aload_n 0, 1) := dk_42 (dk_at dksX2_newName_4 3 rfl rfl)
theorem dX2_newName_96 : decode cX2_newName 96 = .ok (.getfield 297, 3) := dk_180 1 41 (dk_at dksX2_newName_4 4 rfl rfl)
theorem dX2_newName_99 : decode cX2_newName 99 = .ok (.iastore, 1) := dk_79 (dk_at dksX2_newName_4 7 rfl rfl)
theorem dX2_newName_100 : decode cX2_newName 100 = .ok (.aload_n 0, 1) := dk_42 (dk_at dksX2_newName_4 8 rfl rfl)
theorem dX2_newName_101 : decode cX2_newName 101 = .ok (.getfield 140, 3) := dk_180 0 140 (dk_at dksX2_newName_4 9 rfl rfl)
theorem dX2_newName_104 : decode cX2_newName 104 = .ok (.aload_n 0, 1) := dk_42 (dk_at dksX2_newName_4 12 rfl rfl)
theorem dX2_newName_105 : decode cX2_newName 105 = .ok (.getfield 351, 3) := dk_180 1 95 (dk_at dksX2_newName_4 13 rfl rfl)
theorem dX2_newName_108 : decode cX2_newName 108 = .ok (.aload_n 0, 1) := dk_42 (dk_at dksX2_newName_4 16 rfl rfl)
theorem dX2_newName_109 : decode cX2_newName 109 = .ok (.getfield 306, 3) := dk_180 1 50 (dk_at dksX2_newName_4 17 rfl rfl)
theorem dX2_newName_112 : decode cX2_newName 112 = .ok (.aload_n 0, 1) := dk_42 (dk_at dksX2_newName_4 20 rfl rfl)
theorem dX2_newName_113 : decode cX2_newName 113 = .ok (.getfield 297, 3) := dk_180 1 41 (dk_at dksX2_newName_4 21 rfl rfl)
theorem dX2_newName_116 : decode cX2_newName 116 = .ok (.isub, 1) := dk_100 (dk_at dksX2_newName_5 0 rfl rfl)
theorem dX2_newName_117 : decode cX2_newName 117 = .ok (.iastore, 1) := dk_79 (dk_at dksX2_newName_5 1 rfl rfl)
theorem dX2_newName_118 : decode cX2_newName 118 = .ok (.aload_n 0, 1) := dk_42 (dk_at dksX2_newName_5 2 rfl rfl)
theorem dX2_newName_119 : decode cX2_newName 119 = .ok (.dup, 1) := dk_89 (dk_at dksX2_newName_5 3 rfl rfl)
theorem dX2_newName_120 : decode cX2_newName 120 = .ok (.getfield 351, 3) := dk_180 1 95 (dk_at dksX2_newName_5 4 rfl rfl)
theorem dX2_newName_123 : decode cX2_newName 123 = .ok (.iconst 1, 1) := dk_4 (dk_at dksX2_newName_5 7 rfl rfl)
theorem dX2_newName_124 : decode cX2_newName 124 = .ok (.iadd, 1) := dk_96 (dk_at dksX2_newName_5 8 rfl rfl)
theorem dX2_newName_125 : decode cX2_newName 125 = .ok (.putfield 351, 3) := dk_181 1 95 (dk_at dksX2_newName_5 9 rfl rfl)
theorem dX2_newName_128 : decode cX2_newName 128 = .ok (.aload_n 0, 1) := dk_42 (dk_at dksX2_newName_5 12 rfl rfl)
theorem dX2_newName_129 : decode cX2_newName 129 = .ok (.invokevirtual 348, 3) := dk_182 1 92 (dk_at dksX2_newName_5 13 rfl rfl)
theorem dX2_newName_132 : decode cX2_newName 132 = .ok (.iconst 1, 1) := dk_4 (dk_at dksX2_newName_5 16 rfl rfl)
theorem dX2_newName_133 : decode cX2_newName 133 = .ok (.ireturn, 1) := dk_172 (dk_at dksX2_newName_5 17 rfl rfl)
def dkwX2_known_4 : List UInt8 := [167, 0, 4, 29, 62, 132, 4, 1, 167, 255, 160, 29, 172]
abbrev dktX2_known_4 : List UInt8 := dkwX2_known_4 ++ []
def dkwX2_known_3 : List UInt8 := [160, 0, 7, 4, 167, 0, 4, 3, 54, 5, 132, 6, 1, 167, 255, 208, 21, 5, 153, 0, 8, 21, 4]
abbrev dktX2_known_3 : List UInt8 := dkwX2_known_3 ++ dktX2_known_4
def dkwX2_known_2 : List UInt8 := [42, 180, 0, 124, 42, 180, 0, 137, 21, 4, 46, 21, 6, 96, 46, 42, 180, 0, 124, 27, 21, 6, 96, 46]
abbrev dktX2_known_2 : List UInt8 := dkwX2_known_2 ++ dktX2_known_3
def dkwX2_known_1 : List UInt8 := [160, 0, 7, 4, 167, 0, 4, 3, 54, 5, 3, 54, 6, 21, 6, 28, 162, 0, 48, 21, 5, 153, 0, 43]
abbrev dktX2_known_1 : List UInt8 := dkwX2_known_1 ++ dktX2_known_2
def dkwX2_known_0 : List UInt8 := [2, 62, 3, 54, 4, 21, 4, 42, 180, 1, 95, 162, 0, 93, 42, 180, 0, 140, 21, 4, 46, 28]
abbrev dktX2_known_0 : List UInt8 := dkwX2_known_0 ++ dktX2_known_1
theorem dksX2_known_0 : cX2_known.data.toList.drop 0 = dktX2_known_0 := by decide +kernel
theorem dksX2_known_1 : cX2_known.data.toList.drop 22 = dktX2_known_1 := dk_seg dksX2_known_0 22 rfl rfl
theorem dksX2_known_2 : cX2_known.data.toList.drop 46 = dktX2_known_2 := dk_seg dksX2_known_1 24 rfl rfl
theorem dksX2_known_3 : cX2_known.data.toList.drop 70 = dktX2_known_3 := dk_seg dksX2_known_2 24 rfl rfl
theorem dksX2_known_4 : cX2_known.data.toList.drop 93 = dktX2_known_4 := dk_seg dksX2_known_3 23 rfl rfl
theorem dX2_known_0 : decode cX2_known 0 = .ok (.iconst (-1), 1) := dk_2 (dk_at dksX2_known_0 0 rfl rfl)
theorem dX2_known_1 : decode cX2_known 1 = .ok (.istore_n 3, 1) := dk_62 (dk_at dksX2_known_0 1 rfl rfl)
theorem dX2_known_2 : decode cX2_known 2 = .ok (.iconst 0, 1) := dk_3 (dk_at dksX2_known_0 2 rfl rfl)
theorem dX2_known_3 : decode cX2_known 3 = .ok (.istore 4, 2) := dk_54 4 (dk_at dksX2_known_0 3 rfl rfl)
theorem dX2_known_5 : decode cX2_known 5 = .ok (.iload 4, 2) := dk_21 4 (dk_at dksX2_known_0 5 rfl rfl)
theorem dX2_known_7 : decode cX2_known 7 = .ok (.aload_n 0, 1) := dk_42 (dk_at dksX2_known_0 7 rfl rfl)
theorem dX2_known_8 : decode cX2_known 8 = .ok (.getfield 351, 3) := dk_180 1 95 (dk_at dksX2_known_0 8 rfl rfl)
theorem dX2_known_11 : decode cX2_known 11 = .ok (.if_icmp .ge 93, 3) := dk_162 0 93 (dk_at dksX2_known_0 11 rfl rfl)
theorem dX2_known_14 : decode cX2_known 14 = .ok (.aload_n 0, 1) := dk_42 (dk_at dksX2_known_0 14 rfl rfl)
theorem dX2_known_15 : decode cX2_known 15 = .ok (.getfield 140, 3) := dk_180 0 140 (dk_at dksX2_known_0 15 rfl rfl)
theorem dX2_known_18 : decode cX2_known 18 = .ok (.iload 4, 2) := dk_21 4 (dk_at dksX2_known_0 18 rfl rfl)
theorem dX2_known_20 : decode cX2_known 20 = .ok (.iaload, 1) := dk_46 (dk_at dksX2_known_0 20 rfl rfl)
theorem dX2_known_21 : decode cX2_known 21 = .ok (.iload_n 2, 1) := dk_28 (dk_at dksX2_known_0 21 rfl rfl)
theorem dX2_known_22 : decode cX2_known 22 = .ok (.if_icmp .ne 7, 3) := dk_160 0 7 (dk_at dksX2_known_1 0 rfl rfl)
theorem dX2_known_25 : decode cX2_known 25 = .ok (.iconst 1, 1) := dk_4 (dk_at dksX2_known_1 3 rfl rfl)
theorem dX2_known_26 : decode cX2_known 26 = .ok (.goto 4, 3) := dk_167 0 4 (dk_at dksX2_known_1 4 rfl rfl)
theorem dX2_known_29 : decode cX2_known 29 = .ok (.iconst 0, 1) := dk_3 (dk_at dksX2_known_1 7 rfl rfl)
theorem dX2_known_30 : decode cX2_known 30 = .ok (.istore 5, 2) := dk_54 5 (dk_at dksX2_known_1 8 rfl rfl)
theorem dX2_known_32 : decode cX2_known 32 = .ok (.iconst 0, 1) := dk_3 (dk_at dksX2_known_1 10 rfl rfl)
theorem dX2_known_33 : decode cX2_known 33 = .ok (.istore 6, 2) := dk_54 6 (dk_at dksX2_known_1 11 rfl rfl)
theorem dX2_known_35 : decode cX2_known 35 = .ok (.iload 6, 2) := dk_21 6 (dk_at dksX2_known_1 13 rfl rfl)
theorem dX2_known_37 : decode cX2_known 37 = .ok (.iload_n 2, 1) := dk_28 (dk_at dksX2_known_1 15 rfl rfl)
theorem dX2_known_38 : decode cX2_known 38 = .ok (.if_icmp .ge 48, 3) := dk_162 0 48 (dk_at dksX2_known_1 16 rfl rfl)
theorem dX2_known_41 : decode cX2_known 41 = .ok (.iload 5, 2) := dk_21 5 (dk_at dksX2_known_1 19 rfl rfl)
theorem dX2_known_43 : decode cX2_known 43 = .ok (.ifCond .eq 43, 3) := dk_153 0 43 (dk_at dksX2_known_1 21 rfl rfl)
theorem dX2_known_46 : decode cX2_known 46 = .ok (.aload_n 0, 1) := dk_42 (dk_at dksX2_known_2 0 rfl rfl)
theorem dX2_known_47 : decode cX2_known 47 = .ok (.getfield 124, 3) := dk_180 0 124 (dk_at dksX2_known_2 1 rfl rfl)
theorem dX2_known_50 : decode cX2_known 50 = .ok (.aload_n 0, 1) := dk_42 (dk_at dksX2_known_2 4 rfl rfl)
theorem dX2_known_51 : decode cX2_known 51 = .ok (.getfield 137, 3) := dk_180 0 137 (dk_at dksX2_known_2 5 rfl rfl)
theorem dX2_known_54 : decode cX2_known 54 = .ok (.iload 4, 2) := dk_21 4 (dk_at dksX2_known_2 8 rfl rfl)
theorem dX2_known_56 : decode cX2_known 56 = .ok (.iaload, 1) := dk_46 (dk_at dksX2_known_2 10 rfl rfl)
theorem dX2_known_57 : decode cX2_known 57 = .ok (.iload 6, 2) := dk_21 6 (dk_at dksX2_known_2 11 rfl rfl)
theorem dX2_known_59 : decode cX2_known 59 = .ok (.iadd, 1) := dk_96 (dk_at dksX2_known_2 13 rfl rfl)
theorem dX2_known_60 : decode cX2_known 60 = .ok (.iaload, 1) := dk_46 (dk_at dksX2_known_2 14 rfl rfl)
theorem dX2_known_61 : decode cX2_known 61 = .ok (.aload_n 0, 1) := dk_42 (dk_at dksX2_known_2 15 rfl rfl)
theorem dX2_known_62 : decode cX2_known 62 = .ok (.getfield 124, 3) := dk_180 0 124 (dk_at dksX2_known_2 16 rfl rfl)
theorem dX2_known_65 : decode cX2_known 65 = .ok (.iload_n 1, 1) := dk_27 (dk_at dksX2_known_2 19 rfl rfl)
theorem dX2_known_66 : decode cX2_known 66 = .ok (.iload 6, 2) := dk_21 6 (dk_at dksX2_known_2 20 rfl rfl)
theorem dX2_known_68 : decode cX2_known 68 = .ok (.iadd, 1) := dk_96 (dk_at dksX2_known_2 22 rfl rfl)
theorem dX2_known_69 : decode cX2_known 69 = .ok (.iaload, 1) := dk_46 (dk_at dksX2_known_2 23 rfl rfl)
theorem dX2_known_70 : decode cX2_known 70 = .ok (.if_icmp .ne 7, 3) := dk_160 0 7 (dk_at dksX2_known_3 0 rfl rfl)
theorem dX2_known_73 : decode cX2_known 73 = .ok (.iconst 1, 1) := dk_4 (dk_at dksX2_known_3 3 rfl rfl)
theorem dX2_known_74 : decode cX2_known 74 = .ok (.goto 4, 3) := dk_167 0 4 (dk_at dksX2_known_3 4 rfl rfl)
theorem dX2_known_77 : decode cX2_known 77 = .ok (.iconst 0, 1) := dk_3 (dk_at dksX2_known_3 7 rfl rfl)
theorem dX2_known_78 : decode cX2_known 78 = .ok (.istore 5, 2) := dk_54 5 (dk_at dksX2_known_3 8 rfl rfl)
theorem dX2_known_80 : decode cX2_known 80 = .ok (.iinc 6 1, 3) := dk_132 6 1 (dk_at dksX2_known_3 10 rfl rfl)
theorem dX2_known_83 : decode cX2_known 83 = .ok (.goto (-48), 3) := dk_167 255 208 (dk_at dksX2_known_3 13 rfl rfl)
theorem dX2_known_86 : decode cX2_known 86 = .ok (.iload 5, 2) := dk_21 5 (dk_at dksX2_known_3 16 rfl rfl)
theorem dX2_known_88 : decode cX2_known 88 = .ok (.ifCond .eq 8, 3) := dk_153 0 8 (dk_at dksX2_known_3 18 rfl rfl)
theorem dX2_known_91 : decode cX2_known 91 = .ok (.iload 4, 2) := dk_21 4 (dk_at dksX2_known_3 21 rfl rfl)
theorem dX2_known_93 : decode cX2_known 93 = .ok (.goto 4, 3) := dk_167 0 4 (dk_at dksX2_known_4 0 rfl rfl)
theorem dX2_known_96 : decode cX2_known 96 = .ok (.iload_n 3, 1) := dk_29 (dk_at dksX2_known_4 3 rfl rfl)
theorem dX2_known_97 : decode cX2_known 97 = .ok (.istore_n 3, 1) := dk_62 (dk_at dksX2_known_4 4 rfl rfl)
theorem dX2_known_98 : decode cX2_known 98 = .ok (.iinc 4 1, 3) := dk_132 4 1 (dk_at dksX2_known_4 5 rfl rfl)
theorem dX2_known_101 : decode cX2_known 101 = .ok (.goto (-96), 3) := dk_167 255 160 (dk_at dksX2_known_4 8 rfl rfl)
theorem dX2_known_104 : decode cX2_known 104 = .ok (.iload_n 3, 1) := dk_29 (dk_at dksX2_known_4 11 rfl rfl)
theorem dX2_known_105 : decode cX2_known 105 = .ok (.ireturn, 1) := dk_172 (dk_at dksX2_known_4 12 rfl rfl)
def dkwX2_ride_15 : List UInt8 := [177]
abbrev dktX2_ride_15 : List UInt8 := dkwX2_ride_15 ++ []
def dkwX2_ride_14 : List UInt8 := [42, 4, 2, 182, 1, 148, 153, 0, 18, 42, 16, 54, 42, 180, 1, 41, 3, 3, 3, 2, 182, 1, 151, 87]
abbrev dktX2_ride_14 : List UInt8 := dkwX2_ride_14 ++ dktX2_ride_15
def dkwX2_ride_13 : List UInt8 := [27, 181, 1, 137, 42, 3, 181, 1, 140, 42, 2, 181, 1, 143, 42, 180, 0, 166, 27, 42, 180, 1, 145, 79]
abbrev dktX2_ride_13 : List UInt8 := dkwX2_ride_13 ++ dktX2_ride_14
def dkwX2_ride_12 : List UInt8 := [42, 27, 182, 1, 134, 42, 180, 1, 32, 153, 0, 4, 177, 42, 89, 180, 1, 105, 4, 96, 181, 1, 105, 42]
abbrev dktX2_ride_12 : List UInt8 := dkwX2_ride_12 ++ dktX2_ride_13
def dkwX2_ride_11 : List UInt8 := [180, 0, 146, 27, 2, 79, 42, 180, 1, 32, 154, 0, 19, 42, 180, 0, 143, 27, 46, 16, 8, 160, 0, 8]
abbrev dktX2_ride_11 : List UInt8 := dkwX2_ride_11 ++ dktX2_ride_12
def dkwX2_ride_10 : List UInt8 := [154, 0, 21, 28, 16, 8, 126, 153, 0, 14, 42, 4, 17, 1, 244, 182, 1, 120, 167, 0, 4, 3, 79, 42]
abbrev dktX2_ride_10 : List UInt8 := dkwX2_ride_10 ++ dktX2_ride_11
def dkwX2_ride_9 : List UInt8 := [153, 0, 13, 42, 4, 16, 60, 182, 1, 120, 167, 0, 4, 3, 79, 42, 180, 0, 163, 27, 42, 180, 1, 32]
abbrev dktX2_ride_9 : List UInt8 := dkwX2_ride_9 ++ dktX2_ride_10
def dkwX2_ride_8 : List UInt8 := [182, 1, 120, 167, 0, 4, 3, 79, 42, 180, 0, 160, 27, 42, 180, 1, 32, 154, 0, 19, 28, 7, 126]
abbrev dktX2_ride_8 : List UInt8 := dkwX2_ride_8 ++ dktX2_ride_9
def dkwX2_ride_7 : List UInt8 := [79, 42, 180, 0, 157, 27, 42, 180, 1, 32, 154, 0, 20, 28, 5, 126, 153, 0, 14, 42, 4, 17, 0, 200]
abbrev dktX2_ride_7 : List UInt8 := dkwX2_ride_7 ++ dktX2_ride_8
def dkwX2_ride_6 : List UInt8 := [180, 1, 32, 154, 0, 20, 28, 5, 126, 153, 0, 14, 42, 4, 17, 1, 244, 182, 1, 120, 167, 0, 4, 3]
abbrev dktX2_ride_6 : List UInt8 := dkwX2_ride_6 ++ dktX2_ride_7
def dkwX2_ride_5 : List UInt8 := [4, 126, 153, 0, 13, 42, 4, 16, 50, 182, 1, 120, 167, 0, 4, 3, 79, 42, 180, 0, 155, 27, 42]
abbrev dktX2_ride_5 : List UInt8 := dkwX2_ride_5 ++ dktX2_ride_6
def dkwX2_ride_4 : List UInt8 := [17, 1, 244, 182, 1, 120, 167, 0, 4, 3, 79, 42, 180, 0, 152, 27, 42, 180, 1, 32, 154, 0, 19, 28]
abbrev dktX2_ride_4 : List UInt8 := dkwX2_ride_4 ++ dktX2_ride_5
def dkwX2_ride_3 : List UInt8 := [180, 0, 143, 27, 46, 46, 61, 42, 182, 1, 92, 42, 180, 0, 149, 27, 28, 4, 126, 153, 0, 14, 42, 4]
abbrev dktX2_ride_3 : List UInt8 := dkwX2_ride_3 ++ dktX2_ride_4
def dkwX2_ride_2 : List UInt8 := [182, 1, 88, 177, 42, 180, 0, 143, 27, 42, 180, 1, 44, 16, 23, 100, 79, 42, 180, 0, 117, 42]
abbrev dktX2_ride_2 : List UInt8 := dkwX2_ride_2 ++ dktX2_ride_3
def dkwX2_ride_1 : List UInt8 := [180, 1, 44, 16, 23, 161, 0, 12, 42, 180, 1, 44, 16, 31, 164, 0, 13, 42, 4, 42, 180, 1, 41]
abbrev dktX2_ride_1 : List UInt8 := dkwX2_ride_1 ++ dktX2_ride_2
def dkwX2_ride_0 : List UInt8 := [42, 180, 1, 105, 60, 42, 6, 27, 182, 1, 125, 154, 0, 4, 177, 42, 180, 1, 47, 4, 160, 0, 21, 42]
abbrev dktX2_ride_0 : List UInt8 := dkwX2_ride_0 ++ dktX2_ride_1
theorem dksX2_ride_0 : cX2_ride.data.toList.drop 0 = dktX2_ride_0 := by decide +kernel
theorem dksX2_ride_1 : cX2_ride.data.toList.drop 24 = dktX2_ride_1 := dk_seg dksX2_ride_0 24 rfl rfl
theorem dksX2_ride_2 : cX2_ride.data.toList.drop 47 = dktX2_ride_2 := dk_seg dksX2_ride_1 23 rfl rfl
theorem dksX2_ride_3 : cX2_ride.data.toList.drop 69 = dktX2_ride_3 := dk_seg dksX2_ride_2 22 rfl rfl
theorem dksX2_ride_4 : cX2_ride.data.toList.drop 93 = dktX2_ride_4 := dk_seg dksX2_ride_3 24 rfl rfl
theorem dksX2_ride_5 : cX2_ride.data.toList.drop 117 = dktX2_ride_5 := dk_seg dksX2_ride_4 24 rfl rfl
theorem dksX2_ride_6 : cX2_ride.data.toList.drop 140 = dktX2_ride_6 := dk_seg dksX2_ride_5 23 rfl rfl
theorem dksX2_ride_7 : cX2_ride.data.toList.drop 164 = dktX2_ride_7 := dk_seg dksX2_ride_6 24 rfl rfl
theorem dksX2_ride_8 : cX2_ride.data.toList.drop 188 = dktX2_ride_8 := dk_seg dksX2_ride_7 24 rfl rfl
theorem dksX2_ride_9 : cX2_ride.data.toList.drop 211 = dktX2_ride_9 := dk_seg dksX2_ride_8 23 rfl rfl
theorem dksX2_ride_10 : cX2_ride.data.toList.drop 235 = dktX2_ride_10 := dk_seg dksX2_ride_9 24 rfl rfl
theorem dksX2_ride_11 : cX2_ride.data.toList.drop 259 = dktX2_ride_11 := dk_seg dksX2_ride_10 24 rfl rfl
theorem dksX2_ride_12 : cX2_ride.data.toList.drop 283 = dktX2_ride_12 := dk_seg dksX2_ride_11 24 rfl rfl
theorem dksX2_ride_13 : cX2_ride.data.toList.drop 307 = dktX2_ride_13 := dk_seg dksX2_ride_12 24 rfl rfl
theorem dksX2_ride_14 : cX2_ride.data.toList.drop 331 = dktX2_ride_14 := dk_seg dksX2_ride_13 24 rfl rfl
theorem dksX2_ride_15 : cX2_ride.data.toList.drop 355 = dktX2_ride_15 := dk_seg dksX2_ride_14 24 rfl rfl
theorem dX2_ride_0 : decode cX2_ride 0 = .ok (.aload_n 0, 1) := dk_42 (dk_at dksX2_ride_0 0 rfl rfl)
theorem dX2_ride_1 : decode cX2_ride 1 = .ok (.getfield 361, 3) := dk_180 1 105 (dk_at dksX2_ride_0 1 rfl rfl)
theorem dX2_ride_4 : decode cX2_ride 4 = .ok (.istore_n 1, 1) := dk_60 (dk_at dksX2_ride_0 4 rfl rfl)
theorem dX2_ride_5 : decode cX2_ride 5 = .ok (.aload_n 0, 1) := dk_42 (dk_at dksX2_ride_0 5 rfl rfl)
theorem dX2_ride_6 : decode cX2_ride 6 = .ok (.iconst 3, 1) := dk_6 (dk_at dksX2_ride_0 6 rfl rfl)
theorem dX2_ride_7 : decode cX2_ride 7 = .ok (.iload_n 1, 1) := dk_27 (dk_at dksX2_ride_0 7 rfl rfl)
theorem dX2_ride_8 : decode cX2_ride 8 = .ok (.invokevirtual 381, 3) := dk_182 1 125 (dk_at dksX2_ride_0 8 rfl rfl)
theorem dX2_ride_11 : decode cX2_ride 11 = .ok (.ifCond .ne 4, 3) := dk_154 0 4 (dk_at dksX2_ride_0 11 rfl rfl)
theorem dX2_ride_14 : decode cX2_ride 14 = .ok (.return_, 1) := dk_177 (dk_at dksX2_ride_0 14 rfl rfl)
theorem dX2_ride_15 : decode cX2_ride 15 = .ok (.aload_n 0, 1) := dk_42 (dk_at dksX2_ride_0 15 rfl rfl)
theorem dX2_ride_16 : decode cX2_ride 16 = .ok (.getfield 303, 3) := dk_180 1 47 (dk_at dksX2_ride_0 16 rfl rfl)
theorem dX2_ride_19 : decode cX2_ride 19 = .ok (.iconst 1, 1) := dk_4 (dk_at dksX2_ride_0 19 rfl rfl)
theorem dX2_ride_20 : decode cX2_ride 20 = .ok (.if_icmp .ne 21, 3) := dk_160 0 21 (dk_at dksX2_ride_0 20 rfl rfl)
theorem dX2_ride_23 : decode cX2_ride 23 = .ok (.aload_n 0, 1) := dk_42 (dk_at dksX2_ride_0 23 rfl rfl)
theorem dX2_ride_24 : decode cX2_ride 24 = .ok (.getfield 300, 3) := dk_180 1 44 (dk_at dksX2_ride_1 0 rfl rfl)
theorem dX2_ride_27 : decode cX2_ride 27 = .ok (.bipush 23, 2) := dk_16 23 (dk_at dksX2_ride_1 3 rfl rfl)
theorem dX2_ride_29 : decode cX2_ride 29 = .ok (.if_icmp .lt 12, 3) := dk_161 0 12 (dk_at dksX2_ride_1 5 rfl rfl)
theorem dX2_ride_32 : decode cX2_ride 32 = .ok (.aload_n 0, 1) := dk_42 (dk_at dksX2_ride_1 8 rfl rfl)
theorem dX2_ride_33 : decode cX2_ride 33 = .ok (.getfield 300, 3) := dk_180 1 44 (dk_at dksX2_ride_1 9 rfl rfl)
theorem dX2_ride_36 : decode cX2_ride 36 = .ok (.bipush 31, 2) := dk_16 31 (dk_at dksX2_ride_1 12 rfl rfl)
theorem dX2_ride_38 : decode cX2_ride 38 = .ok (.if_icmp .le 13, 3) := dk_164 0 13 (dk_at dksX2_ride_1 14 rfl rfl)
theorem dX2_ride_41 : decode cX2_ride 41 = .ok (.aload_n 0, 1) := dk_42 (dk_at dksX2_ride_1 17 rfl rfl)
theorem dX2_ride_42 : decode cX2_ride 42 = .ok (.iconst 1, 1) := dk_4 (dk_at dksX2_ride_1 18 rfl rfl)
theorem dX2_ride_43 : decode cX2_ride 43 = .ok (.aload_n 0, 1) := dk_42 (dk_at dksX2_ride_1 19 rfl rfl)
theorem dX2_ride_44 : decode cX2_ride 44 = .ok (.getfield 297, 3) := dk_180 1 41 (dk_at dksX2_ride_1 20 rfl rfl)
theorem dX2_ride_47 : decode cX2_ride 47 = .ok (.invokevirtual 344, 3) := dk_182 1 88 (dk_at dksX2_ride_2 0 rfl rfl)
theorem dX2_ride_50 : decode cX2_ride 50 = .ok (.return_, 1) := dk_177 (dk_at dksX2_ride_2 3 rfl rfl)
theorem dX2_ride_51 : decode cX2_ride 51 = .ok (.aload_n 0, 1) := dk_42 (dk_at dksX2_ride_2 4 rfl rfl)
theorem dX2_ride_52 : decode cX2_ride 52 = .ok (.getfield 143, 3) := dk_180 0 143 (dk_at dksX2_ride_2 5 rfl rfl)
theorem dX2_ride_55 : decode cX2_ride 55 = .ok (.iload_n 1, 1) := dk_27 (dk_at dksX2_ride_2 8 rfl rfl)
theorem dX2_ride_56 : decode cX2_ride 56 = .ok (.aload_n 0, 1) := dk_42 (dk_at dksX2_ride_2 9 rfl rfl)
theorem dX2_ride_57 : decode cX2_ride 57 = .ok (.getfield 300, 3) := dk_180 1 44 (dk_at dksX2_ride_2 10 rfl rfl)
theorem dX2_ride_60 : decode cX2_ride 60 = .ok (.bipush 23, 2) := dk_16 23 (dk_at dksX2_ride_2 13 rfl rfl)
theorem dX2_ride_62 : decode cX2_ride 62 = .ok (.isub, 1) := dk_100 (dk_at dksX2_ride_2 15 rfl rfl)
theorem dX2_ride_63 : decode cX2_ride 63 = .ok (.iastore, 1) := dk_79 (dk_at dksX2_ride_2 16 rfl rfl)
theorem dX2_ride_64 : decode cX2_ride 64 = .ok (.aload_n 0, 1) := dk_42 (dk_at dksX2_ride_2 17 rfl rfl)
theorem dX2_ride_65 : decode cX2_ride 65 = .ok (.getfield 117, 3) := dk_180 0 117 (dk_at dksX2_ride_2 18 rfl rfl)
theorem dX2_ride_68 : decode cX2_ride 68 = .ok (.aload_n 0, 1) := dk_42 (dk_at dksX2_ride_2 21 rfl rfl)
theorem dX2_ride_69 : decode cX2_ride 69 = .ok (.getfield 143, 3) := dk_180 0 143 (dk_at dksX2_ride_3 0 rfl rfl)
theorem dX2_ride_72 : decode cX2_ride 72 = .ok (.iload_n 1, 1) := dk_27 (dk_at dksX2_ride_3 3 rfl rfl)
theorem dX2_ride_73 : decode cX2_ride 73 = .ok (.iaload, 1) := dk_46 (dk_at dksX2_ride_3 4 rfl rfl)
theorem dX2_ride_74 : decode cX2_ride 74 = .ok (.iaload, 1) := dk_46 (dk_at dksX2_ride_3 5 rfl rfl)
theorem dX2_ride_75 : decode cX2_ride 75 = .ok (.istore_n 2, 1) := dk_61 (dk_at dksX2_ride_3 6 rfl rfl)
theorem dX2_ride_76 : decode cX2_ride 76 = .ok (.aload_n 0, 1) := dk_42 (dk_at dksX2_ride_3 7 rfl rfl)
theorem dX2_ride_77 : decode cX2_ride 77 = .ok (.invokevirtual 348, 3) := dk_182 1 92 (dk_at dksX2_ride_3 8 rfl rfl)
theorem dX2_ride_80 : decode cX2_ride 80 = .ok (.aload_n 0, 1) := dk_42 (dk_at dksX2_ride_3 11 rfl rfl)
theorem dX2_ride_81 : decode cX2_ride 81 = .ok (.getfield 149, 3) := dk_180 0 149 (dk_at dksX2_ride_3 12 rfl rfl)
theorem dX2_ride_84 : decode cX2_ride 84 = .ok (.iload_n 1, 1) := dk_27 (dk_at dksX2_ride_3 15 rfl rfl)
theorem dX2_ride_85 : decode cX2_ride 85 = .ok (.iload_n 2, 1) := dk_28 (dk_at dksX2_ride_3 16 rfl rfl)
theorem dX2_ride_86 : decode cX2_ride 86 = .ok (.iconst 1, 1) := dk_4 (dk_at dksX2_ride_3 17 rfl rfl)
theorem dX2_ride_87 : decode cX2_ride 87 = .ok (.iand, 1) := dk_126 (dk_at dksX2_ride_3 18 rfl rfl)
theorem dX2_ride_88 : decode cX2_ride 88 = .ok (.ifCond .eq 14, 3) := dk_153 0 14 (dk_at dksX2_ride_3 19 rfl rfl)
theorem dX2_ride_91 : decode cX2_ride 91 = .ok (.aload_n 0, 1) := dk_42 (dk_at dksX2_ride_3 22 rfl rfl)
theorem dX2_ride_92 : decode cX2_ride 92 = .ok (.iconst 1, 1) := dk_4 (dk_at dksX2_ride_3 23 rfl rfl)
theorem dX2_ride_93 : decode cX2_ride 93 = .ok (.sipush 500, 3) := dk_17 1 244 (dk_at dksX2_ride_4 0 rfl rfl)
theorem dX2_ride_96 : decode cX2_ride 96 = .ok (.invokevirtual 376, 3) := dk_182 1 120 (dk_at dksX2_ride_4 3 rfl rfl)
theorem dX2_ride_99 : decode cX2_ride 99 = .ok (.goto 4, 3) := dk_167 0 4 (dk_at dksX2_ride_4 6 rfl rfl)
theorem dX2_ride_102 : decode cX2_ride 102 = .ok (.iconst 0, 1) := dk_3 (dk_at dksX2_ride_4 9 rfl rfl)
theorem dX2_ride_103 : decode cX2_ride 103 = .ok (.iastore, 1) := dk_79 (dk_at dksX2_ride_4 10 rfl rfl)
theorem dX2_ride_104 : decode cX2_ride 104 = .ok (.aload_n 0, 1) := dk_42 (dk_at dksX2_ride_4 11 rfl rfl)
theorem dX2_ride_105 : decode cX2_ride 105 = .ok (.getfield 152, 3) := dk_180 0 152 (dk_at dksX2_ride_4 12 rfl rfl)
theorem dX2_ride_108 : decode cX2_ride 108 = .ok (.iload_n 1, 1) := dk_27 (dk_at dksX2_ride_4 15 rfl rfl)
theorem dX2_ride_109 : decode cX2_ride 109 = .ok (.aload_n 0, 1) := dk_42 (dk_at dksX2_ride_4 16 rfl rfl)
theorem dX2_ride_110 : decode cX2_ride 110 = .ok (.getfield 288, 3) := dk_180 1 32 (dk_at dksX2_ride_4 17 rfl rfl)
theorem dX2_ride_113 : decode cX2_ride 113 = .ok (.ifCond .ne 19, 3) := dk_154 0 19 (dk_at dksX2_ride_4 20 rfl rfl)
theorem dX2_ride_116 : decode cX2_ride 116 = .ok (.iload_n 2, 1) := dk_28 (dk_at dksX2_ride_4 23 rfl rfl)
theorem dX2_ride_117 : decode cX2_ride 117 = .ok (.iconst 1, 1) := dk_4 (dk_at dksX2_ride_5 0 rfl rfl)
theorem dX2_ride_118 : decode cX2_ride 118 = .ok (.iand, 1) := dk_126 (dk_at dksX2_ride_5 1 rfl rfl)
theorem dX2_ride_119 : decode cX2_ride 119 = .ok (.ifCond .eq 13, 3) := dk_153 0 13 (dk_at dksX2_ride_5 2 rfl rfl)
theorem dX2_ride_122 : decode cX2_ride 122 = .ok (.aload_n 0, 1) := dk_42 (dk_at dksX2_ride_5 5 rfl rfl)
theorem dX2_ride_123 : decode cX2_ride 123 = .ok (.iconst 1, 1) := dk_4 (dk_at dksX2_ride_5 6 rfl rfl)
theorem dX2_ride_124 : decode cX2_ride 124 = .ok (.bipush 50, 2) := dk_16 50 (dk_at dksX2_ride_5 7 rfl rfl)
theorem dX2_ride_126 : decode cX2_ride 126 = .ok (.invokevirtual 376, 3) := dk_182 1 120 (dk_at dksX2_ride_5 9 rfl rfl)
theorem dX2_ride_129 : decode cX2_ride 129 = .ok (.goto 4, 3) := dk_167 0 4 (dk_at dksX2_ride_5 12 rfl rfl)
theorem dX2_ride_132 : decode cX2_ride 132 = .ok (.iconst 0, 1) := dk_3 (dk_at dksX2_ride_5 15 rfl rfl)
theorem dX2_ride_133 : decode cX2_ride 133 = .ok (.iastore, 1) := dk_79 (dk_at dksX2_ride_5 16 rfl rfl)
theorem dX2_ride_134 : decode cX2_ride 134 = .ok (.aload_n 0, 1) := dk_42 (dk_at dksX2_ride_5 17 rfl rfl)
theorem dX2_ride_135 : decode cX2_ride 135 = .ok (.getfield 155, 3) := dk_180 0 155 (dk_at dksX2_ride_5 18 rfl rfl)
theorem dX2_ride_138 : decode cX2_ride 138 = .ok (.iload_n 1, 1) := dk_27 (dk_at dksX2_ride_5 21 rfl rfl)
theorem dX2_ride_139 : decode cX2_ride 139 = .ok (.aload_n 0, 1) := dk_42 (dk_at dksX2_ride_5 22 rfl rfl)
theorem dX2_ride_140 : decode cX2_ride 140 = .ok (.getfield 288, 3) := dk_180 1 32 (dk_at dksX2_ride_6 0 rfl rfl)
theorem dX2_ride_143 : decode cX2_ride 143 = .ok (.ifCond .ne 20, 3) := dk_154 0 20 (dk_at dksX2_ride_6 3 rfl rfl)
theorem dX2_ride_146 : decode cX2_ride 146 = .ok (.iload_n 2, 1) := dk_28 (dk_at dksX2_ride_6 6 rfl rfl)
theorem dX2_ride_147 : decode cX2_ride 147 = .ok (.iconst 2, 1) := dk_5 (dk_at dksX2_ride_6 7 rfl rfl)
theorem dX2_ride_148 : decode cX2_ride 148 = .ok (.iand, 1) := dk_126 (dk_at dksX2_ride_6 8 rfl rfl)
theorem dX2_ride_149 : decode cX2_ride 149 = .ok (.ifCond .eq 14, 3) := dk_153 0 14 (dk_at dksX2_ride_6 9 rfl rfl)
theorem dX2_ride_152 : decode cX2_ride 152 = .ok (.aload_n 0, 1) := dk_42 (dk_at dksX2_ride_6 12 rfl rfl)
theorem dX2_ride_153 : decode cX2_ride 153 = .ok (.iconst 1, 1) := dk_4 (dk_at dksX2_ride_6 13 rfl rfl)
theorem dX2_ride_154 : decode cX2_ride 154 = .ok (.sipush 500, 3) := dk_17 1 244 (dk_at dksX2_ride_6 14 rfl rfl)
theorem dX2_ride_157 : decode cX2_ride 157 = .ok (.invokevirtual 376, 3) := dk_182 1 120 (dk_at dksX2_ride_6 17 rfl rfl)
theorem dX2_ride_160 : decode cX2_ride 160 = .ok (.goto 4, 3) := dk_167 0 4 (dk_at dksX2_ride_6 20 rfl rfl)
theorem dX2_ride_163 : decode cX2_ride 163 = .ok (.iconst 0, 1) := dk_3 (dk_at dksX2_ride_6 23 rfl rfl)
theorem dX2_ride_164 : decode cX2_ride 164 = .ok (.iastore, 1) := dk_79 (dk_at dksX2_ride_7 0 rfl rfl)
theorem dX2_ride_165 : decode cX2_ride 165 = .ok (.aload_n 0, 1) := dk_42 (dk_at dksX2_ride_7 1 rfl rfl)
theorem dX2_ride_166 : decode cX2_ride 166 = .ok (.getfield 157, 3) := dk_180 0 157 (dk_at dksX2_ride_7 2 rfl rfl)
theorem dX2_ride_169 : decode cX2_ride 169 = .ok (.iload_n 1, 1) := dk_27 (dk_at dksX2_ride_7 5 rfl rfl)
theorem dX2_ride_170 : decode cX2_ride 170 = .ok (.aload_n 0, 1) := dk_42 (dk_at dksX2_ride_7 6 rfl rfl)
theorem dX2_ride_171 : decode cX2_ride 171 = .ok (.getfield 288, 3) := dk_180 1 32 (dk_at dksX2_ride_7 7 rfl rfl)
theorem dX2_ride_174 : decode cX2_ride 174 = .ok (.ifCond .ne 20, 3) := dk_154 0 20 (dk_at dksX2_ride_7 10 rfl rfl)
theorem dX2_ride_177 : decode cX2_ride 177 = .ok (.iload_n 2, 1) := dk_28 (dk_at dksX2_ride_7 13 rfl rfl)
theorem dX2_ride_178 : decode cX2_ride 178 = .ok (.iconst 2, 1) := dk_5 (dk_at dksX2_ride_7 14 rfl rfl)
theorem dX2_ride_179 : decode cX2_ride 179 = .ok (.iand, 1) := dk_126 (dk_at dksX2_ride_7 15 rfl rfl)
theorem dX2_ride_180 : decode cX2_ride 180 = .ok (.ifCond .eq 14, 3) := dk_153 0 14 (dk_at dksX2_ride_7 16 rfl rfl)
theorem dX2_ride_183 : decode cX2_ride 183 = .ok (.aload_n 0, 1) := dk_42 (dk_at dksX2_ride_7 19 rfl rfl)
theorem dX2_ride_184 : decode cX2_ride 184 = .ok (.iconst 1, 1) := dk_4 (dk_at dksX2_ride_7 20 rfl rfl)
theorem dX2_ride_185 : decode cX2_ride 185 = .ok (.sipush 200, 3) := dk_17 0 200 (dk_at dksX2_ride_7 21 rfl rfl)
theorem dX2_ride_188 : decode cX2_ride 188 = .ok (.invokevirtual 376, 3) := dk_182 1 120 (dk_at dksX2_ride_8 0 rfl rfl)
theorem dX2_ride_191 : decode cX2_ride 191 = .ok (.goto 4, 3) := dk_167 0 4 (dk_at dksX2_ride_8 3 rfl rfl)
theorem dX2_ride_194 : decode cX2_ride 194 = .ok (.iconst 0, 1) := dk_3 (dk_at dksX2_ride_8 6 rfl rfl)
theorem dX2_ride_195 : decode cX2_ride 195 = .ok (.iastore, 1) := dk_79 (dk_at dksX2_ride_8 7 rfl rfl)
theorem dX2_ride_196 : decode cX2_ride 196 = .ok (.aload_n 0, 1) := dk_42 (dk_at dksX2_ride_8 8 rfl rfl)
theorem dX2_ride_197 : decode cX2_ride 197 = .ok (.getfield 160, 3) := dk_180 0 160 (dk_at dksX2_ride_8 9 rfl rfl)
theorem dX2_ride_200 : decode cX2_ride 200 = .ok (.iload_n 1, 1) := dk_27 (dk_at dksX2_ride_8 12 rfl rfl)
theorem dX2_ride_201 : decode cX2_ride 201 = .ok (.aload_n 0, 1) := dk_42 (dk_at dksX2_ride_8 13 rfl rfl)
theorem dX2_ride_202 : decode cX2_ride 202 = .ok (.getfield 288, 3) := dk_180 1 32 (dk_at dksX2_ride_8 14 rfl rfl)
theorem dX2_ride_205 : decode cX2_ride 205 = .ok (.ifCond .ne 19, 3) := dk_154 0 19 (dk_at dksX2_ride_8 17 rfl rfl)
theorem dX2_ride_208 : decode cX2_ride 208 = .ok (.iload_n 2, 1) := dk_28 (dk_at dksX2_ride_8 20 rfl rfl)
theorem dX2_ride_209 : decode cX2_ride 209 = .ok (.iconst 4, 1) := dk_7 (dk_at dksX2_ride_8 21 rfl rfl)
theorem dX2_ride_210 : decode cX2_ride 210 = .ok (.iand, 1) := dk_126 (dk_at dksX2_ride_8 22 rfl rfl)
theorem dX2_ride_211 : decode cX2_ride 211 = .ok (.ifCond .eq 13, 3) := dk_153 0 13 (dk_at dksX2_ride_9 0 rfl rfl)
theorem dX2_ride_214 : decode cX2_ride 214 = .ok (.aload_n 0, 1) := dk_42 (dk_at dksX2_ride_9 3 rfl rfl)
theorem dX2_ride_215 : decode cX2_ride 215 = .ok (.iconst 1, 1) := dk_4 (dk_at dksX2_ride_9 4 rfl rfl)
theorem dX2_ride_216 : decode cX2_ride 216 = .ok (.bipush 60, 2) := dk_16 60 (dk_at dksX2_ride_9 5 rfl rfl)
theorem dX2_ride_218 : decode cX2_ride 218 = .ok (.invokevirtual 376, 3) := dk_182 1 120 (dk_at dksX2_ride_9 7 rfl rfl)
theorem dX2_ride_221 : decode cX2_ride 221 = .ok (.goto 4, 3) := dk_167 0 4 (dk_at dksX2_ride_9 10 rfl rfl)
theorem dX2_ride_224 : decode cX2_ride 224 = .ok (.iconst 0, 1) := dk_3 (dk_at dksX2_ride_9 13 rfl rfl)
theorem dX2_ride_225 : decode cX2_ride 225 = .ok (.iastore, 1) := dk_79 (dk_at dksX2_ride_9 14 rfl rfl)
theorem dX2_ride_226 : decode cX2_ride 226 = .ok (.aload_n 0, 1) := dk_42 (dk_at dksX2_ride_9 15 rfl rfl)
theorem dX2_ride_227 : decode cX2_ride 227 = .ok (.getfield 163, 3) := dk_180 0 163 (dk_at dksX2_ride_9 16 rfl rfl)
theorem dX2_ride_230 : decode cX2_ride 230 = .ok (.iload_n 1, 1) := dk_27 (dk_at dksX2_ride_9 19 rfl rfl)
theorem dX2_ride_231 : decode cX2_ride 231 = .ok (.aload_n 0, 1) := dk_42 (dk_at dksX2_ride_9 20 rfl rfl)
theorem dX2_ride_232 : decode cX2_ride 232 = .ok (.getfield 288, 3) := dk_180 1 32 (dk_at dksX2_ride_9 21 rfl rfl)
theorem dX2_ride_235 : decode cX2_ride 235 = .ok (.ifCond .ne 21, 3) := dk_154 0 21 (dk_at dksX2_ride_10 0 rfl rfl)
theorem dX2_ride_238 : decode cX2_ride 238 = .ok (.iload_n 2, 1) := dk_28 (dk_at dksX2_ride_10 3 rfl rfl)
theorem dX2_ride_239 : decode cX2_ride 239 = .ok (.bipush 8, 2) := dk_16 8 (dk_at dksX2_ride_10 4 rfl rfl)
theorem dX2_ride_241 : decode cX2_ride 241 = .ok (.iand, 1) := dk_126 (dk_at dksX2_ride_10 6 rfl rfl)
theorem dX2_ride_242 : decode cX2_ride 242 = .ok (.ifCond .eq 14, 3) := dk_153 0 14 (dk_at dksX2_ride_10 7 rfl rfl)
theorem dX2_ride_245 : decode cX2_ride 245 = .ok (.aload_n 0, 1) := dk_42 (dk_at dksX2_ride_10 10 rfl rfl)
theorem dX2_ride_246 : decode cX2_ride 246 = .ok (.iconst 1, 1) := dk_4 (dk_at dksX2_ride_10 11 rfl rfl)
theorem dX2_ride_247 : decode cX2_ride 247 = .ok (.sipush 500, 3) := dk_17 1 244 (dk_at dksX2_ride_10 12 rfl rfl)
theorem dX2_ride_250 : decode cX2_ride 250 = .ok (.invokevirtual 376, 3) := dk_182 1 120 (dk_at dksX2_ride_10 15 rfl rfl)
theorem dX2_ride_253 : decode cX2_ride 253 = .ok (.goto 4, 3) := dk_167 0 4 (dk_at dksX2_ride_10 18 rfl rfl)
theorem dX2_ride_256 : decode cX2_ride 256 = .ok (.iconst 0, 1) := dk_3 (dk_at dksX2_ride_10 21 rfl rfl)
theorem dX2_ride_257 : decode cX2_ride 257 = .ok (.iastore, 1) := dk_79 (dk_at dksX2_ride_10 22 rfl rfl)
theorem dX2_ride_258 : decode cX2_ride 258 = .ok (.aload_n 0, 1) := dk_42 (dk_at dksX2_ride_10 23 rfl rfl)
theorem dX2_ride_259 : decode cX2_ride 259 = .ok (.getfield 146, 3) := dk_180 0 146 (dk_at dksX2_ride_11 0 rfl rfl)
theorem dX2_ride_262 : decode cX2_ride 262 = .ok (.iload_n 1, 1) := dk_27 (dk_at dksX2_ride_11 3 rfl rfl)
theorem dX2_ride_263 : decode cX2_ride 263 = .ok (.iconst (-1), 1) := dk_2 (dk_at dksX2_ride_11 4 rfl rfl)
theorem dX2_ride_264 : decode cX2_ride 264 = .ok (.iastore, 1) := dk_79 (dk_at dksX2_ride_11 5 rfl rfl)
theorem dX2_ride_265 : decode cX2_ride 265 = .ok (.aload_n 0, 1) := dk_42 (dk_at dksX2_ride_11 6 rfl rfl)
theorem dX2_ride_266 : decode cX2_ride 266 = .ok (.getfield 288, 3) := dk_180 1 32 (dk_at dksX2_ride_11 7 rfl rfl)
theorem dX2_ride_269 : decode cX2_ride 269 = .ok (.ifCond .ne 19, 3) := dk_154 0 19 (dk_at dksX2_ride_11 10 rfl rfl)
theorem dX2_ride_272 : decode cX2_ride 272 = .ok (.aload_n 0, 1) := dk_42 (dk_at dksX2_ride_11 13 rfl rfl)
theorem dX2_ride_273 : decode cX2_ride 273 = .ok (.getfield 143, 3) := dk_180 0 143 (dk_at dksX2_ride_11 14 rfl rfl)
theorem dX2_ride_276 : decode cX2_ride 276 = .ok (.iload_n 1, 1) := dk_27 (dk_at dksX2_ride_11 17 rfl rfl)
theorem dX2_ride_277 : decode cX2_ride 277 = .ok (.iaload, 1) := dk_46 (dk_at dksX2_ride_11 18 rfl rfl)
theorem dX2_ride_278 : decode cX2_ride 278 = .ok (.bipush 8, 2) := dk_16 8 (dk_at dksX2_ride_11 19 rfl rfl)
theorem dX2_ride_280 : decode cX2_ride 280 = .ok (.if_icmp .ne 8, 3) := dk_160 0 8 (dk_at dksX2_ride_11 21 rfl rfl)
theorem dX2_ride_283 : decode cX2_ride 283 = .ok (.aload_n 0, 1) := dk_42 (dk_at dksX2_ride_12 0 rfl rfl)
theorem dX2_ride_284 : decode cX2_ride 284 = .ok (.iload_n 1, 1) := dk_27 (dk_at dksX2_ride_12 1 rfl rfl)
theorem dX2_ride_285 : decode cX2_ride 285 = .ok (.invokevirtual 390, 3) := dk_182 1 134 (dk_at dksX2_ride_12 2 rfl rfl)
theorem dX2_ride_288 : decode cX2_ride 288 = .ok (.aload_n 0, 1) := dk_42 (dk_at dksX2_ride_12 5 rfl rfl)
theorem dX2_ride_289 : decode cX2_ride 289 = .ok (.getfield 288, 3) := dk_180 1 32 (dk_at dksX2_ride_12 6 rfl rfl)
theorem dX2_ride_292 : decode cX2_ride 292 = .ok (.ifCond .eq 4, 3) := dk_153 0 4 (dk_at dksX2_ride_12 9 rfl rfl)
theorem dX2_ride_295 : decode cX2_ride 295 = .ok (.return_, 1) := dk_177 (dk_at dksX2_ride_12 12 rfl rfl)
theorem dX2_ride_296 : decode cX2_ride 296 = .ok (.aload_n 0, 1) := dk_42 (dk_at dksX2_ride_12 13 rfl rfl)
theorem dX2_ride_297 : decode cX2_ride 297 = .ok (.dup, 1) := dk_89 (dk_at dksX2_ride_12 14 rfl rfl)
theorem dX2_ride_298 : decode cX2_ride 298 = .ok (.getfield 361, 3) := dk_180 1 105 (dk_at dksX2_ride_12 15 rfl rfl)
theorem dX2_ride_301 : decode cX2_ride 301 = .ok (.iconst 1, 1) := dk_4 (dk_at dksX2_ride_12 18 rfl rfl)
theorem dX2_ride_302 : decode cX2_ride 302 = .ok (.iadd, 1) := dk_96 (dk_at dksX2_ride_12 19 rfl rfl)
theorem dX2_ride_303 : decode cX2_ride 303 = .ok (.putfield 361, 3) := dk_181 1 105 (dk_at dksX2_ride_12 20 rfl rfl)
theorem dX2_ride_306 : decode cX2_ride 306 = .ok (.aload_n 0, 1) := dk_42 (dk_at dksX2_ride_12 23 rfl rfl)
theorem dX2_ride_307 : decode cX2_ride 307 = .ok (.iload_n 1, 1) := dk_27 (dk_at dksX2_ride_13 0 rfl rfl)
theorem dX2_ride_308 : decode cX2_ride 308 = .ok (.putfield 393, 3) := dk_181 1 137 (dk_at dksX2_ride_13 1 rfl rfl)
theorem dX2_ride_311 : decode cX2_ride 311 = .ok (.aload_n 0, 1) := dk_42 (dk_at dksX2_ride_13 4 rfl rfl)
theorem dX2_ride_312 : decode cX2_ride 312 = .ok (.iconst 0, 1) := dk_3 (dk_at dksX2_ride_13 5 rfl rfl)
theorem dX2_ride_313 : decode cX2_ride 313 = .ok (.putfield 396, 3) := dk_181 1 140 (dk_at dksX2_ride_13 6 rfl rfl)
theorem dX2_ride_316 : decode cX2_ride 316 = .ok (.aload_n 0, 1) := dk_42 (dk_at dksX2_ride_13 9 rfl rfl)
theorem dX2_ride_317 : decode cX2_ride 317 = .ok (.iconst (-1), 1) := dk_2 (dk_at dksX2_ride_13 10 rfl rfl)
theorem dX2_ride_318 : decode cX2_ride 318 = .ok (.putfield 399, 3) := dk_181 1 143 (dk_at dksX2_ride_13 11 rfl rfl)
theorem dX2_ride_321 : decode cX2_ride 321 = .ok (.aload_n 0, 1) := dk_42 (dk_at dksX2_ride_13 14 rfl rfl)
theorem dX2_ride_322 : decode cX2_ride 322 = .ok (.getfield 166, 3) := dk_180 0 166 (dk_at dksX2_ride_13 15 rfl rfl)
theorem dX2_ride_325 : decode cX2_ride 325 = .ok (.iload_n 1, 1) := dk_27 (dk_at dksX2_ride_13 18 rfl rfl)
theorem dX2_ride_326 : decode cX2_ride 326 = .ok (.aload_n 0, 1) := dk_42 (dk_at dksX2_ride_13 19 rfl rfl)
theorem dX2_ride_327 : decode cX2_ride 327 = .ok (.getfield 401, 3) := dk_180 1 145 (dk_at dksX2_ride_13 20 rfl rfl)
theorem dX2_ride_330 : decode cX2_ride 330 = .ok (.iastore, 1) := dk_79 (dk_at dksX2_ride_13 23 rfl rfl)
theorem dX2_ride_331 : decode cX2_ride 331 = .ok (.aload_n 0, 1) := dk_42 (dk_at dksX2_ride_14 0 rfl rfl)
theorem dX2_ride_332 : decode cX2_ride 332 = .ok (.iconst 1, 1) := dk_4 (dk_at dksX2_ride_14 1 rfl rfl)
theorem dX2_ride_333 : decode cX2_ride 333 = .ok (.iconst (-1), 1) := dk_2 (dk_at dksX2_ride_14 2 rfl rfl)
theorem dX2_ride_334 : decode cX2_ride 334 = .ok (.invokevirtual 404, 3) := dk_182 1 148 (dk_at dksX2_ride_14 3 rfl rfl)
theorem dX2_ride_337 : decode cX2_ride 337 = .ok (.ifCond .eq 18, 3) := dk_153 0 18 (dk_at dksX2_ride_14 6 rfl rfl)
theorem dX2_ride_340 : decode cX2_ride 340 = .ok (.aload_n 0, 1) := dk_42 (dk_at dksX2_ride_14 9 rfl rfl)
theorem dX2_ride_341 : decode cX2_ride 341 = .ok (.bipush 54, 2) := dk_16 54 (dk_at dksX2_ride_14 10 rfl rfl)
theorem dX2_ride_343 : decode cX2_ride 343 = .ok (.aload_n 0, 1) := dk_42 (dk_at dksX2_ride_14 12 rfl rfl)
theorem dX2_ride_344 : decode cX2_ride 344 = .ok (.getfield 297, 3) := dk_180 1 41 (dk_at dksX2_ride_14 13 rfl rfl)
theorem dX2_ride_347 : decode cX2_ride 347 = .ok (.iconst 0, 1) := dk_3 (dk_at dksX2_ride_14 16 rfl rfl)
theorem dX2_ride_348 : decode cX2_ride 348 = .ok (.iconst 0, 1) := dk_3 (dk_at dksX2_ride_14 17 rfl rfl)
theorem dX2_ride_349 : decode cX2_ride 349 = .ok (.iconst 0, 1) := dk_3 (dk_at dksX2_ride_14 18 rfl rfl)
theorem dX2_ride_350 : decode cX2_ride 350 = .ok (.iconst (-1), 1) := dk_2 (dk_at dksX2_ride_14 19 rfl rfl)
theorem dX2_ride_351 : decode cX2_ride 351 = .ok (.invokevirtual 407, 3) := dk_182 1 151 (dk_at dksX2_ride_14 20 rfl rfl)
theorem dX2_ride_354 : decode cX2_ride 354 = .ok (.pop, 1) := dk_87 (dk_at dksX2_ride_14 23 rfl rfl)
theorem dX2_ride_355 : decode cX2_ride 355 = .ok (.return_, 1) := dk_177 (dk_at dksX2_ride_15 0 rfl rfl)
def dkwX2_lead_3 : List UInt8 := [180, 0, 146, 27, 29, 79, 177]
abbrev dktX2_lead_3 : List UInt8 := dkwX2_lead_3 ++ []
def dkwX2_lead_2 : List UInt8 := [126, 153, 0, 14, 42, 180, 0, 143, 29, 46, 16, 8, 160, 0, 9, 42, 8, 28, 182, 1, 88, 42]
abbrev dktX2_lead_2 : List UInt8 := dkwX2_lead_2 ++ dktX2_lead_3
def dkwX2_lead_1 : List UInt8 := [6, 28, 182, 1, 88, 42, 180, 1, 32, 154, 0, 36, 42, 180, 0, 117, 42, 180, 0, 143, 29, 46, 46, 4]
abbrev dktX2_lead_1 : List UInt8 := dkwX2_lead_1 ++ dktX2_lead_2
def dkwX2_lead_0 : List UInt8 := [42, 180, 1, 41, 61, 42, 6, 182, 1, 155, 62, 42, 180, 1, 32, 154, 0, 14, 29, 27, 160, 0, 9, 42]
abbrev dktX2_lead_0 : List UInt8 := dkwX2_lead_0 ++ dktX2_lead_1
theorem dksX2_lead_0 : cX2_lead.data.toList.drop 0 = dktX2_lead_0 := by decide +kernel
theorem dksX2_lead_1 : cX2_lead.data.toList.drop 24 = dktX2_lead_1 := dk_seg dksX2_lead_0 24 rfl rfl
theorem dksX2_lead_2 : cX2_lead.data.toList.drop 48 = dktX2_lead_2 := dk_seg dksX2_lead_1 24 rfl rfl
theorem dksX2_lead_3 : cX2_lead.data.toList.drop 70 = dktX2_lead_3 := dk_seg dksX2_lead_2 22 rfl rfl
theorem dX2_lead_0 : decode cX2_lead 0 = .ok (.aload_n 0, 1) := dk_42 (dk_at dksX2_lead_0 0 rfl rfl)
theorem dX2_lead_1 : decode cX2_lead 1 = .ok (.getfield 297, 3) := dk_180 1 41 (dk_at dksX2_lead_0 1 rfl rfl)
theorem dX2_lead_4 : decode cX2_lead 4 = .ok (.istore_n 2, 1) := dk_61 (dk_at dksX2_lead_0 4 rfl rfl)
theorem dX2_lead_5 : decode cX2_lead 5 = .ok (.aload_n 0, 1) := dk_42 (dk_at dksX2_lead_0 5 rfl rfl)
theorem dX2_lead_6 : decode cX2_lead 6 = .ok (.iconst 3, 1) := dk_6 (dk_at dksX2_lead_0 6 rfl rfl)
theorem dX2_lead_7 : decode cX2_lead 7 = .ok (.invokevirtual 411, 3) := dk_182 1 155 (dk_at dksX2_lead_0 7 rfl rfl)
theorem dX2_lead_10 : decode cX2_lead 10 = .ok (.istore_n 3, 1) := dk_62 (dk_at dksX2_lead_0 10 rfl rfl)
theorem dX2_lead_11 : decode cX2_lead 11 = .ok (.aload_n 0, 1) := dk_42 (dk_at dksX2_lead_0 11 rfl rfl)
theorem dX2_lead_12 : decode cX2_lead 12 = .ok (.getfield 288, 3) := dk_180 1 32 (dk_at dksX2_lead_0 12 rfl rfl)
theorem dX2_lead_15 : decode cX2_lead 15 = .ok (.ifCond .ne 14, 3) := dk_154 0 14 (dk_at dksX2_lead_0 15 rfl rfl)
theorem dX2_lead_18 : decode cX2_lead 18 = .ok (.iload_n 3, 1) := dk_29 (dk_at dksX2_lead_0 18 rfl rfl)
theorem dX2_lead_19 : decode cX2_lead 19 = .ok (.iload_n 1, 1) := dk_27 (dk_at dksX2_lead_0 19 rfl rfl)
theorem dX2_lead_20 : decode cX2_lead 20 = .ok (.if_icmp .ne 9, 3) := dk_160 0 9 (dk_at dksX2_lead_0 20 rfl rfl)
theorem dX2_lead_23 : decode cX2_lead 23 = .ok (.aload_n 0, 1) := dk_42 (dk_at dksX2_lead_0 23 rfl rfl)
theorem dX2_lead_24 : decode cX2_lead 24 = .ok (.iconst 3, 1) := dk_6 (dk_at dksX2_lead_1 0 rfl rfl)
theorem dX2_lead_25 : decode cX2_lead 25 = .ok (.iload_n 2, 1) := dk_28 (dk_at dksX2_lead_1 1 rfl rfl)
theorem dX2_lead_26 : decode cX2_lead 26 = .ok (.invokevirtual 344, 3) := dk_182 1 88 (dk_at dksX2_lead_1 2 rfl rfl)
theorem dX2_lead_29 : decode cX2_lead 29 = .ok (.aload_n 0, 1) := dk_42 (dk_at dksX2_lead_1 5 rfl rfl)
theorem dX2_lead_30 : decode cX2_lead 30 = .ok (.getfield 288, 3) := dk_180 1 32 (dk_at dksX2_lead_1 6 rfl rfl)
theorem dX2_lead_33 : decode cX2_lead 33 = .ok (.ifCond .ne 36, 3) := dk_154 0 36 (dk_at dksX2_lead_1 9 rfl rfl)
theorem dX2_lead_36 : decode cX2_lead 36 = .ok (.aload_n 0, 1) := dk_42 (dk_at dksX2_lead_1 12 rfl rfl)
theorem dX2_lead_37 : decode cX2_lead 37 = .ok (.getfield 117, 3) := dk_180 0 117 (dk_at dksX2_lead_1 13 rfl rfl)
theorem dX2_lead_40 : decode cX2_lead 40 = .ok (.aload_n 0, 1) := dk_42 (dk_at dksX2_lead_1 16 rfl rfl)
theorem dX2_lead_41 : decode cX2_lead 41 = .ok (.getfield 143, 3) := dk_180 0 143 (dk_at dksX2_lead_1 17 rfl rfl)
theorem dX2_lead_44 : decode cX2_lead 44 = .ok (.iload_n 3, 1) := dk_29 (dk_at dksX2_lead_1 20 rfl rfl)
theorem dX2_lead_45 : decode cX2_lead 45 = .ok (.iaload, 1) := dk_46 (dk_at dksX2_lead_1 21 rfl rfl)
theorem dX2_lead_46 : decode cX2_lead 46 = .ok (.iaload, 1) := dk_46 (dk_at dksX2_lead_1 22 rfl rfl)
theorem dX2_lead_47 : decode cX2_lead 47 = .ok (.iconst 1, 1) := dk_4 (dk_at dksX2_lead_1 23 rfl rfl)
theorem dX2_lead_48 : decode cX2_lead 48 = .ok (.iand, 1) := dk_126 (dk_at dksX2_lead_2 0 rfl rfl)
theorem dX2_lead_49 : decode cX2_lead 49 = .ok (.ifCond .eq 14, 3) := dk_153 0 14 (dk_at dksX2_lead_2 1 rfl rfl)
theorem dX2_lead_52 : decode cX2_lead 52 = .ok (.aload_n 0, 1) := dk_42 (dk_at dksX2_lead_2 4 rfl rfl)
theorem dX2_lead_53 : decode cX2_lead 53 = .ok (.getfield 143, 3) := dk_180 0 143 (dk_at dksX2_lead_2 5 rfl rfl)
theorem dX2_lead_56 : decode cX2_lead 56 = .ok (.iload_n 3, 1) := dk_29 (dk_at dksX2_lead_2 8 rfl rfl)
theorem dX2_lead_57 : decode cX2_lead 57 = .ok (.iaload, 1) := dk_46 (dk_at dksX2_lead_2 9 rfl rfl)
theorem dX2_lead_58 : decode cX2_lead 58 = .ok (.bipush 8, 2) := dk_16 8 (dk_at dksX2_lead_2 10 rfl rfl)
theorem dX2_lead_60 : decode cX2_lead 60 = .ok (.if_icmp .ne 9, 3) := dk_160 0 9 (dk_at dksX2_lead_2 12 rfl rfl)
theorem dX2_lead_63 : decode cX2_lead 63 = .ok (.aload_n 0, 1) := dk_42 (dk_at dksX2_lead_2 15 rfl rfl)
theorem dX2_lead_64 : decode cX2_lead 64 = .ok (.iconst 5, 1) := dk_8 (dk_at dksX2_lead_2 16 rfl rfl)
theorem dX2_lead_65 : decode cX2_lead 65 = .ok (.iload_n 2, 1) := dk_28 (dk_at dksX2_lead_2 17 rfl rfl)
theorem dX2_lead_66 : decode cX2_lead 66 = .ok (.invokevirtual 344, 3) := dk_182 1 88 (dk_at dksX2_lead_2 18 rfl rfl)
theorem dX2_lead_69 : decode cX2_lead 69 = .ok (.aload_n 0, 1) := dk_42 (dk_at dksX2_lead_2 21 rfl rfl)
theorem dX2_lead_70 : decode cX2_lead 70 = .ok (.getfield 146, 3) := dk_180 0 146 (dk_at dksX2_lead_3 0 rfl rfl)
theorem dX2_lead_73 : decode cX2_lead 73 = .ok (.iload_n 1, 1) := dk_27 (dk_at dksX2_lead_3 3 rfl rfl)
theorem dX2_lead_74 : decode cX2_lead 74 = .ok (.iload_n 3, 1) := dk_29 (dk_at dksX2_lead_3 4 rfl rfl)
theorem dX2_lead_75 : decode cX2_lead 75 = .ok (.iastore, 1) := dk_79 (dk_at dksX2_lead_3 5 rfl rfl)
theorem dX2_lead_76 : decode cX2_lead 76 = .ok (.return_, 1) := dk_177 (dk_at dksX2_lead_3 6 rfl rfl)
def dkwX2_oldName_3 : List UInt8 := [182, 1, 88, 2, 172, 42, 182, 1, 92, 42, 180, 0, 134, 28, 46, 172]
abbrev dktX2_oldName_3 : List UInt8 := dkwX2_oldName_3 ++ []
def dkwX2_oldName_2 : List UInt8 := [61, 28, 2, 159, 0, 13, 42, 180, 0, 131, 28, 46, 27, 159, 0, 14, 42, 6, 42, 180, 1, 41]
abbrev dktX2_oldName_2 : List UInt8 := dkwX2_oldName_2 ++ dktX2_oldName_3
def dkwX2_oldName_1 : List UInt8 := [159, 0, 7, 2, 167, 0, 20, 42, 42, 180, 1, 41, 42, 180, 1, 50, 42, 180, 1, 41, 100, 182, 1, 98]
abbrev dktX2_oldName_1 : List UInt8 := dkwX2_oldName_1 ++ dktX2_oldName_2
def dkwX2_oldName_0 : List UInt8 := [42, 180, 1, 47, 4, 159, 0, 14, 42, 4, 42, 180, 1, 41, 182, 1, 88, 2, 172, 42, 180, 1, 44, 2]
abbrev dktX2_oldName_0 : List UInt8 := dkwX2_oldName_0 ++ dktX2_oldName_1
theorem dksX2_oldName_0 : cX2_oldName.data.toList.drop 0 = dktX2_oldName_0 := by decide +kernel
theorem dksX2_oldName_1 : cX2_oldName.data.toList.drop 24 = dktX2_oldName_1 := dk_seg dksX2_oldName_0 24 rfl rfl
theorem dksX2_oldName_2 : cX2_oldName.data.toList.drop 48 = dktX2_oldName_2 := dk_seg dksX2_oldName_1 24 rfl rfl
theorem dksX2_oldName_3 : cX2_oldName.data.toList.drop 70 = dktX2_oldName_3 := dk_seg dksX2_oldName_2 22 rfl rfl
theorem dX2_oldName_0 : decode cX2_oldName 0 = .ok (.aload_n 0, 1) := dk_42 (dk_at dksX2_oldName_0 0 rfl rfl)
theorem dX2_oldName_1 : decode cX2_oldName 1 = .ok (.getfield 303, 3) := dk_180 1 47 (dk_at dksX2_oldName_0 1 rfl rfl)
theorem dX2_oldName_4 : decode cX2_oldName 4 = .ok (.iconst 1, 1) := dk_4 (dk_at dksX2_oldName_0 4 rfl rfl)
theorem dX2_oldName_5 : decode cX2_oldName 5 = .ok (.if_icmp .eq 14, 3) := dk_159 0 14 (dk_at dksX2_oldName_0 5 rfl rfl)
theorem dX2_oldName_8 : decode cX2_oldName 8 = .ok (.aload_n 0, 1) := dk_42 (dk_at dksX2_oldName_0 8 rfl rfl)
theorem dX2_oldName_9 : decode cX2_oldName 9 = .ok (.iconst 1, 1) := dk_4 (dk_at dksX2_oldName_0 9 rfl rfl)
theorem dX2_oldName_10 : decode cX2_oldName 10 = .ok (.aload_n 0, 1) := dk_42 (dk_at dksX2_oldName_0 10 rfl rfl)
theorem dX2_oldName_11 : decode cX2_oldName 11 = .ok (.getfield 297, 3) := dk_180 1 41 (dk_at dksX2_oldName_0 11 rfl rfl)
theorem dX2_oldName_14 : decode cX2_oldName 14 = .ok (.invokevirtual 344, 3) := dk_182 1 88 (dk_at dksX2_oldName_0 14 rfl rfl)
theorem dX2_oldName_17 : decode cX2_oldName 17 = .ok (.iconst (-1), 1) := dk_2 (dk_at dksX2_oldName_0 17 rfl rfl)
theorem dX2_oldName_18 : decode cX2_oldName 18 = .ok (.ireturn, 1) := dk_172 (dk_at dksX2_oldName_0 18 rfl rfl)
theorem dX2_oldName_19 : decode cX2_oldName 19 = .ok (.aload_n 0, 1) := dk_42 (dk_at dksX2_oldName_0 19 rfl rfl)
theorem dX2_oldName_20 : decode cX2_oldName 20 = .ok (.getfield 300, 3) := dk_180 1 44 (dk_at dksX2_oldName_0 20 rfl rfl)
theorem dX2_oldName_23 : decode cX2_oldName 23 = .ok (.iconst (-1), 1) := dk_2 (dk_at dksX2_oldName_0 23 rfl rfl)
theorem dX2_oldName_24 : decode cX2_oldName 24 = .ok (.if_icmp .eq 7, 3) := dk_159 0 7 (dk_at dksX2_oldName_1 0 rfl rfl)
theorem dX2_oldName_27 : decode cX2_oldName 27 = .ok (.iconst (-1), 1) := dk_2 (dk_at dksX2_oldName_1 3 rfl rfl)
theorem dX2_oldName_28 : decode cX2_oldName 28 = .ok (.goto 20, 3) := dk_167 0 20 (dk_at dksX2_oldName_1 4 rfl rfl)
theorem dX2_oldName_31 : decode cX2_oldName 31 = .ok (.aload_n 0, 1) := dk_42 (dk_at dksX2_oldName_1 7 rfl rfl)
theorem dX2_oldName_32 : decode cX2_oldName 32 = .ok (.aload_n 0, 1) := dk_42 (dk_at dksX2_oldName_1 8 rfl rfl)
theorem dX2_oldName_33 : decode cX2_oldName 33 = .ok (.getfield 297, 3) := dk_180 1 41 (dk_at dksX2_oldName_1 9 rfl rfl)
theorem dX2_oldName_36 : decode cX2_oldName 36 = .ok (.aload_n 0, 1) := dk_42 (dk_at dksX2_oldName_1 12 rfl rfl)
theorem dX2_oldName_37 : decode cX2_oldName 37 = .ok (.getfield 306, 3) := dk_180 1 50 (dk_at dksX2_oldName_1 13 rfl rfl)
theorem dX2_oldName_40 : decode cX2_oldName 40 = .ok (.aload_n 0, 1) := dk_42 (dk_at dksX2_oldName_1 16 rfl rfl)
theorem dX2_oldName_41 : decode cX2_oldName 41 = .ok (.getfield 297, 3) := dk_180 1 41 (dk_at dksX2_oldName_1 17 rfl rfl)
theorem dX2_oldName_44 : decode cX2_oldName 44 = .ok (.isub, 1) := dk_100 (dk_at dksX2_oldName_1 20 rfl rfl)
theorem dX2_oldName_45 : decode cX2_oldName 45 = .ok (.invokevirtual 354, 3) := dk_182 1 98 (dk_at dksX2_oldName_1 21 rfl rfl)
theorem dX2_oldName_48 : decode cX2_oldName 48 = .ok (.istore_n 2, 1) := dk_61 (dk_at dksX2_oldName_2 0 rfl rfl)
theorem dX2_oldName_49 : decode cX2_oldName 49 = .ok (.iload_n 2, 1) := dk_28 (dk_at dksX2_oldName_2 1 rfl rfl)
theorem dX2_oldName_50 : decode cX2_oldName 50 = .ok (.iconst (-1), 1) := dk_2 (dk_at dksX2_oldName_2 2 rfl rfl)
theorem dX2_oldName_51 : decode cX2_oldName 51 = .ok (.if_icmp .eq 13, 3) := dk_159 0 13 (dk_at dksX2_oldName_2 3 rfl rfl)
theorem dX2_oldName_54 : decode cX2_oldName 54 = .ok (.aload_n 0, 1) := dk_42 (dk_at dksX2_oldName_2 6 rfl rfl)
theorem dX2_oldName_55 : decode cX2_oldName 55 = .ok (.getfield 131, 3) := dk_180 0 131 (dk_at dksX2_oldName_2 7 rfl rfl)
theorem dX2_oldName_58 : decode cX2_oldName 58 = .ok (.iload_n 2, 1) := dk_28 (dk_at dksX2_oldName_2 10 rfl rfl)
theorem dX2_oldName_59 : decode cX2_oldName 59 = .ok (.iaload, 1) := dk_46 (dk_at dksX2_oldName_2 11 rfl rfl)
theorem dX2_oldName_60 : decode cX2_oldName 60 = .ok (.iload_n 1, 1) := dk_27 (dk_at dksX2_oldName_2 12 rfl rfl)
theorem dX2_oldName_61 : decode cX2_oldName 61 = .ok (.if_icmp .eq 14, 3) := dk_159 0 14 (dk_at dksX2_oldName_2 13 rfl rfl)
theorem dX2_oldName_64 : decode cX2_oldName 64 = .ok (.aload_n 0, 1) := dk_42 (dk_at dksX2_oldName_2 16 rfl rfl)
theorem dX2_oldName_65 : decode cX2_oldName 65 = .ok (.iconst 3, 1) := dk_6 (dk_at dksX2_oldName_2 17 rfl rfl)
theorem dX2_oldName_66 : decode cX2_oldName 66 = .ok (.aload_n 0, 1) := dk_42 (dk_at dksX2_oldName_2 18 rfl rfl)
theorem dX2_oldName_67 : decode cX2_oldName 67 = .ok (.getfield 297, 3) := dk_180 1 41 (dk_at dksX2_oldName_2 19 rfl rfl)
theorem dX2_oldName_70 : decode cX2_oldName 70 = .ok (.invokevirtual 344, 3) := dk_182 1 88 (dk_at dksX2_oldName_3 0 rfl rfl)
theorem dX2_oldName_73 : decode cX2_oldName 73 = .ok (.iconst (-1), 1) := dk_2 (dk_at dksX2_oldName_3 3 rfl rfl)
theorem dX2_oldName_74 : decode cX2_oldName 74 = .ok (.ireturn, 1) := dk_172 (dk_at dksX2_oldName_3 4 rfl rfl)
theorem dX2_oldName_75 : decode cX2_oldName 75 = .ok (.aload_n 0, 1) := dk_42 (dk_at dksX2_oldName_3 5 rfl rfl)
theorem dX2_oldName_76 : decode cX2_oldName 76 = .ok (.invokevirtual 348, 3) := dk_182 1 92 (dk_at dksX2_oldName_3 6 rfl rfl)
theorem dX2_oldName_79 : decode cX2_oldName 79 = .ok (.aload_n 0, 1) := dk_42 (dk_at dksX2_oldName_3 9 rfl rfl)
theorem dX2_oldName_80 : decode cX2_oldName 80 = .ok (.getfield 134, 3) := dk_180 0 134 (dk_at dksX2_oldName_3 10 rfl rfl)
theorem dX2_oldName_83 : decode cX2_oldName 83 = .ok (.iload_n 2, 1) := dk_28 (dk_at dksX2_oldName_3 13 rfl rfl)
theorem dX2_oldName_84 : decode cX2_oldName 84 = .ok (.iaload, 1) := dk_46 (dk_at dksX2_oldName_3 14 rfl rfl)
theorem dX2_oldName_85 : decode cX2_oldName 85 = .ok (.ireturn, 1) := dk_172 (dk_at dksX2_oldName_3 15 rfl rfl)
def dkwX2_block_4 : List UInt8 := [4, 167, 0, 4, 3, 172]
abbrev dktX2_block_4 : List UInt8 := dkwX2_block_4 ++ []
def dkwX2_block_3 : List UInt8 := [182, 1, 158, 167, 255, 234, 42, 180, 1, 32, 154, 0, 7, 42, 182, 1, 92, 42, 180, 1, 32, 154, 0, 7]
abbrev dktX2_block_3 : List UInt8 := dkwX2_block_3 ++ dktX2_block_4
def dkwX2_block_2 : List UInt8 := [182, 1, 92, 42, 180, 1, 32, 154, 0, 21, 42, 16, 125, 182, 1, 85, 154, 0, 12, 42, 27, 28]
abbrev dktX2_block_2 : List UInt8 := dkwX2_block_2 ++ dktX2_block_3
def dkwX2_block_1 : List UInt8 := [164, 0, 12, 42, 7, 42, 180, 1, 41, 182, 1, 88, 42, 180, 1, 32, 153, 0, 5, 3, 172, 42]
abbrev dktX2_block_1 : List UInt8 := dkwX2_block_1 ++ dktX2_block_2
def dkwX2_block_0 : List UInt8 := [42, 16, 123, 182, 1, 85, 154, 0, 15, 42, 4, 42, 180, 1, 41, 182, 1, 88, 167, 0, 18, 27, 16, 10]
abbrev dktX2_block_0 : List UInt8 := dkwX2_block_0 ++ dktX2_block_1
theorem dksX2_block_0 : cX2_block.data.toList.drop 0 = dktX2_block_0 := by decide +kernel
theorem dksX2_block_1 : cX2_block.data.toList.drop 24 = dktX2_block_1 := dk_seg dksX2_block_0 24 rfl rfl
theorem dksX2_block_2 : cX2_block.data.toList.drop 46 = dktX2_block_2 := dk_seg dksX2_block_1 22 rfl rfl
theorem dksX2_block_3 : cX2_block.data.toList.drop 68 = dktX2_block_3 := dk_seg dksX2_block_2 22 rfl rfl
theorem dksX2_block_4 : cX2_block.data.toList.drop 92 = dktX2_block_4 := dk_seg dksX2_block_3 24 rfl rfl
theorem dX2_block_0 : decode cX2_block 0 = .ok (.aload_n 0, 1) := dk_42 (dk_at dksX2_block_0 0 rfl rfl)
theorem dX2_block_1 : decode cX2_block 1 = .ok (.bipush 123, 2) := dk_16 123 (dk_at dksX2_block_0 1 rfl rfl)
theorem dX2_block_3 : decode cX2_block 3 = .ok (.invokevirtual 341, 3) := dk_182 1 85 (dk_at dksX2_block_0 3 rfl rfl)
theorem dX2_block_6 : decode cX2_block 6 = .ok (.ifCond .ne 15, 3) := dk_154 0 15 (dk_at dksX2_block_0 6 rfl rfl)
theorem dX2_block_9 : decode cX2_block 9 = .ok (.aload_n 0, 1) := dk_42 (dk_at dksX2_block_0 9 rfl rfl)
theorem dX2_block_10 : decode cX2_block 10 = .ok (.iconst 1, 1) := dk_4 (dk_at dksX2_block_0 10 rfl rfl)
theorem dX2_block_11 : decode cX2_block 11 = .ok (.aload_n 0, 1) := dk_42 (dk_at dksX2_block_0 11 rfl rfl)
theorem dX2_block_12 : decode cX2_block 12 = .ok (.getfield 297, 3) := dk_180 1 41 (dk_at dksX2_block_0 12 rfl rfl)
theorem dX2_block_15 : decode cX2_block 15 = .ok (.invokevirtual 344, 3) := dk_182 1 88 (dk_at dksX2_block_0 15 rfl rfl)
theorem dX2_block_18 : decode cX2_block 18 = .ok (.goto 18, 3) := dk_167 0 18 (dk_at dksX2_block_0 18 rfl rfl)
theorem dX2_block_21 : decode cX2_block 21 = .ok (.iload_n 1, 1) := dk_27 (dk_at dksX2_block_0 21 rfl rfl)
theorem dX2_block_22 : decode cX2_block 22 = .ok (.bipush 10, 2) := dk_16 10 (dk_at dksX2_block_0 22 rfl rfl)
theorem dX2_block_24 : decode cX2_block 24 = .ok (.if_icmp .le 12, 3) := dk_164 0 12 (dk_at dksX2_block_1 0 rfl rfl)
theorem dX2_block_27 : decode cX2_block 27 = .ok (.aload_n 0, 1) := dk_42 (dk_at dksX2_block_1 3 rfl rfl)
theorem dX2_block_28 : decode cX2_block 28 = .ok (.iconst 4, 1) := dk_7 (dk_at dksX2_block_1 4 rfl rfl)
theorem dX2_block_29 : decode cX2_block 29 = .ok (.aload_n 0, 1) := dk_42 (dk_at dksX2_block_1 5 rfl rfl)
theorem dX2_block_30 : decode cX2_block 30 = .ok (.getfield 297, 3) := dk_180 1 41 (dk_at dksX2_block_1 6 rfl rfl)
theorem dX2_block_33 : decode cX2_block 33 = .ok (.invokevirtual 344, 3) := dk_182 1 88 (dk_at dksX2_block_1 9 rfl rfl)
theorem dX2_block_36 : decode cX2_block 36 = .ok (.aload_n 0, 1) := dk_42 (dk_at dksX2_block_1 12 rfl rfl)
theorem dX2_block_37 : decode cX2_block 37 = .ok (.getfield 288, 3) := dk_180 1 32 (dk_at dksX2_block_1 13 rfl rfl)
theorem dX2_block_40 : decode cX2_block 40 = .ok (.ifCond .eq 5, 3) := dk_153 0 5 (dk_at dksX2_block_1 16 rfl rfl)
theorem dX2_block_43 : decode cX2_block 43 = .ok (.iconst 0, 1) := dk_3 (dk_at dksX2_block_1 19 rfl rfl)
theorem dX2_block_44 : decode cX2_block 44 = .ok (.ireturn, 1) := dk_172 (dk_at dksX2_block_1 20 rfl rfl)
theorem dX2_block_45 : decode cX2_block 45 = .ok (.aload_n 0, 1) := dk_42 (dk_at dksX2_block_1 21 rfl rfl)
theorem dX2_block_46 : decode cX2_block 46 = .ok (.invokevirtual 348, 3) := dk_182 1 92 (dk_at dksX2_block_2 0 rfl rfl)
theorem dX2_block_49 : decode cX2_block 49 = .ok (.aload_n 0, 1) := dk_42 (dk_at dksX2_block_2 3 rfl rfl)
theorem dX2_block_50 : decode cX2_block 50 = .ok (.getfield 288, 3) := dk_180 1 32 (dk_at dksX2_block_2 4 rfl rfl)
theorem dX2_block_53 : decode cX2_block 53 = .ok (.ifCond .ne 21, 3) := dk_154 0 21 (dk_at dksX2_block_2 7 rfl rfl)
theorem dX2_block_56 : decode cX2_block 56 = .ok (.aload_n 0, 1) := dk_42 (dk_at dksX2_block_2 10 rfl rfl)
theorem dX2_block_57 : decode cX2_block 57 = .ok (.bipush 125, 2) := dk_16 125 (dk_at dksX2_block_2 11 rfl rfl)
theorem dX2_block_59 : decode cX2_block 59 = .ok (.invokevirtual 341, 3) := dk_182 1 85 (dk_at dksX2_block_2 13 rfl rfl)
theorem dX2_block_62 : decode cX2_block 62 = .ok (.ifCond .ne 12, 3) := dk_154 0 12 (dk_at dksX2_block_2 16 rfl rfl)
theorem dX2_block_65 : decode cX2_block 65 = .ok (.aload_n 0, 1) := dk_42 (dk_at dksX2_block_2 19 rfl rfl)
theorem dX2_block_66 : decode cX2_block 66 = .ok (.iload_n 1, 1) := dk_27 (dk_at dksX2_block_2 20 rfl rfl)
theorem dX2_block_67 : decode cX2_block 67 = .ok (.iload_n 2, 1) := dk_28 (dk_at dksX2_block_2 21 rfl rfl)
theorem dX2_block_68 : decode cX2_block 68 = .ok (.invokevirtual 414, 3) := dk_182 1 158 (dk_at dksX2_block_3 0 rfl rfl)
theorem dX2_block_71 : decode cX2_block 71 = .ok (.goto (-22), 3) := dk_167 255 234 (dk_at dksX2_block_3 3 rfl rfl)
theorem dX2_block_74 : decode cX2_block 74 = .ok (.aload_n 0, 1) := dk_42 (dk_at dksX2_block_3 6 rfl rfl)
theorem dX2_block_75 : decode cX2_block 75 = .ok (.getfield 288, 3) := dk_180 1 32 (dk_at dksX2_block_3 7 rfl rfl)
theorem dX2_block_78 : decode cX2_block 78 = .ok (.ifCond .ne 7, 3) := dk_154 0 7 (dk_at dksX2_block_3 10 rfl rfl)
theorem dX2_block_81 : decode cX2_block 81 = .ok (.aload_n 0, 1) := dk_42 (dk_at dksX2_block_3 13 rfl rfl)
theorem dX2_block_82 : decode cX2_block 82 = .ok (.invokevirtual 348, 3) := dk_182 1 92 (dk_at dksX2_block_3 14 rfl rfl)
theorem dX2_block_85 : decode cX2_block 85 = .ok (.aload_n 0, 1) := dk_42 (dk_at dksX2_block_3 17 rfl rfl)
theorem dX2_block_86 : decode cX2_block 86 = .ok (.getfield 288, 3) := dk_180 1 32 (dk_at dksX2_block_3 18 rfl rfl)
theorem dX2_block_89 : decode cX2_block 89 = .ok (.ifCond .ne 7, 3) := dk_154 0 7 (dk_at dksX2_block_3 21 rfl rfl)
theorem dX2_block_92 : decode cX2_block 92 = .ok (.iconst 1, 1) := dk_4 (dk_at dksX2_block_4 0 rfl rfl)
theorem dX2_block_93 : decode cX2_block 93 = .ok (.goto 4, 3) := dk_167 0 4 (dk_at dksX2_block_4 1 rfl rfl)
theorem dX2_block_96 : decode cX2_block 96 = .ok (.iconst 0, 1) := dk_3 (dk_at dksX2_block_4 4 rfl rfl)
theorem dX2_block_97 : decode cX2_block 97 = .ok (.ireturn, 1) := dk_172 (dk_at dksX2_block_4 5 rfl rfl)
def dkwX2_isSign_0 : List UInt8 := [42, 180, 1, 47, 6, 160, 0, 15, 42, 180, 1, 82, 27, 160, 0, 7, 4, 167, 0, 4, 3, 172]
abbrev dktX2_isSign_0 : List UInt8 := dkwX2_isSign_0 ++ []
theorem dksX2_isSign_0 : cX2_isSign.data.toList.drop 0 = dktX2_isSign_0 := by decide +kernel
theorem dX2_isSign_0 : decode cX2_isSign 0 = .ok (.aload_n 0, 1) := dk_42 (dk_at dksX2_isSign_0 0 rfl rfl)
theorem dX2_isSign_1 : decode cX2_isSign 1 = .ok (.getfield 303, 3) := dk_180 1 47 (dk_at dksX2_isSign_0 1 rfl rfl)
theorem dX2_isSign_4 : decode cX2_isSign 4 = .ok (.iconst 3, 1) := dk_6 (dk_at dksX2_isSign_0 4 rfl rfl)
theorem dX2_isSign_5 : decode cX2_isSign 5 = .ok (.if_icmp .ne 15, 3) := dk_160 0 15 (dk_at dksX2_isSign_0 5 rfl rfl)
theorem dX2_isSign_8 : decode cX2_isSign 8 = .ok (.aload_n 0, 1) := dk_42 (dk_at dksX2_isSign_0 8 rfl rfl)
theorem dX2_isSign_9 : decode cX2_isSign 9 = .ok (.getfield 338, 3) := dk_180 1 82 (dk_at dksX2_isSign_0 9 rfl rfl)
theorem dX2_isSign_12 : decode cX2_isSign 12 = .ok (.iload_n 1, 1) := dk_27 (dk_at dksX2_isSign_0 12 rfl rfl)
theorem dX2_isSign_13 : decode cX2_isSign 13 = .ok (.if_icmp .ne 7, 3) := dk_160 0 7 (dk_at dksX2_isSign_0 13 rfl rfl)
theorem dX2_isSign_16 : decode cX2_isSign 16 = .ok (.iconst 1, 1) := dk_4 (dk_at dksX2_isSign_0 16 rfl rfl)
theorem dX2_isSign_17 : decode cX2_isSign 17 = .ok (.goto 4, 3) := dk_167 0 4 (dk_at dksX2_isSign_0 17 rfl rfl)
theorem dX2_isSign_20 : decode cX2_isSign 20 = .ok (.iconst 0, 1) := dk_3 (dk_at dksX2_isSign_0 20 rfl rfl)
theorem dX2_isSign_21 : decode cX2_isSign 21 = .ok (.ireturn, 1) := dk_172 (dk_at dksX2_isSign_0 21 rfl rfl)
