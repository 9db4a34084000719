set_option maxRecDepth 100000
abbrev cX1_init : ByteArray := prog_13_method_1_code
def yX1_init : MethodName := ⟨RX1, "<init>", "()V"⟩
def dkwX1_init_1 : List UInt8 := [181, 0, 23, 177]
abbrev dktX1_init_1 : List UInt8 := dkwX1_init_1 ++ []
def dkwX1_init_0 : List UInt8 := [42, 183, 0, 3, 42, 4, 181, 0, 9, 42, 16, 9, 189, 0, 15, 181, 0, 17, 42, 16, 14, 189, 0, 21]
abbrev dktX1_init_0 : List UInt8 := dkwX1_init_0 ++ dktX1_init_1
theorem dksX1_init_0 : cX1_init.data.toList.drop 0 = dktX1_init_0 := by decide +kernel
theorem dksX1_init_1 : cX1_init.data.toList.drop 24 = dktX1_init_1 := dk_seg dksX1_init_0 24 rfl rfl
theorem dX1_init_0 : decode cX1_init 0 = .ok (.aload_n 0, 1) := dk_42 (dk_at dksX1_init_0 0 rfl rfl)
theorem dX1_init_1 : decode cX1_init 1 = .ok (.invokespecial 3, 3) := dk_183 0 3 (dk_at dksX1_init_0 1 rfl rfl)
theorem dX1_init_4 : decode cX1_init 4 = .ok (.aload_n 0, 1) := dk_42 (dk_at dksX1_init_0 4 rfl rfl)
theorem dX1_init_5 : decode cX1_init 5 = .ok (.iconst 1, 1) := dk_4 (dk_at dksX1_init_0 5 rfl rfl)
theorem dX1_init_6 : decode cX1_init 6 = .ok (.putfield 9, 3) := dk_181 0 9 (dk_at dksX1_init_0 6 rfl rfl)
theorem dX1_init_9 : decode cX1_init 9 = .ok (.aload_n 0, 1) := dk_42 (dk_at dksX1_init_0 9 rfl rfl)
theorem dX1_init_10 : decode cX1_init 10 = .ok (.bipush 9, 2) := dk_16 9 (dk_at dksX1_init_0 10 rfl rfl)
theorem dX1_init_12 : decode cX1_init 12 = .ok (.anewarray 15, 3) := dk_189 0 15 (dk_at dksX1_init_0 12 rfl rfl)
theorem dX1_init_15 : decode cX1_init 15 = .ok (.putfield 17, 3) := dk_181 0 17 (dk_at dksX1_init_0 15 rfl rfl)
theorem dX1_init_18 : decode cX1_init 18 = .ok (.aload_n 0, 1) := dk_42 (dk_at dksX1_init_0 18 rfl rfl)
theorem dX1_init_19 : decode cX1_init 19 = .ok (.bipush 14, 2) := dk_16 14 (dk_at dksX1_init_0 19 rfl rfl)
theorem dX1_init_21 : decode cX1_init 21 = .ok (.anewarray 21, 3) := dk_189 0 21 (dk_at dksX1_init_0 21 rfl rfl)
theorem dX1_init_24 : decode cX1_init 24 = .ok (.putfield 23, 3) := dk_181 0 23 (dk_at dksX1_init_1 0 rfl rfl)
theorem dX1_init_27 : decode cX1_init 27 = .ok (.return_, 1) := dk_177 (dk_at dksX1_init_1 3 rfl rfl)
abbrev cX1_standing : ByteArray := prog_13_method_4_code
def yX1_standing : MethodName := ⟨RX1, "standing", "()I"⟩
def dkwX1_standing_1 : List UInt8 := [153, 0, 9, 4, 28, 120, 167, 0, 4, 3, 128, 60, 132, 2, 1, 167, 255, 223, 27, 172]
abbrev dktX1_standing_1 : List UInt8 := dkwX1_standing_1 ++ []
def dkwX1_standing_0 : List UInt8 := [3, 60, 3, 61, 28, 42, 180, 0, 27, 162, 0, 31, 27, 42, 180, 0, 17, 28, 50, 180, 0, 61]
abbrev dktX1_standing_0 : List UInt8 := dkwX1_standing_0 ++ dktX1_standing_1
theorem dksX1_standing_0 : cX1_standing.data.toList.drop 0 = dktX1_standing_0 := by decide +kernel
theorem dksX1_standing_1 : cX1_standing.data.toList.drop 22 = dktX1_standing_1 := dk_seg dksX1_standing_0 22 rfl rfl
theorem dX1_standing_0 : decode cX1_standing 0 = .ok (.iconst 0, 1) := dk_3 (dk_at dksX1_standing_0 0 rfl rfl)
theorem dX1_standing_1 : decode cX1_standing 1 = .ok (.istore_n 1, 1) := dk_60 (dk_at dksX1_standing_0 1 rfl rfl)
theorem dX1_standing_2 : decode cX1_standing 2 = .ok (.iconst 0, 1) := dk_3 (dk_at dksX1_standing_0 2 rfl rfl)
theorem dX1_standing_3 : decode cX1_standing 3 = .ok (.istore_n 2, 1) := dk_61 (dk_at dksX1_standing_0 3 rfl rfl)
theorem dX1_standing_4 : decode cX1_standing 4 = .ok (.iload_n 2, 1) := dk_28 (dk_at dksX1_standing_0 4 rfl rfl)
theorem dX1_standing_5 : decode cX1_standing 5 = .ok (.aload_n 0, 1) := dk_42 (dk_at dksX1_standing_0 5 rfl rfl)
theorem dX1_standing_6 : decode cX1_standing 6 = .ok (.getfield 27, 3) := dk_180 0 27 (dk_at dksX1_standing_0 6 rfl rfl)
theorem dX1_standing_9 : decode cX1_standing 9 = .ok (.if_icmp .ge 31, 3) := dk_162 0 31 (dk_at dksX1_standing_0 9 rfl rfl)
theorem dX1_standing_12 : decode cX1_standing 12 = .ok (.iload_n 1, 1) := dk_27 (dk_at dksX1_standing_0 12 rfl rfl)
theorem dX1_standing_13 : decode cX1_standing 13 = .ok (.aload_n 0, 1) := dk_42 (dk_at dksX1_standing_0 13 rfl rfl)
theorem dX1_standing_14 : decode cX1_standing 14 = .ok (.getfield 17, 3) := dk_180 0 17 (dk_at dksX1_standing_0 14 rfl rfl)
theorem dX1_standing_17 : decode cX1_standing 17 = .ok (.iload_n 2, 1) := dk_28 (dk_at dksX1_standing_0 17 rfl rfl)
theorem dX1_standing_18 : decode cX1_standing 18 = .ok (.aaload, 1) := dk_50 (dk_at dksX1_standing_0 18 rfl rfl)
theorem dX1_standing_19 : decode cX1_standing 19 = .ok (.getfield 61, 3) := dk_180 0 61 (dk_at dksX1_standing_0 19 rfl rfl)
theorem dX1_standing_22 : decode cX1_standing 22 = .ok (.ifCond .eq 9, 3) := dk_153 0 9 (dk_at dksX1_standing_1 0 rfl rfl)
theorem dX1_standing_25 : decode cX1_standing 25 = .ok (.iconst 1, 1) := dk_4 (dk_at dksX1_standing_1 3 rfl rfl)
theorem dX1_standing_26 : decode cX1_standing 26 = .ok (.iload_n 2, 1) := dk_28 (dk_at dksX1_standing_1 4 rfl rfl)
theorem dX1_standing_27 : decode cX1_standing 27 = .ok (.ishl, 1) := dk_120 (dk_at dksX1_standing_1 5 rfl rfl)
theorem dX1_standing_28 : decode cX1_standing 28 = .ok (.goto 4, 3) := dk_167 0 4 (dk_at dksX1_standing_1 6 rfl rfl)
theorem dX1_standing_31 : decode cX1_standing 31 = .ok (.iconst 0, 1) := dk_3 (dk_at dksX1_standing_1 9 rfl rfl)
theorem dX1_standing_32 : decode cX1_standing 32 = .ok (.ior, 1) := dk_128 (dk_at dksX1_standing_1 10 rfl rfl)
theorem dX1_standing_33 : decode cX1_standing 33 = .ok (.istore_n 1, 1) := dk_60 (dk_at dksX1_standing_1 11 rfl rfl)
theorem dX1_standing_34 : decode cX1_standing 34 = .ok (.iinc 2 1, 3) := dk_132 2 1 (dk_at dksX1_standing_1 12 rfl rfl)
theorem dX1_standing_37 : decode cX1_standing 37 = .ok (.goto (-33), 3) := dk_167 255 223 (dk_at dksX1_standing_1 15 rfl rfl)
theorem dX1_standing_40 : decode cX1_standing 40 = .ok (.iload_n 1, 1) := dk_27 (dk_at dksX1_standing_1 18 rfl rfl)
theorem dX1_standing_41 : decode cX1_standing 41 = .ok (.ireturn, 1) := dk_172 (dk_at dksX1_standing_1 19 rfl rfl)
abbrev cX1_draw : ByteArray := prog_13_method_3_code
def yX1_draw : MethodName := ⟨RX1, "draw", "()I"⟩
def dkwX1_draw_0 : List UInt8 := [42, 42, 180, 0, 9, 18, 60, 104, 17, 48, 57, 96, 181, 0, 9, 42, 180, 0, 9, 16, 8, 124, 172]
abbrev dktX1_draw_0 : List UInt8 := dkwX1_draw_0 ++ []
theorem dksX1_draw_0 : cX1_draw.data.toList.drop 0 = dktX1_draw_0 := by decide +kernel
theorem dX1_draw_0 : decode cX1_draw 0 = .ok (.aload_n 0, 1) := dk_42 (dk_at dksX1_draw_0 0 rfl rfl)
theorem dX1_draw_1 : decode cX1_draw 1 = .ok (.aload_n 0, 1) := dk_42 (dk_at dksX1_draw_0 1 rfl rfl)
theorem dX1_draw_2 : decode cX1_draw 2 = .ok (.getfield 9, 3) := dk_180 0 9 (dk_at dksX1_draw_0 2 rfl rfl)
theorem dX1_draw_5 : decode cX1_draw 5 = .ok (.ldc 60, 2) := dk_18 60 (dk_at dksX1_draw_0 5 rfl rfl)
theorem dX1_draw_7 : decode cX1_draw 7 = .ok (.imul, 1) := dk_104 (dk_at dksX1_draw_0 7 rfl rfl)
theorem dX1_draw_8 : decode cX1_draw 8 = .ok (.sipush 12345, 3) := dk_17 48 57 (dk_at dksX1_draw_0 8 rfl rfl)
theorem dX1_draw_11 : decode cX1_draw 11 = .ok (.iadd, 1) := dk_96 (dk_at dksX1_draw_0 11 rfl rfl)
theorem dX1_draw_12 : decode cX1_draw 12 = .ok (.putfield 9, 3) := dk_181 0 9 (dk_at dksX1_draw_0 12 rfl rfl)
theorem dX1_draw_15 : decode cX1_draw 15 = .ok (.aload_n 0, 1) := dk_42 (dk_at dksX1_draw_0 15 rfl rfl)
theorem dX1_draw_16 : decode cX1_draw 16 = .ok (.getfield 9, 3) := dk_180 0 9 (dk_at dksX1_draw_0 16 rfl rfl)
theorem dX1_draw_19 : decode cX1_draw 19 = .ok (.bipush 8, 2) := dk_16 8 (dk_at dksX1_draw_0 19 rfl rfl)
theorem dX1_draw_21 : decode cX1_draw 21 = .ok (.iushr, 1) := dk_124 (dk_at dksX1_draw_0 21 rfl rfl)
theorem dX1_draw_22 : decode cX1_draw 22 = .ok (.ireturn, 1) := dk_172 (dk_at dksX1_draw_0 22 rfl rfl)
abbrev cX1_props : ByteArray := prog_13_method_6_code
def yX1_props : MethodName := ⟨RX1, "props", "()I"⟩
def dkwX1_props_1 : List UInt8 := [132, 2, 1, 167, 255, 233, 27, 172]
abbrev dktX1_props_1 : List UInt8 := dkwX1_props_1 ++ []
def dkwX1_props_0 : List UInt8 := [3, 60, 3, 61, 28, 42, 180, 0, 27, 162, 0, 21, 27, 42, 180, 0, 17, 28, 50, 180, 0, 68, 96, 60]
abbrev dktX1_props_0 : List UInt8 := dkwX1_props_0 ++ dktX1_props_1
theorem dksX1_props_0 : cX1_props.data.toList.drop 0 = dktX1_props_0 := by decide +kernel
theorem dksX1_props_1 : cX1_props.data.toList.drop 24 = dktX1_props_1 := dk_seg dksX1_props_0 24 rfl rfl
theorem dX1_props_0 : decode cX1_props 0 = .ok (.iconst 0, 1) := dk_3 (dk_at dksX1_props_0 0 rfl rfl)
theorem dX1_props_1 : decode cX1_props 1 = .ok (.istore_n 1, 1) := dk_60 (dk_at dksX1_props_0 1 rfl rfl)
theorem dX1_props_2 : decode cX1_props 2 = .ok (.iconst 0, 1) := dk_3 (dk_at dksX1_props_0 2 rfl rfl)
theorem dX1_props_3 : decode cX1_props 3 = .ok (.istore_n 2, 1) := dk_61 (dk_at dksX1_props_0 3 rfl rfl)
theorem dX1_props_4 : decode cX1_props 4 = .ok (.iload_n 2, 1) := dk_28 (dk_at dksX1_props_0 4 rfl rfl)
theorem dX1_props_5 : decode cX1_props 5 = .ok (.aload_n 0, 1) := dk_42 (dk_at dksX1_props_0 5 rfl rfl)
theorem dX1_props_6 : decode cX1_props 6 = .ok (.getfield 27, 3) := dk_180 0 27 (dk_at dksX1_props_0 6 rfl rfl)
theorem dX1_props_9 : decode cX1_props 9 = .ok (.if_icmp .ge 21, 3) := dk_162 0 21 (dk_at dksX1_props_0 9 rfl rfl)
theorem dX1_props_12 : decode cX1_props 12 = .ok (.iload_n 1, 1) := dk_27 (dk_at dksX1_props_0 12 rfl rfl)
theorem dX1_props_13 : decode cX1_props 13 = .ok (.aload_n 0, 1) := dk_42 (dk_at dksX1_props_0 13 rfl rfl)
theorem dX1_props_14 : decode cX1_props 14 = .ok (.getfield 17, 3) := dk_180 0 17 (dk_at dksX1_props_0 14 rfl rfl)
theorem dX1_props_17 : decode cX1_props 17 = .ok (.iload_n 2, 1) := dk_28 (dk_at dksX1_props_0 17 rfl rfl)
theorem dX1_props_18 : decode cX1_props 18 = .ok (.aaload, 1) := dk_50 (dk_at dksX1_props_0 18 rfl rfl)
theorem dX1_props_19 : decode cX1_props 19 = .ok (.getfield 68, 3) := dk_180 0 68 (dk_at dksX1_props_0 19 rfl rfl)
theorem dX1_props_22 : decode cX1_props 22 = .ok (.iadd, 1) := dk_96 (dk_at dksX1_props_0 22 rfl rfl)
theorem dX1_props_23 : decode cX1_props 23 = .ok (.istore_n 1, 1) := dk_60 (dk_at dksX1_props_0 23 rfl rfl)
theorem dX1_props_24 : decode cX1_props 24 = .ok (.iinc 2 1, 3) := dk_132 2 1 (dk_at dksX1_props_1 0 rfl rfl)
theorem dX1_props_27 : decode cX1_props 27 = .ok (.goto (-23), 3) := dk_167 255 233 (dk_at dksX1_props_1 3 rfl rfl)
theorem dX1_props_30 : decode cX1_props 30 = .ok (.iload_n 1, 1) := dk_27 (dk_at dksX1_props_1 6 rfl rfl)
theorem dX1_props_31 : decode cX1_props 31 = .ok (.ireturn, 1) := dk_172 (dk_at dksX1_props_1 7 rfl rfl)
abbrev cX1_cracks : ByteArray := prog_13_method_5_code
def yX1_cracks : MethodName := ⟨RX1, "cracks", "()I"⟩
def dkwX1_cracks_1 : List UInt8 := [132, 2, 1, 167, 255, 233, 27, 172]
abbrev dktX1_cracks_1 : List UInt8 := dkwX1_cracks_1 ++ []
def dkwX1_cracks_0 : List UInt8 := [3, 60, 3, 61, 28, 42, 180, 0, 27, 162, 0, 21, 27, 42, 180, 0, 17, 28, 50, 180, 0, 65, 96, 60]
abbrev dktX1_cracks_0 : List UInt8 := dkwX1_cracks_0 ++ dktX1_cracks_1
theorem dksX1_cracks_0 : cX1_cracks.data.toList.drop 0 = dktX1_cracks_0 := by decide +kernel
theorem dksX1_cracks_1 : cX1_cracks.data.toList.drop 24 = dktX1_cracks_1 := dk_seg dksX1_cracks_0 24 rfl rfl
theorem dX1_cracks_0 : decode cX1_cracks 0 = .ok (.iconst 0, 1) := dk_3 (dk_at dksX1_cracks_0 0 rfl rfl)
theorem dX1_cracks_1 : decode cX1_cracks 1 = .ok (.istore_n 1, 1) := dk_60 (dk_at dksX1_cracks_0 1 rfl rfl)
theorem dX1_cracks_2 : decode cX1_cracks 2 = .ok (.iconst 0, 1) := dk_3 (dk_at dksX1_cracks_0 2 rfl rfl)
theorem dX1_cracks_3 : decode cX1_cracks 3 = .ok (.istore_n 2, 1) := dk_61 (dk_at dksX1_cracks_0 3 rfl rfl)
theorem dX1_cracks_4 : decode cX1_cracks 4 = .ok (.iload_n 2, 1) := dk_28 (dk_at dksX1_cracks_0 4 rfl rfl)
theorem dX1_cracks_5 : decode cX1_cracks 5 = .ok (.aload_n 0, 1) := dk_42 (dk_at dksX1_cracks_0 5 rfl rfl)
theorem dX1_cracks_6 : decode cX1_cracks 6 = .ok (.getfield 27, 3) := dk_180 0 27 (dk_at dksX1_cracks_0 6 rfl rfl)
theorem dX1_cracks_9 : decode cX1_cracks 9 = .ok (.if_icmp .ge 21, 3) := dk_162 0 21 (dk_at dksX1_cracks_0 9 rfl rfl)
theorem dX1_cracks_12 : decode cX1_cracks 12 = .ok (.iload_n 1, 1) := dk_27 (dk_at dksX1_cracks_0 12 rfl rfl)
theorem dX1_cracks_13 : decode cX1_cracks 13 = .ok (.aload_n 0, 1) := dk_42 (dk_at dksX1_cracks_0 13 rfl rfl)
theorem dX1_cracks_14 : decode cX1_cracks 14 = .ok (.getfield 17, 3) := dk_180 0 17 (dk_at dksX1_cracks_0 14 rfl rfl)
theorem dX1_cracks_17 : decode cX1_cracks 17 = .ok (.iload_n 2, 1) := dk_28 (dk_at dksX1_cracks_0 17 rfl rfl)
theorem dX1_cracks_18 : decode cX1_cracks 18 = .ok (.aaload, 1) := dk_50 (dk_at dksX1_cracks_0 18 rfl rfl)
theorem dX1_cracks_19 : decode cX1_cracks 19 = .ok (.getfield 65, 3) := dk_180 0 65 (dk_at dksX1_cracks_0 19 rfl rfl)
theorem dX1_cracks_22 : decode cX1_cracks 22 = .ok (.iadd, 1) := dk_96 (dk_at dksX1_cracks_0 22 rfl rfl)
theorem dX1_cracks_23 : decode cX1_cracks 23 = .ok (.istore_n 1, 1) := dk_60 (dk_at dksX1_cracks_0 23 rfl rfl)
theorem dX1_cracks_24 : decode cX1_cracks 24 = .ok (.iinc 2 1, 3) := dk_132 2 1 (dk_at dksX1_cracks_1 0 rfl rfl)
theorem dX1_cracks_27 : decode cX1_cracks 27 = .ok (.goto (-23), 3) := dk_167 255 233 (dk_at dksX1_cracks_1 3 rfl rfl)
theorem dX1_cracks_30 : decode cX1_cracks 30 = .ok (.iload_n 1, 1) := dk_27 (dk_at dksX1_cracks_1 6 rfl rfl)
theorem dX1_cracks_31 : decode cX1_cracks 31 = .ok (.ireturn, 1) := dk_172 (dk_at dksX1_cracks_1 7 rfl rfl)
abbrev cX1_copyOf : ByteArray := prog_13_method_2_code
def yX1_copyOf : MethodName := ⟨RX1, "copyOf", "(LLeaningStreet$State;)V"⟩
def dkwX1_copyOf_6 : List UInt8 := [184, 0, 54, 177]
abbrev dktX1_copyOf_6 : List UInt8 := dkwX1_copyOf_6 ++ []
def dkwX1_copyOf_5 : List UInt8 := [181, 0, 48, 42, 43, 180, 0, 51, 181, 0, 51, 43, 180, 0, 23, 3, 42, 180, 0, 23, 3, 16, 14]
abbrev dktX1_copyOf_5 : List UInt8 := dkwX1_copyOf_5 ++ dktX1_copyOf_6
def dkwX1_copyOf_4 : List UInt8 := [167, 255, 185, 42, 43, 180, 0, 42, 181, 0, 42, 42, 43, 180, 0, 45, 181, 0, 45, 42, 43, 180, 0, 48]
abbrev dktX1_copyOf_4 : List UInt8 := dkwX1_copyOf_4 ++ dktX1_copyOf_5
def dkwX1_copyOf_3 : List UInt8 := [182, 0, 34, 83, 42, 180, 0, 17, 28, 50, 43, 180, 0, 17, 28, 50, 182, 0, 38, 132, 2, 1]
abbrev dktX1_copyOf_3 : List UInt8 := dkwX1_copyOf_3 ++ dktX1_copyOf_4
def dkwX1_copyOf_2 : List UInt8 := [180, 0, 17, 28, 50, 182, 0, 30, 159, 0, 18, 42, 180, 0, 17, 28, 43, 180, 0, 17, 28, 50]
abbrev dktX1_copyOf_2 : List UInt8 := dkwX1_copyOf_2 ++ dktX1_copyOf_3
def dkwX1_copyOf_1 : List UInt8 := [162, 0, 69, 42, 180, 0, 17, 28, 50, 198, 0, 24, 42, 180, 0, 17, 28, 50, 182, 0, 30, 43]
abbrev dktX1_copyOf_1 : List UInt8 := dkwX1_copyOf_1 ++ dktX1_copyOf_2
def dkwX1_copyOf_0 : List UInt8 := [42, 43, 180, 0, 9, 181, 0, 9, 42, 43, 180, 0, 27, 181, 0, 27, 3, 61, 28, 42, 180, 0, 27]
abbrev dktX1_copyOf_0 : List UInt8 := dkwX1_copyOf_0 ++ dktX1_copyOf_1
theorem dksX1_copyOf_0 : cX1_copyOf.data.toList.drop 0 = dktX1_copyOf_0 := by decide +kernel
theorem dksX1_copyOf_1 : cX1_copyOf.data.toList.drop 23 = dktX1_copyOf_1 := dk_seg dksX1_copyOf_0 23 rfl rfl
theorem dksX1_copyOf_2 : cX1_copyOf.data.toList.drop 45 = dktX1_copyOf_2 := dk_seg dksX1_copyOf_1 22 rfl rfl
theorem dksX1_copyOf_3 : cX1_copyOf.data.toList.drop 67 = dktX1_copyOf_3 := dk_seg dksX1_copyOf_2 22 rfl rfl
theorem dksX1_copyOf_4 : cX1_copyOf.data.toList.drop 89 = dktX1_copyOf_4 := dk_seg dksX1_copyOf_3 22 rfl rfl
theorem dksX1_copyOf_5 : cX1_copyOf.data.toList.drop 113 = dktX1_copyOf_5 := dk_seg dksX1_copyOf_4 24 rfl rfl
theorem dksX1_copyOf_6 : cX1_copyOf.data.toList.drop 136 = dktX1_copyOf_6 := dk_seg dksX1_copyOf_5 23 rfl rfl
theorem dX1_copyOf_0 : decode cX1_copyOf 0 = .ok (.aload_n 0, 1) := dk_42 (dk_at dksX1_copyOf_0 0 rfl rfl)
theorem dX1_copyOf_1 : decode cX1_copyOf 1 = .ok (.aload_n 1, 1) := dk_43 (dk_at dksX1_copyOf_0 1 rfl rfl)
theorem dX1_copyOf_2 : decode cX1_copyOf 2 = .ok (.getfield 9, 3) := dk_180 0 9 (dk_at dksX1_copyOf_0 2 rfl rfl)
theorem dX1_copyOf_5 : decode cX1_copyOf 5 = .ok (.putfield 9, 3) := dk_181 0 9 (dk_at dksX1_copyOf_0 5 rfl rfl)
theorem dX1_copyOf_8 : decode cX1_copyOf 8 = .ok (.aload_n 0, 1) := dk_42 (dk_at dksX1_copyOf_0 8 rfl rfl)
theorem dX1_copyOf_9 : decode cX1_copyOf 9 = .ok (.aload_n 1, 1) := dk_43 (dk_at dksX1_copyOf_0 9 rfl rfl)
theorem dX1_copyOf_10 : decode cX1_copyOf 10 = .ok (.getfield 27, 3) := dk_180 0 27 (dk_at dksX1_copyOf_0 10 rfl rfl)
theorem dX1_copyOf_13 : decode cX1_copyOf 13 = .ok (.putfield 27, 3) := dk_181 0 27 (dk_at dksX1_copyOf_0 13 rfl rfl)
theorem dX1_copyOf_16 : decode cX1_copyOf 16 = .ok (.iconst 0, 1) := dk_3 (dk_at dksX1_copyOf_0 16 rfl rfl)
theorem dX1_copyOf_17 : decode cX1_copyOf 17 = .ok (.istore_n 2, 1) := dk_61 (dk_at dksX1_copyOf_0 17 rfl rfl)
theorem dX1_copyOf_18 : decode cX1_copyOf 18 = .ok (.iload_n 2, 1) := dk_28 (dk_at dksX1_copyOf_0 18 rfl rfl)
theorem dX1_copyOf_19 : decode cX1_copyOf 19 = .ok (.aload_n 0, 1) := dk_42 (dk_at dksX1_copyOf_0 19 rfl rfl)
theorem dX1_copyOf_20 : decode cX1_copyOf 20 = .ok (.getfield 27, 3) := dk_180 0 27 (dk_at dksX1_copyOf_0 20 rfl rfl)
theorem dX1_copyOf_23 : decode cX1_copyOf 23 = .ok (.if_icmp .ge 69, 3) := dk_162 0 69 (dk_at dksX1_copyOf_1 0 rfl rfl)
theorem dX1_copyOf_26 : decode cX1_copyOf 26 = .ok (.aload_n 0, 1) := dk_42 (dk_at dksX1_copyOf_1 3 rfl rfl)
theorem dX1_copyOf_27 : decode cX1_copyOf 27 = .ok (.getfield 17, 3) := dk_180 0 17 (dk_at dksX1_copyOf_1 4 rfl rfl)
theorem dX1_copyOf_30 : decode cX1_copyOf 30 = .ok (.iload_n 2, 1) := dk_28 (dk_at dksX1_copyOf_1 7 rfl rfl)
theorem dX1_copyOf_31 : decode cX1_copyOf 31 = .ok (.aaload, 1) := dk_50 (dk_at dksX1_copyOf_1 8 rfl rfl)
theorem dX1_copyOf_32 : decode cX1_copyOf 32 = .ok (.ifnull 24, 3) := dk_198 0 24 (dk_at dksX1_copyOf_1 9 rfl rfl)
theorem dX1_copyOf_35 : decode cX1_copyOf 35 = .ok (.aload_n 0, 1) := dk_42 (dk_at dksX1_copyOf_1 12 rfl rfl)
theorem dX1_copyOf_36 : decode cX1_copyOf 36 = .ok (.getfield 17, 3) := dk_180 0 17 (dk_at dksX1_copyOf_1 13 rfl rfl)
theorem dX1_copyOf_39 : decode cX1_copyOf 39 = .ok (.iload_n 2, 1) := dk_28 (dk_at dksX1_copyOf_1 16 rfl rfl)
theorem dX1_copyOf_40 : decode cX1_copyOf 40 = .ok (.aaload, 1) := dk_50 (dk_at dksX1_copyOf_1 17 rfl rfl)
theorem dX1_copyOf_41 : decode cX1_copyOf 41 = .ok (.invokevirtual 30, 3) := dk_182 0 30 (dk_at dksX1_copyOf_1 18 rfl rfl)
theorem dX1_copyOf_44 : decode cX1_copyOf 44 = .ok (.aload_n 1, 1) := dk_43 (dk_at dksX1_copyOf_1 21 rfl rfl)
theorem dX1_copyOf_45 : decode cX1_copyOf 45 = .ok (.getfield 17, 3) := dk_180 0 17 (dk_at dksX1_copyOf_2 0 rfl rfl)
theorem dX1_copyOf_48 : decode cX1_copyOf 48 = .ok (.iload_n 2, 1) := dk_28 (dk_at dksX1_copyOf_2 3 rfl rfl)
theorem dX1_copyOf_49 : decode cX1_copyOf 49 = .ok (.aaload, 1) := dk_50 (dk_at dksX1_copyOf_2 4 rfl rfl)
theorem dX1_copyOf_50 : decode cX1_copyOf 50 = .ok (.invokevirtual 30, 3) := dk_182 0 30 (dk_at dksX1_copyOf_2 5 rfl rfl)
theorem dX1_copyOf_53 : decode cX1_copyOf 53 = .ok (.if_icmp .eq 18, 3) := dk_159 0 18 (dk_at dksX1_copyOf_2 8 rfl rfl)
theorem dX1_copyOf_56 : decode cX1_copyOf 56 = .ok (.aload_n 0, 1) := dk_42 (dk_at dksX1_copyOf_2 11 rfl rfl)
theorem dX1_copyOf_57 : decode cX1_copyOf 57 = .ok (.getfield 17, 3) := dk_180 0 17 (dk_at dksX1_copyOf_2 12 rfl rfl)
theorem dX1_copyOf_60 : decode cX1_copyOf 60 = .ok (.iload_n 2, 1) := dk_28 (dk_at dksX1_copyOf_2 15 rfl rfl)
theorem dX1_copyOf_61 : decode cX1_copyOf 61 = .ok (.aload_n 1, 1) := dk_43 (dk_at dksX1_copyOf_2 16 rfl rfl)
theorem dX1_copyOf_62 : decode cX1_copyOf 62 = .ok (.getfield 17, 3) := dk_180 0 17 (dk_at dksX1_copyOf_2 17 rfl rfl)
theorem dX1_copyOf_65 : decode cX1_copyOf 65 = .ok (.iload_n 2, 1) := dk_28 (dk_at dksX1_copyOf_2 20 rfl rfl)
theorem dX1_copyOf_66 : decode cX1_copyOf 66 = .ok (.aaload, 1) := dk_50 (dk_at dksX1_copyOf_2 21 rfl rfl)
theorem dX1_copyOf_67 : decode cX1_copyOf 67 = .ok (.invokevirtual 34, 3) := dk_182 0 34 (dk_at dksX1_copyOf_3 0 rfl rfl)
theorem dX1_copyOf_70 : decode cX1_copyOf 70 = .ok (.aastore, 1) := dk_83 (dk_at dksX1_copyOf_3 3 rfl rfl)
theorem dX1_copyOf_71 : decode cX1_copyOf 71 = .ok (.aload_n 0, 1) := dk_42 (dk_at dksX1_copyOf_3 4 rfl rfl)
theorem dX1_copyOf_72 : decode cX1_copyOf 72 = .ok (.getfield 17, 3) := dk_180 0 17 (dk_at dksX1_copyOf_3 5 rfl rfl)
theorem dX1_copyOf_75 : decode cX1_copyOf 75 = .ok (.iload_n 2, 1) := dk_28 (dk_at dksX1_copyOf_3 8 rfl rfl)
theorem dX1_copyOf_76 : decode cX1_copyOf 76 = .ok (.aaload, 1) := dk_50 (dk_at dksX1_copyOf_3 9 rfl rfl)
theorem dX1_copyOf_77 : decode cX1_copyOf 77 = .ok (.aload_n 1, 1) := dk_43 (dk_at dksX1_copyOf_3 10 rfl rfl)
theorem dX1_copyOf_78 : decode cX1_copyOf 78 = .ok (.getfield 17, 3) := dk_180 0 17 (dk_at dksX1_copyOf_3 11 rfl rfl)
theorem dX1_copyOf_81 : decode cX1_copyOf 81 = .ok (.iload_n 2, 1) := dk_28 (dk_at dksX1_copyOf_3 14 rfl rfl)
theorem dX1_copyOf_82 : decode cX1_copyOf 82 = .ok (.aaload, 1) := dk_50 (dk_at dksX1_copyOf_3 15 rfl rfl)
theorem dX1_copyOf_83 : decode cX1_copyOf 83 = .ok (.invokevirtual 38, 3) := dk_182 0 38 (dk_at dksX1_copyOf_3 16 rfl rfl)
theorem dX1_copyOf_86 : decode cX1_copyOf 86 = .ok (.iinc 2 1, 3) := dk_132 2 1 (dk_at dksX1_copyOf_3 19 rfl rfl)
theorem dX1_copyOf_89 : decode cX1_copyOf 89 = .ok (.goto (-71), 3) := dk_167 255 185 (dk_at dksX1_copyOf_4 0 rfl rfl)
theorem dX1_copyOf_92 : decode cX1_copyOf 92 = .ok (.aload_n 0, 1) := dk_42 (dk_at dksX1_copyOf_4 3 rfl rfl)
theorem dX1_copyOf_93 : decode cX1_copyOf 93 = .ok (.aload_n 1, 1) := dk_43 (dk_at dksX1_copyOf_4 4 rfl rfl)
theorem dX1_copyOf_94 : decode cX1_copyOf 94 = .ok (.getfield 42, 3) := dk_180 0 42 (dk_at dksX1_copyOf_4 5 rfl rfl)
theorem dX1_copyOf_97 : decode cX1_copyOf 97 = .ok (.putfield 42, 3) := dk_181 0 42 (dk_at dksX1_copyOf_4 8 rfl rfl)
theorem dX1_copyOf_100 : decode cX1_copyOf 100 = .ok (.aload_n 0, 1) := dk_42 (dk_at dksX1_copyOf_4 11 rfl rfl)
theorem dX1_copyOf_101 : decode cX1_copyOf 101 = .ok (.aload_n 1, 1) := dk_43 (dk_at dksX1_copyOf_4 12 rfl rfl)
theorem dX1_copyOf_102 : decode cX1_copyOf 102 = .ok (.getfield 45, 3) := dk_180 0 45 (dk_at dksX1_copyOf_4 13 rfl rfl)
theorem dX1_copyOf_105 : decode cX1_copyOf 105 = .ok (.putfield 45, 3) := dk_181 0 45 (dk_at dksX1_copyOf_4 16 rfl rfl)
theorem dX1_copyOf_108 : decode cX1_copyOf 108 = .ok (.aload_n 0, 1) := dk_42 (dk_at dksX1_copyOf_4 19 rfl rfl)
theorem dX1_copyOf_109 : decode cX1_copyOf 109 = .ok (.aload_n 1, 1) := dk_43 (dk_at dksX1_copyOf_4 20 rfl rfl)
theorem dX1_copyOf_110 : decode cX1_copyOf 110 = .ok (.getfield 48, 3) := dk_180 0 48 (dk_at dksX1_copyOf_4 21 rfl rfl)
theorem dX1_copyOf_113 : decode cX1_copyOf 113 = .ok (.putfield 48, 3) := dk_181 0 48 (dk_at dksX1_copyOf_5 0 rfl rfl)
theorem dX1_copyOf_116 : decode cX1_copyOf 116 = .ok (.aload_n 0, 1) := dk_42 (dk_at dksX1_copyOf_5 3 rfl rfl)
theorem dX1_copyOf_117 : decode cX1_copyOf 117 = .ok (.aload_n 1, 1) := dk_43 (dk_at dksX1_copyOf_5 4 rfl rfl)
theorem dX1_copyOf_118 : decode cX1_copyOf 118 = .ok (.getfield 51, 3) := dk_180 0 51 (dk_at dksX1_copyOf_5 5 rfl rfl)
theorem dX1_copyOf_121 : decode cX1_copyOf 121 = .ok (.putfield 51, 3) := dk_181 0 51 (dk_at dksX1_copyOf_5 8 rfl rfl)
theorem dX1_copyOf_124 : decode cX1_copyOf 124 = .ok (.aload_n 1, 1) := dk_43 (dk_at dksX1_copyOf_5 11 rfl rfl)
theorem dX1_copyOf_125 : decode cX1_copyOf 125 = .ok (.getfield 23, 3) := dk_180 0 23 (dk_at dksX1_copyOf_5 12 rfl rfl)
theorem dX1_copyOf_128 : decode cX1_copyOf 128 = .ok (.iconst 0, 1) := dk_3 (dk_at dksX1_copyOf_5 15 rfl rfl)
theorem dX1_copyOf_129 : decode cX1_copyOf 129 = .ok (.aload_n 0, 1) := dk_42 (dk_at dksX1_copyOf_5 16 rfl rfl)
theorem dX1_copyOf_130 : decode cX1_copyOf 130 = .ok (.getfield 23, 3) := dk_180 0 23 (dk_at dksX1_copyOf_5 17 rfl rfl)
theorem dX1_copyOf_133 : decode cX1_copyOf 133 = .ok (.iconst 0, 1) := dk_3 (dk_at dksX1_copyOf_5 20 rfl rfl)
theorem dX1_copyOf_134 : decode cX1_copyOf 134 = .ok (.bipush 14, 2) := dk_16 14 (dk_at dksX1_copyOf_5 21 rfl rfl)
theorem dX1_copyOf_136 : decode cX1_copyOf 136 = .ok (.invokestatic 54, 3) := dk_184 0 54 (dk_at dksX1_copyOf_6 0 rfl rfl)
theorem dX1_copyOf_139 : decode cX1_copyOf 139 = .ok (.return_, 1) := dk_177 (dk_at dksX1_copyOf_6 3 rfl rfl)
abbrev cJ0_init : ByteArray := prog_29_method_1_code
def yJ0_init : MethodName := ⟨RJ0, "<init>", "()V"⟩
def dkwJ0_init_1 : List UInt8 := [182, 0, 27, 87, 177]
abbrev dktJ0_init_1 : List UInt8 := dkwJ0_init_1 ++ []
def dkwJ0_init_0 : List UInt8 := [42, 183, 0, 1, 42, 42, 181, 0, 7, 42, 178, 0, 13, 181, 0, 17, 42, 178, 0, 20, 181, 0, 24, 42]
abbrev dktJ0_init_0 : List UInt8 := dkwJ0_init_0 ++ dktJ0_init_1
theorem dksJ0_init_0 : cJ0_init.data.toList.drop 0 = dktJ0_init_0 := by decide +kernel
theorem dksJ0_init_1 : cJ0_init.data.toList.drop 24 = dktJ0_init_1 := dk_seg dksJ0_init_0 24 rfl rfl
theorem dJ0_init_0 : decode cJ0_init 0 = .ok (.aload_n 0, 1) := dk_42 (dk_at dksJ0_init_0 0 rfl rfl)
theorem dJ0_init_1 : decode cJ0_init 1 = .ok (.invokespecial 1, 3) := dk_183 0 1 (dk_at dksJ0_init_0 1 rfl rfl)
theorem dJ0_init_4 : decode cJ0_init 4 = .ok (.aload_n 0, 1) := dk_42 (dk_at dksJ0_init_0 4 rfl rfl)
theorem dJ0_init_5 : decode cJ0_init 5 = .ok (.aload_n 0, 1) := dk_42 (dk_at dksJ0_init_0 5 rfl rfl)
theorem dJ0_init_6 : decode cJ0_init 6 = .ok (.putfield 7, 3) := dk_181 0 7 (dk_at dksJ0_init_0 6 rfl rfl)
theorem dJ0_init_9 : decode cJ0_init 9 = .ok (.aload_n 0, 1) := dk_42 (dk_at dksJ0_init_0 9 rfl rfl)
theorem dJ0_init_10 : decode cJ0_init 10 = .ok (.getstatic 13, 3) := dk_178 0 13 (dk_at dksJ0_init_0 10 rfl rfl)
theorem dJ0_init_13 : decode cJ0_init 13 = .ok (.putfield 17, 3) := dk_181 0 17 (dk_at dksJ0_init_0 13 rfl rfl)
theorem dJ0_init_16 : decode cJ0_init 16 = .ok (.aload_n 0, 1) := dk_42 (dk_at dksJ0_init_0 16 rfl rfl)
theorem dJ0_init_17 : decode cJ0_init 17 = .ok (.getstatic 20, 3) := dk_178 0 20 (dk_at dksJ0_init_0 17 rfl rfl)
theorem dJ0_init_20 : decode cJ0_init 20 = .ok (.putfield 24, 3) := dk_181 0 24 (dk_at dksJ0_init_0 20 rfl rfl)
theorem dJ0_init_23 : decode cJ0_init 23 = .ok (.aload_n 0, 1) := dk_42 (dk_at dksJ0_init_0 23 rfl rfl)
theorem dJ0_init_24 : decode cJ0_init 24 = .ok (.invokevirtual 27, 3) := dk_182 0 27 (dk_at dksJ0_init_1 0 rfl rfl)
theorem dJ0_init_27 : decode cJ0_init 27 = .ok (.pop, 1) := dk_87 (dk_at dksJ0_init_1 3 rfl rfl)
theorem dJ0_init_28 : decode cJ0_init 28 = .ok (.return_, 1) := dk_177 (dk_at dksJ0_init_1 4 rfl rfl)
abbrev cJ0_init_2 : ByteArray := prog_29_method_2_code
def yJ0_init_2 : MethodName := ⟨RJ0, "<init>", "(Ljava/lang/String;)V"⟩
def dkwJ0_init_2_1 : List UInt8 := [182, 0, 27, 87, 42, 43, 181, 0, 31, 177]
abbrev dktJ0_init_2_1 : List UInt8 := dkwJ0_init_2_1 ++ []
def dkwJ0_init_2_0 : List UInt8 := [42, 183, 0, 1, 42, 42, 181, 0, 7, 42, 178, 0, 13, 181, 0, 17, 42, 178, 0, 20, 181, 0, 24, 42]
abbrev dktJ0_init_2_0 : List UInt8 := dkwJ0_init_2_0 ++ dktJ0_init_2_1
theorem dksJ0_init_2_0 : cJ0_init_2.data.toList.drop 0 = dktJ0_init_2_0 := by decide +kernel
theorem dksJ0_init_2_1 : cJ0_init_2.data.toList.drop 24 = dktJ0_init_2_1 := dk_seg dksJ0_init_2_0 24 rfl rfl
theorem dJ0_init_2_0 : decode cJ0_init_2 0 = .ok (.aload_n 0, 1) := dk_42 (dk_at dksJ0_init_2_0 0 rfl rfl)
theorem dJ0_init_2_1 : decode cJ0_init_2 1 = .ok (.invokespecial 1, 3) := dk_183 0 1 (dk_at dksJ0_init_2_0 1 rfl rfl)
theorem dJ0_init_2_4 : decode cJ0_init_2 4 = .ok (.aload_n 0, 1) := dk_42 (dk_at dksJ0_init_2_0 4 rfl rfl)
theorem dJ0_init_2_5 : decode cJ0_init_2 5 = .ok (.aload_n 0, 1) := dk_42 (dk_at dksJ0_init_2_0 5 rfl rfl)
theorem dJ0_init_2_6 : decode cJ0_init_2 6 = .ok (.putfield 7, 3) := dk_181 0 7 (dk_at dksJ0_init_2_0 6 rfl rfl)
theorem dJ0_init_2_9 : decode cJ0_init_2 9 = .ok (.aload_n 0, 1) := dk_42 (dk_at dksJ0_init_2_0 9 rfl rfl)
theorem dJ0_init_2_10 : decode cJ0_init_2 10 = .ok (.getstatic 13, 3) := dk_178 0 13 (dk_at dksJ0_init_2_0 10 rfl rfl)
theorem dJ0_init_2_13 : decode cJ0_init_2 13 = .ok (.putfield 17, 3) := dk_181 0 17 (dk_at dksJ0_init_2_0 13 rfl rfl)
theorem dJ0_init_2_16 : decode cJ0_init_2 16 = .ok (.aload_n 0, 1) := dk_42 (dk_at dksJ0_init_2_0 16 rfl rfl)
theorem dJ0_init_2_17 : decode cJ0_init_2 17 = .ok (.getstatic 20, 3) := dk_178 0 20 (dk_at dksJ0_init_2_0 17 rfl rfl)
theorem dJ0_init_2_20 : decode cJ0_init_2 20 = .ok (.putfield 24, 3) := dk_181 0 24 (dk_at dksJ0_init_2_0 20 rfl rfl)
theorem dJ0_init_2_23 : decode cJ0_init_2 23 = .ok (.aload_n 0, 1) := dk_42 (dk_at dksJ0_init_2_0 23 rfl rfl)
theorem dJ0_init_2_24 : decode cJ0_init_2 24 = .ok (.invokevirtual 27, 3) := dk_182 0 27 (dk_at dksJ0_init_2_1 0 rfl rfl)
theorem dJ0_init_2_27 : decode cJ0_init_2 27 = .ok (.pop, 1) := dk_87 (dk_at dksJ0_init_2_1 3 rfl rfl)
theorem dJ0_init_2_28 : decode cJ0_init_2 28 = .ok (.aload_n 0, 1) := dk_42 (dk_at dksJ0_init_2_1 4 rfl rfl)
theorem dJ0_init_2_29 : decode cJ0_init_2 29 = .ok (.aload_n 1, 1) := dk_43 (dk_at dksJ0_init_2_1 5 rfl rfl)
theorem dJ0_init_2_30 : decode cJ0_init_2 30 = .ok (.putfield 31, 3) := dk_181 0 31 (dk_at dksJ0_init_2_1 6 rfl rfl)
theorem dJ0_init_2_33 : decode cJ0_init_2 33 = .ok (.return_, 1) := dk_177 (dk_at dksJ0_init_2_1 9 rfl rfl)
abbrev cJ1_init : ByteArray := prog_20_method_1_code
def yJ1_init : MethodName := ⟨RJ1, "<init>", "()V"⟩
theorem dJ1_init_0 : decode cJ1_init 0 = .ok (.aload_n 0, 1) := by decide +kernel
theorem dJ1_init_1 : decode cJ1_init 1 = .ok (.invokespecial 1, 3) := by decide +kernel
theorem dJ1_init_4 : decode cJ1_init 4 = .ok (.return_, 1) := by decide +kernel
abbrev cJ1_init_2 : ByteArray := prog_20_method_2_code
def yJ1_init_2 : MethodName := ⟨RJ1, "<init>", "(Ljava/lang/String;)V"⟩
def dkwJ1_init_2_0 : List UInt8 := [42, 43, 183, 0, 7, 177]
abbrev dktJ1_init_2_0 : List UInt8 := dkwJ1_init_2_0 ++ []
theorem dksJ1_init_2_0 : cJ1_init_2.data.toList.drop 0 = dktJ1_init_2_0 := by decide +kernel
theorem dJ1_init_2_0 : decode cJ1_init_2 0 = .ok (.aload_n 0, 1) := dk_42 (dk_at dksJ1_init_2_0 0 rfl rfl)
theorem dJ1_init_2_1 : decode cJ1_init_2 1 = .ok (.aload_n 1, 1) := dk_43 (dk_at dksJ1_init_2_0 1 rfl rfl)
theorem dJ1_init_2_2 : decode cJ1_init_2 2 = .ok (.invokespecial 7, 3) := dk_183 0 7 (dk_at dksJ1_init_2_0 2 rfl rfl)
theorem dJ1_init_2_5 : decode cJ1_init_2 5 = .ok (.return_, 1) := dk_177 (dk_at dksJ1_init_2_0 5 rfl rfl)
abbrev cJ2_init : ByteArray := prog_24_method_1_code
def yJ2_init : MethodName := ⟨RJ2, "<init>", "()V"⟩
theorem dJ2_init_0 : decode cJ2_init 0 = .ok (.aload_n 0, 1) := by decide +kernel
theorem dJ2_init_1 : decode cJ2_init 1 = .ok (.invokespecial 1, 3) := by decide +kernel
theorem dJ2_init_4 : decode cJ2_init 4 = .ok (.return_, 1) := by decide +kernel
abbrev cJ2_init_2 : ByteArray := prog_24_method_2_code
def yJ2_init_2 : MethodName := ⟨RJ2, "<init>", "(Ljava/lang/String;)V"⟩
def dkwJ2_init_2_0 : List UInt8 := [42, 43, 183, 0, 7, 177]
abbrev dktJ2_init_2_0 : List UInt8 := dkwJ2_init_2_0 ++ []
theorem dksJ2_init_2_0 : cJ2_init_2.data.toList.drop 0 = dktJ2_init_2_0 := by decide +kernel
theorem dJ2_init_2_0 : decode cJ2_init_2 0 = .ok (.aload_n 0, 1) := dk_42 (dk_at dksJ2_init_2_0 0 rfl rfl)
theorem dJ2_init_2_1 : decode cJ2_init_2 1 = .ok (.aload_n 1, 1) := dk_43 (dk_at dksJ2_init_2_0 1 rfl rfl)
theorem dJ2_init_2_2 : decode cJ2_init_2 2 = .ok (.invokespecial 7, 3) := dk_183 0 7 (dk_at dksJ2_init_2_0 2 rfl rfl)
theorem dJ2_init_2_5 : decode cJ2_init_2 5 = .ok (.return_, 1) := dk_177 (dk_at dksJ2_init_2_0 5 rfl rfl)
abbrev cX2_init : ByteArray := prog_6_method_1_code
def yX2_init : MethodName := ⟨RX2, "<init>", "()V"⟩
theorem dX2_init_0 : decode cX2_init 0 = .ok (.aload_n 0, 1) := by decide +kernel
theorem dX2_init_1 : decode cX2_init 1 = .ok (.invokespecial 1, 3) := by decide +kernel
theorem dX2_init_4 : decode cX2_init 4 = .ok (.return_, 1) := by decide +kernel
abbrev cX3_init : ByteArray := prog_11_method_1_code
def yX3_init : MethodName := ⟨RX3, "<init>", "()V"⟩
theorem dX3_init_0 : decode cX3_init 0 = .ok (.aload_n 0, 1) := by decide +kernel
theorem dX3_init_1 : decode cX3_init 1 = .ok (.invokespecial 1, 3) := by decide +kernel
theorem dX3_init_4 : decode cX3_init 4 = .ok (.return_, 1) := by decide +kernel
abbrev cX3_isThere : ByteArray := prog_11_method_2_code
def yX3_isThere : MethodName := ⟨RX3, "isThere", "()Z"⟩
def dkwX3_isThere_0 : List UInt8 := [42, 180, 0, 7, 198, 0, 7, 4, 167, 0, 4, 3, 172]
abbrev dktX3_isThere_0 : List UInt8 := dkwX3_isThere_0 ++ []
theorem dksX3_isThere_0 : cX3_isThere.data.toList.drop 0 = dktX3_isThere_0 := by decide +kernel
theorem dX3_isThere_0 : decode cX3_isThere 0 = .ok (.aload_n 0, 1) := dk_42 (dk_at dksX3_isThere_0 0 rfl rfl)
theorem dX3_isThere_1 : decode cX3_isThere 1 = .ok (.getfield 7, 3) := dk_180 0 7 (dk_at dksX3_isThere_0 1 rfl rfl)
theorem dX3_isThere_4 : decode cX3_isThere 4 = .ok (.ifnull 7, 3) := dk_198 0 7 (dk_at dksX3_isThere_0 4 rfl rfl)
theorem dX3_isThere_7 : decode cX3_isThere 7 = .ok (.iconst 1, 1) := dk_4 (dk_at dksX3_isThere_0 7 rfl rfl)
theorem dX3_isThere_8 : decode cX3_isThere 8 = .ok (.goto 4, 3) := dk_167 0 4 (dk_at dksX3_isThere_0 8 rfl rfl)
theorem dX3_isThere_11 : decode cX3_isThere 11 = .ok (.iconst 0, 1) := dk_3 (dk_at dksX3_isThere_0 11 rfl rfl)
theorem dX3_isThere_12 : decode cX3_isThere 12 = .ok (.ireturn, 1) := dk_172 (dk_at dksX3_isThere_0 12 rfl rfl)
abbrev cX3_size : ByteArray := prog_11_method_4_code
def yX3_size : MethodName := ⟨RX3, "size", "()I"⟩
def dkwX3_size_1 : List UInt8 := [192, 0, 19, 190, 172]
abbrev dktX3_size_1 : List UInt8 := dkwX3_size_1 ++ []
def dkwX3_size_0 : List UInt8 := [42, 182, 0, 15, 153, 0, 14, 42, 180, 0, 7, 192, 0, 13, 190, 167, 0, 11, 42, 180, 0, 7]
abbrev dktX3_size_0 : List UInt8 := dkwX3_size_0 ++ dktX3_size_1
theorem dksX3_size_0 : cX3_size.data.toList.drop 0 = dktX3_size_0 := by decide +kernel
theorem dksX3_size_1 : cX3_size.data.toList.drop 22 = dktX3_size_1 := dk_seg dksX3_size_0 22 rfl rfl
theorem dX3_size_0 : decode cX3_size 0 = .ok (.aload_n 0, 1) := dk_42 (dk_at dksX3_size_0 0 rfl rfl)
theorem dX3_size_1 : decode cX3_size 1 = .ok (.invokevirtual 15, 3) := dk_182 0 15 (dk_at dksX3_size_0 1 rfl rfl)
theorem dX3_size_4 : decode cX3_size 4 = .ok (.ifCond .eq 14, 3) := dk_153 0 14 (dk_at dksX3_size_0 4 rfl rfl)
theorem dX3_size_7 : decode cX3_size 7 = .ok (.aload_n 0, 1) := dk_42 (dk_at dksX3_size_0 7 rfl rfl)
theorem dX3_size_8 : decode cX3_size 8 = .ok (.getfield 7, 3) := dk_180 0 7 (dk_at dksX3_size_0 8 rfl rfl)
theorem dX3_size_11 : decode cX3_size 11 = .ok (.checkcast 13, 3) := dk_192 0 13 (dk_at dksX3_size_0 11 rfl rfl)
theorem dX3_size_14 : decode cX3_size 14 = .ok (.arraylength, 1) := dk_190 (dk_at dksX3_size_0 14 rfl rfl)
theorem dX3_size_15 : decode cX3_size 15 = .ok (.goto 11, 3) := dk_167 0 11 (dk_at dksX3_size_0 15 rfl rfl)
theorem dX3_size_18 : decode cX3_size 18 = .ok (.aload_n 0, 1) := dk_42 (dk_at dksX3_size_0 18 rfl rfl)
theorem dX3_size_19 : decode cX3_size 19 = .ok (.getfield 7, 3) := dk_180 0 7 (dk_at dksX3_size_0 19 rfl rfl)
theorem dX3_size_22 : decode cX3_size 22 = .ok (.checkcast 19, 3) := dk_192 0 19 (dk_at dksX3_size_1 0 rfl rfl)
theorem dX3_size_25 : decode cX3_size 25 = .ok (.arraylength, 1) := dk_190 (dk_at dksX3_size_1 3 rfl rfl)
theorem dX3_size_26 : decode cX3_size 26 = .ok (.ireturn, 1) := dk_172 (dk_at dksX3_size_1 4 rfl rfl)
abbrev cX3_isFloats : ByteArray := prog_11_method_3_code
def yX3_isFloats : MethodName := ⟨RX3, "isFloats", "()Z"⟩
def dkwX3_isFloats_0 : List UInt8 := [42, 180, 0, 7, 193, 0, 13, 172]
abbrev dktX3_isFloats_0 : List UInt8 := dkwX3_isFloats_0 ++ []
theorem dksX3_isFloats_0 : cX3_isFloats.data.toList.drop 0 = dktX3_isFloats_0 := by decide +kernel
theorem dX3_isFloats_0 : decode cX3_isFloats 0 = .ok (.aload_n 0, 1) := dk_42 (dk_at dksX3_isFloats_0 0 rfl rfl)
theorem dX3_isFloats_1 : decode cX3_isFloats 1 = .ok (.getfield 7, 3) := dk_180 0 7 (dk_at dksX3_isFloats_0 1 rfl rfl)
theorem dX3_isFloats_4 : decode cX3_isFloats 4 = .ok (.instanceof 13, 3) := dk_193 0 13 (dk_at dksX3_isFloats_0 4 rfl rfl)
theorem dX3_isFloats_7 : decode cX3_isFloats 7 = .ok (.ireturn, 1) := dk_172 (dk_at dksX3_isFloats_0 7 rfl rfl)
abbrev cX3_put : ByteArray := prog_11_method_7_code
def yX3_put : MethodName := ⟨RX3, "put", "(II)V"⟩
def dkwX3_put_1 : List UInt8 := [180, 0, 7, 192, 0, 19, 27, 28, 147, 86, 177]
abbrev dktX3_put_1 : List UInt8 := dkwX3_put_1 ++ []
def dkwX3_put_0 : List UInt8 := [42, 182, 0, 15, 153, 0, 17, 42, 180, 0, 7, 192, 0, 13, 27, 28, 134, 81, 167, 0, 14, 42]
abbrev dktX3_put_0 : List UInt8 := dkwX3_put_0 ++ dktX3_put_1
theorem dksX3_put_0 : cX3_put.data.toList.drop 0 = dktX3_put_0 := by decide +kernel
theorem dksX3_put_1 : cX3_put.data.toList.drop 22 = dktX3_put_1 := dk_seg dksX3_put_0 22 rfl rfl
theorem dX3_put_0 : decode cX3_put 0 = .ok (.aload_n 0, 1) := dk_42 (dk_at dksX3_put_0 0 rfl rfl)
theorem dX3_put_1 : decode cX3_put 1 = .ok (.invokevirtual 15, 3) := dk_182 0 15 (dk_at dksX3_put_0 1 rfl rfl)
theorem dX3_put_4 : decode cX3_put 4 = .ok (.ifCond .eq 17, 3) := dk_153 0 17 (dk_at dksX3_put_0 4 rfl rfl)
theorem dX3_put_7 : decode cX3_put 7 = .ok (.aload_n 0, 1) := dk_42 (dk_at dksX3_put_0 7 rfl rfl)
theorem dX3_put_8 : decode cX3_put 8 = .ok (.getfield 7, 3) := dk_180 0 7 (dk_at dksX3_put_0 8 rfl rfl)
theorem dX3_put_11 : decode cX3_put 11 = .ok (.checkcast 13, 3) := dk_192 0 13 (dk_at dksX3_put_0 11 rfl rfl)
theorem dX3_put_14 : decode cX3_put 14 = .ok (.iload_n 1, 1) := dk_27 (dk_at dksX3_put_0 14 rfl rfl)
theorem dX3_put_15 : decode cX3_put 15 = .ok (.iload_n 2, 1) := dk_28 (dk_at dksX3_put_0 15 rfl rfl)
theorem dX3_put_16 : decode cX3_put 16 = .ok (.i2f, 1) := dk_134 (dk_at dksX3_put_0 16 rfl rfl)
theorem dX3_put_17 : decode cX3_put 17 = .ok (.fastore, 1) := dk_81 (dk_at dksX3_put_0 17 rfl rfl)
theorem dX3_put_18 : decode cX3_put 18 = .ok (.goto 14, 3) := dk_167 0 14 (dk_at dksX3_put_0 18 rfl rfl)
theorem dX3_put_21 : decode cX3_put 21 = .ok (.aload_n 0, 1) := dk_42 (dk_at dksX3_put_0 21 rfl rfl)
theorem dX3_put_22 : decode cX3_put 22 = .ok (.getfield 7, 3) := dk_180 0 7 (dk_at dksX3_put_1 0 rfl rfl)
theorem dX3_put_25 : decode cX3_put 25 = .ok (.checkcast 19, 3) := dk_192 0 19 (dk_at dksX3_put_1 3 rfl rfl)
theorem dX3_put_28 : decode cX3_put 28 = .ok (.iload_n 1, 1) := dk_27 (dk_at dksX3_put_1 6 rfl rfl)
theorem dX3_put_29 : decode cX3_put 29 = .ok (.iload_n 2, 1) := dk_28 (dk_at dksX3_put_1 7 rfl rfl)
theorem dX3_put_30 : decode cX3_put 30 = .ok (.i2s, 1) := dk_147 (dk_at dksX3_put_1 8 rfl rfl)
theorem dX3_put_31 : decode cX3_put 31 = .ok (.sastore, 1) := dk_86 (dk_at dksX3_put_1 9 rfl rfl)
theorem dX3_put_32 : decode cX3_put 32 = .ok (.return_, 1) := dk_177 (dk_at dksX3_put_1 10 rfl rfl)
abbrev cX3_isNumber : ByteArray := prog_11_method_5_code
def yX3_isNumber : MethodName := ⟨RX3, "isNumber", "(I)Z"⟩
def dkwX3_isNumber_1 : List UInt8 := [48, 149, 154, 0, 7, 4, 167, 0, 4, 3, 172]
abbrev dktX3_isNumber_1 : List UInt8 := dkwX3_isNumber_1 ++ []
def dkwX3_isNumber_0 : List UInt8 := [42, 182, 0, 15, 153, 0, 25, 42, 180, 0, 7, 192, 0, 13, 27, 48, 42, 180, 0, 7, 192, 0, 13, 27]
abbrev dktX3_isNumber_0 : List UInt8 := dkwX3_isNumber_0 ++ dktX3_isNumber_1
theorem dksX3_isNumber_0 : cX3_isNumber.data.toList.drop 0 = dktX3_isNumber_0 := by decide +kernel
theorem dksX3_isNumber_1 : cX3_isNumber.data.toList.drop 24 = dktX3_isNumber_1 := dk_seg dksX3_isNumber_0 24 rfl rfl
theorem dX3_isNumber_0 : decode cX3_isNumber 0 = .ok (.aload_n 0, 1) := dk_42 (dk_at dksX3_isNumber_0 0 rfl rfl)
theorem dX3_isNumber_1 : decode cX3_isNumber 1 = .ok (.invokevirtual 15, 3) := dk_182 0 15 (dk_at dksX3_isNumber_0 1 rfl rfl)
theorem dX3_isNumber_4 : decode cX3_isNumber 4 = .ok (.ifCond .eq 25, 3) := dk_153 0 25 (dk_at dksX3_isNumber_0 4 rfl rfl)
theorem dX3_isNumber_7 : decode cX3_isNumber 7 = .ok (.aload_n 0, 1) := dk_42 (dk_at dksX3_isNumber_0 7 rfl rfl)
theorem dX3_isNumber_8 : decode cX3_isNumber 8 = .ok (.getfield 7, 3) := dk_180 0 7 (dk_at dksX3_isNumber_0 8 rfl rfl)
theorem dX3_isNumber_11 : decode cX3_isNumber 11 = .ok (.checkcast 13, 3) := dk_192 0 13 (dk_at dksX3_isNumber_0 11 rfl rfl)
theorem dX3_isNumber_14 : decode cX3_isNumber 14 = .ok (.iload_n 1, 1) := dk_27 (dk_at dksX3_isNumber_0 14 rfl rfl)
theorem dX3_isNumber_15 : decode cX3_isNumber 15 = .ok (.faload, 1) := dk_48 (dk_at dksX3_isNumber_0 15 rfl rfl)
theorem dX3_isNumber_16 : decode cX3_isNumber 16 = .ok (.aload_n 0, 1) := dk_42 (dk_at dksX3_isNumber_0 16 rfl rfl)
theorem dX3_isNumber_17 : decode cX3_isNumber 17 = .ok (.getfield 7, 3) := dk_180 0 7 (dk_at dksX3_isNumber_0 17 rfl rfl)
theorem dX3_isNumber_20 : decode cX3_isNumber 20 = .ok (.checkcast 13, 3) := dk_192 0 13 (dk_at dksX3_isNumber_0 20 rfl rfl)
theorem dX3_isNumber_23 : decode cX3_isNumber 23 = .ok (.iload_n 1, 1) := dk_27 (dk_at dksX3_isNumber_0 23 rfl rfl)
theorem dX3_isNumber_24 : decode cX3_isNumber 24 = .ok (.faload, 1) := dk_48 (dk_at dksX3_isNumber_1 0 rfl rfl)
theorem dX3_isNumber_25 : decode cX3_isNumber 25 = .ok (.fcmp .l, 1) := dk_149 (dk_at dksX3_isNumber_1 1 rfl rfl)
theorem dX3_isNumber_26 : decode cX3_isNumber 26 = .ok (.ifCond .ne 7, 3) := dk_154 0 7 (dk_at dksX3_isNumber_1 2 rfl rfl)
theorem dX3_isNumber_29 : decode cX3_isNumber 29 = .ok (.iconst 1, 1) := dk_4 (dk_at dksX3_isNumber_1 5 rfl rfl)
theorem dX3_isNumber_30 : decode cX3_isNumber 30 = .ok (.goto 4, 3) := dk_167 0 4 (dk_at dksX3_isNumber_1 6 rfl rfl)
theorem dX3_isNumber_33 : decode cX3_isNumber 33 = .ok (.iconst 0, 1) := dk_3 (dk_at dksX3_isNumber_1 9 rfl rfl)
theorem dX3_isNumber_34 : decode cX3_isNumber 34 = .ok (.ireturn, 1) := dk_172 (dk_at dksX3_isNumber_1 10 rfl rfl)
abbrev cX3_at : ByteArray := prog_11_method_6_code
def yX3_at : MethodName := ⟨RX3, "at", "(I)I"⟩
def dkwX3_at_1 : List UInt8 := [192, 0, 19, 27, 53, 172]
abbrev dktX3_at_1 : List UInt8 := dkwX3_at_1 ++ []
def dkwX3_at_0 : List UInt8 := [42, 182, 0, 15, 153, 0, 16, 42, 180, 0, 7, 192, 0, 13, 27, 48, 139, 167, 0, 12, 42, 180, 0, 7]
abbrev dktX3_at_0 : List UInt8 := dkwX3_at_0 ++ dktX3_at_1
theorem dksX3_at_0 : cX3_at.data.toList.drop 0 = dktX3_at_0 := by decide +kernel
theorem dksX3_at_1 : cX3_at.data.toList.drop 24 = dktX3_at_1 := dk_seg dksX3_at_0 24 rfl rfl
theorem dX3_at_0 : decode cX3_at 0 = .ok (.aload_n 0, 1) := dk_42 (dk_at dksX3_at_0 0 rfl rfl)
theorem dX3_at_1 : decode cX3_at 1 = .ok (.invokevirtual 15, 3) := dk_182 0 15 (dk_at dksX3_at_0 1 rfl rfl)
theorem dX3_at_4 : decode cX3_at 4 = .ok (.ifCond .eq 16, 3) := dk_153 0 16 (dk_at dksX3_at_0 4 rfl rfl)
theorem dX3_at_7 : decode cX3_at 7 = .ok (.aload_n 0, 1) := dk_42 (dk_at dksX3_at_0 7 rfl rfl)
theorem dX3_at_8 : decode cX3_at 8 = .ok (.getfield 7, 3) := dk_180 0 7 (dk_at dksX3_at_0 8 rfl rfl)
theorem dX3_at_11 : decode cX3_at 11 = .ok (.checkcast 13, 3) := dk_192 0 13 (dk_at dksX3_at_0 11 rfl rfl)
theorem dX3_at_14 : decode cX3_at 14 = .ok (.iload_n 1, 1) := dk_27 (dk_at dksX3_at_0 14 rfl rfl)
theorem dX3_at_15 : decode cX3_at 15 = .ok (.faload, 1) := dk_48 (dk_at dksX3_at_0 15 rfl rfl)
theorem dX3_at_16 : decode cX3_at 16 = .ok (.f2i, 1) := dk_139 (dk_at dksX3_at_0 16 rfl rfl)
theorem dX3_at_17 : decode cX3_at 17 = .ok (.goto 12, 3) := dk_167 0 12 (dk_at dksX3_at_0 17 rfl rfl)
theorem dX3_at_20 : decode cX3_at 20 = .ok (.aload_n 0, 1) := dk_42 (dk_at dksX3_at_0 20 rfl rfl)
theorem dX3_at_21 : decode cX3_at 21 = .ok (.getfield 7, 3) := dk_180 0 7 (dk_at dksX3_at_0 21 rfl rfl)
theorem dX3_at_24 : decode cX3_at 24 = .ok (.checkcast 19, 3) := dk_192 0 19 (dk_at dksX3_at_1 0 rfl rfl)
theorem dX3_at_27 : decode cX3_at 27 = .ok (.iload_n 1, 1) := dk_27 (dk_at dksX3_at_1 3 rfl rfl)
theorem dX3_at_28 : decode cX3_at 28 = .ok (.saload, 1) := dk_53 (dk_at dksX3_at_1 4 rfl rfl)
theorem dX3_at_29 : decode cX3_at 29 = .ok (.ireturn, 1) := dk_172 (dk_at dksX3_at_1 5 rfl rfl)
abbrev cX4_init : ByteArray := prog_12_method_1_code
def yX4_init : MethodName := ⟨RX4, "<init>", "()V"⟩
theorem dX4_init_0 : decode cX4_init 0 = .ok (.aload_n 0, 1) := by decide +kernel
theorem dX4_init_1 : decode cX4_init 1 = .ok (.invokespecial 1, 3) := by decide +kernel
theorem dX4_init_4 : decode cX4_init 4 = .ok (.return_, 1) := by decide +kernel
abbrev cX4_thing : ByteArray := prog_12_method_2_code
def yX4_thing : MethodName := ⟨RX4, "thing", "()I"⟩
def dkwX4_thing_1 : List UInt8 := [167, 0, 18, 42, 180, 0, 7, 193, 0, 15, 153, 0, 7, 5, 167, 0, 4, 6, 172]
abbrev dktX4_thing_1 : List UInt8 := dkwX4_thing_1 ++ []
def dkwX4_thing_0 : List UInt8 := [42, 180, 0, 7, 199, 0, 7, 3, 167, 0, 32, 42, 180, 0, 7, 193, 0, 13, 153, 0, 7, 4]
abbrev dktX4_thing_0 : List UInt8 := dkwX4_thing_0 ++ dktX4_thing_1
theorem dksX4_thing_0 : cX4_thing.data.toList.drop 0 = dktX4_thing_0 := by decide +kernel
theorem dksX4_thing_1 : cX4_thing.data.toList.drop 22 = dktX4_thing_1 := dk_seg dksX4_thing_0 22 rfl rfl
theorem dX4_thing_0 : decode cX4_thing 0 = .ok (.aload_n 0, 1) := dk_42 (dk_at dksX4_thing_0 0 rfl rfl)
theorem dX4_thing_1 : decode cX4_thing 1 = .ok (.getfield 7, 3) := dk_180 0 7 (dk_at dksX4_thing_0 1 rfl rfl)
theorem dX4_thing_4 : decode cX4_thing 4 = .ok (.ifnonnull 7, 3) := dk_199 0 7 (dk_at dksX4_thing_0 4 rfl rfl)
theorem dX4_thing_7 : decode cX4_thing 7 = .ok (.iconst 0, 1) := dk_3 (dk_at dksX4_thing_0 7 rfl rfl)
theorem dX4_thing_8 : decode cX4_thing 8 = .ok (.goto 32, 3) := dk_167 0 32 (dk_at dksX4_thing_0 8 rfl rfl)
theorem dX4_thing_11 : decode cX4_thing 11 = .ok (.aload_n 0, 1) := dk_42 (dk_at dksX4_thing_0 11 rfl rfl)
theorem dX4_thing_12 : decode cX4_thing 12 = .ok (.getfield 7, 3) := dk_180 0 7 (dk_at dksX4_thing_0 12 rfl rfl)
theorem dX4_thing_15 : decode cX4_thing 15 = .ok (.instanceof 13, 3) := dk_193 0 13 (dk_at dksX4_thing_0 15 rfl rfl)
theorem dX4_thing_18 : decode cX4_thing 18 = .ok (.ifCond .eq 7, 3) := dk_153 0 7 (dk_at dksX4_thing_0 18 rfl rfl)
theorem dX4_thing_21 : decode cX4_thing 21 = .ok (.iconst 1, 1) := dk_4 (dk_at dksX4_thing_0 21 rfl rfl)
theorem dX4_thing_22 : decode cX4_thing 22 = .ok (.goto 18, 3) := dk_167 0 18 (dk_at dksX4_thing_1 0 rfl rfl)
theorem dX4_thing_25 : decode cX4_thing 25 = .ok (.aload_n 0, 1) := dk_42 (dk_at dksX4_thing_1 3 rfl rfl)
theorem dX4_thing_26 : decode cX4_thing 26 = .ok (.getfield 7, 3) := dk_180 0 7 (dk_at dksX4_thing_1 4 rfl rfl)
theorem dX4_thing_29 : decode cX4_thing 29 = .ok (.instanceof 15, 3) := dk_193 0 15 (dk_at dksX4_thing_1 7 rfl rfl)
theorem dX4_thing_32 : decode cX4_thing 32 = .ok (.ifCond .eq 7, 3) := dk_153 0 7 (dk_at dksX4_thing_1 10 rfl rfl)
theorem dX4_thing_35 : decode cX4_thing 35 = .ok (.iconst 2, 1) := dk_5 (dk_at dksX4_thing_1 13 rfl rfl)
theorem dX4_thing_36 : decode cX4_thing 36 = .ok (.goto 4, 3) := dk_167 0 4 (dk_at dksX4_thing_1 14 rfl rfl)
theorem dX4_thing_39 : decode cX4_thing 39 = .ok (.iconst 3, 1) := dk_6 (dk_at dksX4_thing_1 17 rfl rfl)
theorem dX4_thing_40 : decode cX4_thing 40 = .ok (.ireturn, 1) := dk_172 (dk_at dksX4_thing_1 18 rfl rfl)
abbrev cX6_init : ByteArray := prog_9_method_1_code
def yX6_init : MethodName := ⟨RX6, "<init>", "()V"⟩
def dkwX6_init_0 : List UInt8 := [42, 183, 0, 1, 42, 4, 181, 0, 7, 177]
abbrev dktX6_init_0 : List UInt8 := dkwX6_init_0 ++ []
theorem dksX6_init_0 : cX6_init.data.toList.drop 0 = dktX6_init_0 := by decide +kernel
theorem dX6_init_0 : decode cX6_init 0 = .ok (.aload_n 0, 1) := dk_42 (dk_at dksX6_init_0 0 rfl rfl)
theorem dX6_init_1 : decode cX6_init 1 = .ok (.invokespecial 1, 3) := dk_183 0 1 (dk_at dksX6_init_0 1 rfl rfl)
theorem dX6_init_4 : decode cX6_init 4 = .ok (.aload_n 0, 1) := dk_42 (dk_at dksX6_init_0 4 rfl rfl)
theorem dX6_init_5 : decode cX6_init 5 = .ok (.iconst 1, 1) := dk_4 (dk_at dksX6_init_0 5 rfl rfl)
theorem dX6_init_6 : decode cX6_init 6 = .ok (.putfield 7, 3) := dk_181 0 7 (dk_at dksX6_init_0 6 rfl rfl)
theorem dX6_init_9 : decode cX6_init 9 = .ok (.return_, 1) := dk_177 (dk_at dksX6_init_0 9 rfl rfl)
abbrev cX6_kind : ByteArray := prog_9_method_2_code
def yX6_kind : MethodName := ⟨RX6, "kind", "()I"⟩
theorem dX6_kind_0 : decode cX6_kind 0 = .ok (.iconst 0, 1) := by decide +kernel
theorem dX6_kind_1 : decode cX6_kind 1 = .ok (.ireturn, 1) := by decide +kernel
abbrev cX6_bears : ByteArray := prog_9_method_3_code
def yX6_bears : MethodName := ⟨RX6, "bears", "()I"⟩
def dkwX6_bears_0 : List UInt8 := [42, 180, 0, 13, 16, 10, 42, 180, 0, 17, 104, 96, 172]
abbrev dktX6_bears_0 : List UInt8 := dkwX6_bears_0 ++ []
theorem dksX6_bears_0 : cX6_bears.data.toList.drop 0 = dktX6_bears_0 := by decide +kernel
theorem dX6_bears_0 : decode cX6_bears 0 = .ok (.aload_n 0, 1) := dk_42 (dk_at dksX6_bears_0 0 rfl rfl)
theorem dX6_bears_1 : decode cX6_bears 1 = .ok (.getfield 13, 3) := dk_180 0 13 (dk_at dksX6_bears_0 1 rfl rfl)
theorem dX6_bears_4 : decode cX6_bears 4 = .ok (.bipush 10, 2) := dk_16 10 (dk_at dksX6_bears_0 4 rfl rfl)
theorem dX6_bears_6 : decode cX6_bears 6 = .ok (.aload_n 0, 1) := dk_42 (dk_at dksX6_bears_0 6 rfl rfl)
theorem dX6_bears_7 : decode cX6_bears 7 = .ok (.getfield 17, 3) := dk_180 0 17 (dk_at dksX6_bears_0 7 rfl rfl)
theorem dX6_bears_10 : decode cX6_bears 10 = .ok (.imul, 1) := dk_104 (dk_at dksX6_bears_0 10 rfl rfl)
theorem dX6_bears_11 : decode cX6_bears 11 = .ok (.iadd, 1) := dk_96 (dk_at dksX6_bears_0 11 rfl rfl)
theorem dX6_bears_12 : decode cX6_bears 12 = .ok (.ireturn, 1) := dk_172 (dk_at dksX6_bears_0 12 rfl rfl)
abbrev cX6_worth : ByteArray := prog_9_method_4_code
def yX6_worth : MethodName := ⟨RX6, "worth", "()I"⟩
theorem dX6_worth_0 : decode cX6_worth 0 = .ok (.aload_n 0, 1) := by decide +kernel
theorem dX6_worth_1 : decode cX6_worth 1 = .ok (.getfield 13, 3) := by decide +kernel
theorem dX6_worth_4 : decode cX6_worth 4 = .ok (.ireturn, 1) := by decide +kernel
abbrev cX6_takes : ByteArray := prog_9_method_6_code
def yX6_takes : MethodName := ⟨RX6, "takes", "(LLeaningStreet$House;)V"⟩
def dkwX6_takes_2 : List UInt8 := [177]
abbrev dktX6_takes_2 : List UInt8 := dkwX6_takes_2 ++ []
def dkwX6_takes_1 : List UInt8 := [42, 43, 180, 0, 27, 181, 0, 27, 42, 43, 180, 0, 17, 181, 0, 17, 42, 43, 180, 0, 7, 181, 0, 7]
abbrev dktX6_takes_1 : List UInt8 := dkwX6_takes_1 ++ dktX6_takes_2
def dkwX6_takes_0 : List UInt8 := [42, 43, 180, 0, 21, 181, 0, 21, 42, 43, 180, 0, 24, 181, 0, 24, 42, 43, 180, 0, 13, 181, 0, 13]
abbrev dktX6_takes_0 : List UInt8 := dkwX6_takes_0 ++ dktX6_takes_1
theorem dksX6_takes_0 : cX6_takes.data.toList.drop 0 = dktX6_takes_0 := by decide +kernel
theorem dksX6_takes_1 : cX6_takes.data.toList.drop 24 = dktX6_takes_1 := dk_seg dksX6_takes_0 24 rfl rfl
theorem dksX6_takes_2 : cX6_takes.data.toList.drop 48 = dktX6_takes_2 := dk_seg dksX6_takes_1 24 rfl rfl
theorem dX6_takes_0 : decode cX6_takes 0 = .ok (.aload_n 0, 1) := dk_42 (dk_at dksX6_takes_0 0 rfl rfl)
theorem dX6_takes_1 : decode cX6_takes 1 = .ok (.aload_n 1, 1) := dk_43 (dk_at dksX6_takes_0 1 rfl rfl)
theorem dX6_takes_2 : decode cX6_takes 2 = .ok (.getfield 21, 3) := dk_180 0 21 (dk_at dksX6_takes_0 2 rfl rfl)
theorem dX6_takes_5 : decode cX6_takes 5 = .ok (.putfield 21, 3) := dk_181 0 21 (dk_at dksX6_takes_0 5 rfl rfl)
theorem dX6_takes_8 : decode cX6_takes 8 = .ok (.aload_n 0, 1) := dk_42 (dk_at dksX6_takes_0 8 rfl rfl)
theorem dX6_takes_9 : decode cX6_takes 9 = .ok (.aload_n 1, 1) := dk_43 (dk_at dksX6_takes_0 9 rfl rfl)
theorem dX6_takes_10 : decode cX6_takes 10 = .ok (.getfield 24, 3) := dk_180 0 24 (dk_at dksX6_takes_0 10 rfl rfl)
theorem dX6_takes_13 : decode cX6_takes 13 = .ok (.putfield 24, 3) := dk_181 0 24 (dk_at dksX6_takes_0 13 rfl rfl)
theorem dX6_takes_16 : decode cX6_takes 16 = .ok (.aload_n 0, 1) := dk_42 (dk_at dksX6_takes_0 16 rfl rfl)
theorem dX6_takes_17 : decode cX6_takes 17 = .ok (.aload_n 1, 1) := dk_43 (dk_at dksX6_takes_0 17 rfl rfl)
theorem dX6_takes_18 : decode cX6_takes 18 = .ok (.getfield 13, 3) := dk_180 0 13 (dk_at dksX6_takes_0 18 rfl rfl)
theorem dX6_takes_21 : decode cX6_takes 21 = .ok (.putfield 13, 3) := dk_181 0 13 (dk_at dksX6_takes_0 21 rfl rfl)
theorem dX6_takes_24 : decode cX6_takes 24 = .ok (.aload_n 0, 1) := dk_42 (dk_at dksX6_takes_1 0 rfl rfl)
theorem dX6_takes_25 : decode cX6_takes 25 = .ok (.aload_n 1, 1) := dk_43 (dk_at dksX6_takes_1 1 rfl rfl)
theorem dX6_takes_26 : decode cX6_takes 26 = .ok (.getfield 27, 3) := dk_180 0 27 (dk_at dksX6_takes_1 2 rfl rfl)
theorem dX6_takes_29 : decode cX6_takes 29 = .ok (.putfield 27, 3) := dk_181 0 27 (dk_at dksX6_takes_1 5 rfl rfl)
theorem dX6_takes_32 : decode cX6_takes 32 = .ok (.aload_n 0, 1) := dk_42 (dk_at dksX6_takes_1 8 rfl rfl)
theorem dX6_takes_33 : decode cX6_takes 33 = .ok (.aload_n 1, 1) := dk_43 (dk_at dksX6_takes_1 9 rfl rfl)
theorem dX6_takes_34 : decode cX6_takes 34 = .ok (.getfield 17, 3) := dk_180 0 17 (dk_at dksX6_takes_1 10 rfl rfl)
theorem dX6_takes_37 : decode cX6_takes 37 = .ok (.putfield 17, 3) := dk_181 0 17 (dk_at dksX6_takes_1 13 rfl rfl)
theorem dX6_takes_40 : decode cX6_takes 40 = .ok (.aload_n 0, 1) := dk_42 (dk_at dksX6_takes_1 16 rfl rfl)
theorem dX6_takes_41 : decode cX6_takes 41 = .ok (.aload_n 1, 1) := dk_43 (dk_at dksX6_takes_1 17 rfl rfl)
theorem dX6_takes_42 : decode cX6_takes 42 = .ok (.getfield 7, 3) := dk_180 0 7 (dk_at dksX6_takes_1 18 rfl rfl)
theorem dX6_takes_45 : decode cX6_takes 45 = .ok (.putfield 7, 3) := dk_181 0 7 (dk_at dksX6_takes_1 21 rfl rfl)
theorem dX6_takes_48 : decode cX6_takes 48 = .ok (.return_, 1) := dk_177 (dk_at dksX6_takes_2 0 rfl rfl)
abbrev cX6_falls : ByteArray := prog_9_method_8_code
def yX6_falls : MethodName := ⟨RX6, "falls", "()V"⟩
def dkwX6_falls_0 : List UInt8 := [42, 3, 181, 0, 7, 42, 3, 181, 0, 17, 177]
abbrev dktX6_falls_0 : List UInt8 := dkwX6_falls_0 ++ []
theorem dksX6_falls_0 : cX6_falls.data.toList.drop 0 = dktX6_falls_0 := by decide +kernel
theorem dX6_falls_0 : decode cX6_falls 0 = .ok (.aload_n 0, 1) := dk_42 (dk_at dksX6_falls_0 0 rfl rfl)
theorem dX6_falls_1 : decode cX6_falls 1 = .ok (.iconst 0, 1) := dk_3 (dk_at dksX6_falls_0 1 rfl rfl)
theorem dX6_falls_2 : decode cX6_falls 2 = .ok (.putfield 7, 3) := dk_181 0 7 (dk_at dksX6_falls_0 2 rfl rfl)
theorem dX6_falls_5 : decode cX6_falls 5 = .ok (.aload_n 0, 1) := dk_42 (dk_at dksX6_falls_0 5 rfl rfl)
theorem dX6_falls_6 : decode cX6_falls 6 = .ok (.iconst 0, 1) := dk_3 (dk_at dksX6_falls_0 6 rfl rfl)
theorem dX6_falls_7 : decode cX6_falls 7 = .ok (.putfield 17, 3) := dk_181 0 17 (dk_at dksX6_falls_0 7 rfl rfl)
theorem dX6_falls_10 : decode cX6_falls 10 = .ok (.return_, 1) := dk_177 (dk_at dksX6_falls_0 10 rfl rfl)
abbrev cX6_another : ByteArray := prog_9_method_5_code
def yX6_another : MethodName := ⟨RX6, "another", "()LLeaningStreet$House;"⟩
def dkwX6_another_0 : List UInt8 := [187, 0, 8, 89, 183, 0, 20, 176]
abbrev dktX6_another_0 : List UInt8 := dkwX6_another_0 ++ []
theorem dksX6_another_0 : cX6_another.data.toList.drop 0 = dktX6_another_0 := by decide +kernel
theorem dX6_another_0 : decode cX6_another 0 = .ok (.new 8, 3) := dk_187 0 8 (dk_at dksX6_another_0 0 rfl rfl)
theorem dX6_another_3 : decode cX6_another 3 = .ok (.dup, 1) := dk_89 (dk_at dksX6_another_0 3 rfl rfl)
theorem dX6_another_4 : decode cX6_another 4 = .ok (.invokespecial 20, 3) := dk_183 0 20 (dk_at dksX6_another_0 4 rfl rfl)
theorem dX6_another_7 : decode cX6_another 7 = .ok (.areturn, 1) := dk_176 (dk_at dksX6_another_0 7 rfl rfl)
abbrev cX6_copy : ByteArray := prog_9_method_7_code
def yX6_copy : MethodName := ⟨RX6, "copy", "()LLeaningStreet$House;"⟩
def dkwX6_copy_0 : List UInt8 := [42, 182, 0, 30, 76, 43, 42, 182, 0, 34, 43, 176]
abbrev dktX6_copy_0 : List UInt8 := dkwX6_copy_0 ++ []
theorem dksX6_copy_0 : cX6_copy.data.toList.drop 0 = dktX6_copy_0 := by decide +kernel
theorem dX6_copy_0 : decode cX6_copy 0 = .ok (.aload_n 0, 1) := dk_42 (dk_at dksX6_copy_0 0 rfl rfl)
theorem dX6_copy_1 : decode cX6_copy 1 = .ok (.invokevirtual 30, 3) := dk_182 0 30 (dk_at dksX6_copy_0 1 rfl rfl)
theorem dX6_copy_4 : decode cX6_copy 4 = .ok (.astore_n 1, 1) := dk_76 (dk_at dksX6_copy_0 4 rfl rfl)
theorem dX6_copy_5 : decode cX6_copy 5 = .ok (.aload_n 1, 1) := dk_43 (dk_at dksX6_copy_0 5 rfl rfl)
theorem dX6_copy_6 : decode cX6_copy 6 = .ok (.aload_n 0, 1) := dk_42 (dk_at dksX6_copy_0 6 rfl rfl)
theorem dX6_copy_7 : decode cX6_copy 7 = .ok (.invokevirtual 34, 3) := dk_182 0 34 (dk_at dksX6_copy_0 7 rfl rfl)
theorem dX6_copy_10 : decode cX6_copy 10 = .ok (.aload_n 1, 1) := dk_43 (dk_at dksX6_copy_0 10 rfl rfl)
theorem dX6_copy_11 : decode cX6_copy 11 = .ok (.areturn, 1) := dk_176 (dk_at dksX6_copy_0 11 rfl rfl)
abbrev cX7_init : ByteArray := prog_15_method_1_code
def yX7_init : MethodName := ⟨RX7, "<init>", "()V"⟩
theorem dX7_init_0 : decode cX7_init 0 = .ok (.aload_n 0, 1) := by decide +kernel
theorem dX7_init_1 : decode cX7_init 1 = .ok (.invokespecial 3, 3) := by decide +kernel
theorem dX7_init_4 : decode cX7_init 4 = .ok (.return_, 1) := by decide +kernel
abbrev cX7_kind : ByteArray := prog_15_method_2_code
def yX7_kind : MethodName := ⟨RX7, "kind", "()I"⟩
theorem dX7_kind_0 : decode cX7_kind 0 = .ok (.iconst 1, 1) := by decide +kernel
theorem dX7_kind_1 : decode cX7_kind 1 = .ok (.ireturn, 1) := by decide +kernel
abbrev cX7_pushes : ByteArray := prog_15_method_3_code
def yX7_pushes : MethodName := ⟨RX7, "pushes", "(I)I"⟩
def dkwX7_pushes_0 : List UInt8 := [42, 27, 183, 0, 9, 5, 108, 172]
abbrev dktX7_pushes_0 : List UInt8 := dkwX7_pushes_0 ++ []
theorem dksX7_pushes_0 : cX7_pushes.data.toList.drop 0 = dktX7_pushes_0 := by decide +kernel
theorem dX7_pushes_0 : decode cX7_pushes 0 = .ok (.aload_n 0, 1) := dk_42 (dk_at dksX7_pushes_0 0 rfl rfl)
theorem dX7_pushes_1 : decode cX7_pushes 1 = .ok (.iload_n 1, 1) := dk_27 (dk_at dksX7_pushes_0 1 rfl rfl)
theorem dX7_pushes_2 : decode cX7_pushes 2 = .ok (.invokespecial 9, 3) := dk_183 0 9 (dk_at dksX7_pushes_0 2 rfl rfl)
theorem dX7_pushes_5 : decode cX7_pushes 5 = .ok (.iconst 2, 1) := dk_5 (dk_at dksX7_pushes_0 5 rfl rfl)
theorem dX7_pushes_6 : decode cX7_pushes 6 = .ok (.idiv, 1) := dk_108 (dk_at dksX7_pushes_0 6 rfl rfl)
theorem dX7_pushes_7 : decode cX7_pushes 7 = .ok (.ireturn, 1) := dk_172 (dk_at dksX7_pushes_0 7 rfl rfl)
abbrev cX7_bears : ByteArray := prog_15_method_4_code
def yX7_bears : MethodName := ⟨RX7, "bears", "()I"⟩
def dkwX7_bears_0 : List UInt8 := [42, 183, 0, 13, 8, 96, 172]
abbrev dktX7_bears_0 : List UInt8 := dkwX7_bears_0 ++ []
theorem dksX7_bears_0 : cX7_bears.data.toList.drop 0 = dktX7_bears_0 := by decide +kernel
theorem dX7_bears_0 : decode cX7_bears 0 = .ok (.aload_n 0, 1) := dk_42 (dk_at dksX7_bears_0 0 rfl rfl)
theorem dX7_bears_1 : decode cX7_bears 1 = .ok (.invokespecial 13, 3) := dk_183 0 13 (dk_at dksX7_bears_0 1 rfl rfl)
theorem dX7_bears_4 : decode cX7_bears 4 = .ok (.iconst 5, 1) := dk_8 (dk_at dksX7_bears_0 4 rfl rfl)
theorem dX7_bears_5 : decode cX7_bears 5 = .ok (.iadd, 1) := dk_96 (dk_at dksX7_bears_0 5 rfl rfl)
theorem dX7_bears_6 : decode cX7_bears 6 = .ok (.ireturn, 1) := dk_172 (dk_at dksX7_bears_0 6 rfl rfl)
abbrev cX7_worth : ByteArray := prog_15_method_5_code
def yX7_worth : MethodName := ⟨RX7, "worth", "()I"⟩
def dkwX7_worth_0 : List UInt8 := [42, 183, 0, 17, 16, 7, 96, 172]
abbrev dktX7_worth_0 : List UInt8 := dkwX7_worth_0 ++ []
theorem dksX7_worth_0 : cX7_worth.data.toList.drop 0 = dktX7_worth_0 := by decide +kernel
theorem dX7_worth_0 : decode cX7_worth 0 = .ok (.aload_n 0, 1) := dk_42 (dk_at dksX7_worth_0 0 rfl rfl)
theorem dX7_worth_1 : decode cX7_worth 1 = .ok (.invokespecial 17, 3) := dk_183 0 17 (dk_at dksX7_worth_0 1 rfl rfl)
theorem dX7_worth_4 : decode cX7_worth 4 = .ok (.bipush 7, 2) := dk_16 7 (dk_at dksX7_worth_0 4 rfl rfl)
theorem dX7_worth_6 : decode cX7_worth 6 = .ok (.iadd, 1) := dk_96 (dk_at dksX7_worth_0 6 rfl rfl)
theorem dX7_worth_7 : decode cX7_worth 7 = .ok (.ireturn, 1) := dk_172 (dk_at dksX7_worth_0 7 rfl rfl)
abbrev cX7_another : ByteArray := prog_15_method_6_code
def yX7_another : MethodName := ⟨RX7, "another", "()LLeaningStreet$House;"⟩
def dkwX7_another_0 : List UInt8 := [187, 0, 20, 89, 183, 0, 22, 176]
abbrev dktX7_another_0 : List UInt8 := dkwX7_another_0 ++ []
theorem dksX7_another_0 : cX7_another.data.toList.drop 0 = dktX7_another_0 := by decide +kernel
theorem dX7_another_0 : decode cX7_another 0 = .ok (.new 20, 3) := dk_187 0 20 (dk_at dksX7_another_0 0 rfl rfl)
theorem dX7_another_3 : decode cX7_another 3 = .ok (.dup, 1) := dk_89 (dk_at dksX7_another_0 3 rfl rfl)
theorem dX7_another_4 : decode cX7_another 4 = .ok (.invokespecial 22, 3) := dk_183 0 22 (dk_at dksX7_another_0 4 rfl rfl)
theorem dX7_another_7 : decode cX7_another 7 = .ok (.areturn, 1) := dk_176 (dk_at dksX7_another_0 7 rfl rfl)
abbrev cX8_init : ByteArray := prog_3_method_1_code
def yX8_init : MethodName := ⟨RX8, "<init>", "()V"⟩
theorem dX8_init_0 : decode cX8_init 0 = .ok (.aload_n 0, 1) := by decide +kernel
theorem dX8_init_1 : decode cX8_init 1 = .ok (.invokespecial 3, 3) := by decide +kernel
theorem dX8_init_4 : decode cX8_init 4 = .ok (.return_, 1) := by decide +kernel
abbrev cX8_kind : ByteArray := prog_3_method_2_code
def yX8_kind : MethodName := ⟨RX8, "kind", "()I"⟩
theorem dX8_kind_0 : decode cX8_kind 0 = .ok (.iconst 2, 1) := by decide +kernel
theorem dX8_kind_1 : decode cX8_kind 1 = .ok (.ireturn, 1) := by decide +kernel
abbrev cX8_pushes : ByteArray := prog_3_method_3_code
def yX8_pushes : MethodName := ⟨RX8, "pushes", "(I)I"⟩
def dkwX8_pushes_0 : List UInt8 := [42, 27, 183, 0, 9, 7, 96, 172]
abbrev dktX8_pushes_0 : List UInt8 := dkwX8_pushes_0 ++ []
theorem dksX8_pushes_0 : cX8_pushes.data.toList.drop 0 = dktX8_pushes_0 := by decide +kernel
theorem dX8_pushes_0 : decode cX8_pushes 0 = .ok (.aload_n 0, 1) := dk_42 (dk_at dksX8_pushes_0 0 rfl rfl)
theorem dX8_pushes_1 : decode cX8_pushes 1 = .ok (.iload_n 1, 1) := dk_27 (dk_at dksX8_pushes_0 1 rfl rfl)
theorem dX8_pushes_2 : decode cX8_pushes 2 = .ok (.invokespecial 9, 3) := dk_183 0 9 (dk_at dksX8_pushes_0 2 rfl rfl)
theorem dX8_pushes_5 : decode cX8_pushes 5 = .ok (.iconst 4, 1) := dk_7 (dk_at dksX8_pushes_0 5 rfl rfl)
theorem dX8_pushes_6 : decode cX8_pushes 6 = .ok (.iadd, 1) := dk_96 (dk_at dksX8_pushes_0 6 rfl rfl)
theorem dX8_pushes_7 : decode cX8_pushes 7 = .ok (.ireturn, 1) := dk_172 (dk_at dksX8_pushes_0 7 rfl rfl)
abbrev cX8_bears : ByteArray := prog_3_method_4_code
def yX8_bears : MethodName := ⟨RX8, "bears", "()I"⟩
def dkwX8_bears_0 : List UInt8 := [5, 42, 183, 0, 13, 104, 172]
abbrev dktX8_bears_0 : List UInt8 := dkwX8_bears_0 ++ []
theorem dksX8_bears_0 : cX8_bears.data.toList.drop 0 = dktX8_bears_0 := by decide +kernel
theorem dX8_bears_0 : decode cX8_bears 0 = .ok (.iconst 2, 1) := dk_5 (dk_at dksX8_bears_0 0 rfl rfl)
theorem dX8_bears_1 : decode cX8_bears 1 = .ok (.aload_n 0, 1) := dk_42 (dk_at dksX8_bears_0 1 rfl rfl)
theorem dX8_bears_2 : decode cX8_bears 2 = .ok (.invokespecial 13, 3) := dk_183 0 13 (dk_at dksX8_bears_0 2 rfl rfl)
theorem dX8_bears_5 : decode cX8_bears 5 = .ok (.imul, 1) := dk_104 (dk_at dksX8_bears_0 5 rfl rfl)
theorem dX8_bears_6 : decode cX8_bears 6 = .ok (.ireturn, 1) := dk_172 (dk_at dksX8_bears_0 6 rfl rfl)
abbrev cX8_worth : ByteArray := prog_3_method_5_code
def yX8_worth : MethodName := ⟨RX8, "worth", "()I"⟩
def dkwX8_worth_0 : List UInt8 := [16, 99, 42, 183, 0, 17, 100, 172]
abbrev dktX8_worth_0 : List UInt8 := dkwX8_worth_0 ++ []
theorem dksX8_worth_0 : cX8_worth.data.toList.drop 0 = dktX8_worth_0 := by decide +kernel
theorem dX8_worth_0 : decode cX8_worth 0 = .ok (.bipush 99, 2) := dk_16 99 (dk_at dksX8_worth_0 0 rfl rfl)
theorem dX8_worth_2 : decode cX8_worth 2 = .ok (.aload_n 0, 1) := dk_42 (dk_at dksX8_worth_0 2 rfl rfl)
theorem dX8_worth_3 : decode cX8_worth 3 = .ok (.invokespecial 17, 3) := dk_183 0 17 (dk_at dksX8_worth_0 3 rfl rfl)
theorem dX8_worth_6 : decode cX8_worth 6 = .ok (.isub, 1) := dk_100 (dk_at dksX8_worth_0 6 rfl rfl)
theorem dX8_worth_7 : decode cX8_worth 7 = .ok (.ireturn, 1) := dk_172 (dk_at dksX8_worth_0 7 rfl rfl)
abbrev cX8_another : ByteArray := prog_3_method_6_code
def yX8_another : MethodName := ⟨RX8, "another", "()LLeaningStreet$House;"⟩
def dkwX8_another_0 : List UInt8 := [187, 0, 20, 89, 183, 0, 22, 176]
abbrev dktX8_another_0 : List UInt8 := dkwX8_another_0 ++ []
theorem dksX8_another_0 : cX8_another.data.toList.drop 0 = dktX8_another_0 := by decide +kernel
theorem dX8_another_0 : decode cX8_another 0 = .ok (.new 20, 3) := dk_187 0 20 (dk_at dksX8_another_0 0 rfl rfl)
theorem dX8_another_3 : decode cX8_another 3 = .ok (.dup, 1) := dk_89 (dk_at dksX8_another_0 3 rfl rfl)
theorem dX8_another_4 : decode cX8_another 4 = .ok (.invokespecial 22, 3) := dk_183 0 22 (dk_at dksX8_another_0 4 rfl rfl)
theorem dX8_another_7 : decode cX8_another 7 = .ok (.areturn, 1) := dk_176 (dk_at dksX8_another_0 7 rfl rfl)
abbrev cX9_init : ByteArray := prog_5_method_1_code
def yX9_init : MethodName := ⟨RX9, "<init>", "()V"⟩
theorem dX9_init_0 : decode cX9_init 0 = .ok (.aload_n 0, 1) := by decide +kernel
theorem dX9_init_1 : decode cX9_init 1 = .ok (.invokespecial 1, 3) := by decide +kernel
theorem dX9_init_4 : decode cX9_init 4 = .ok (.return_, 1) := by decide +kernel
abbrev cX9_kind : ByteArray := prog_5_method_2_code
def yX9_kind : MethodName := ⟨RX9, "kind", "()I"⟩
def dkwX9_kind_0 : List UInt8 := [42, 183, 0, 7, 5, 96, 172]
abbrev dktX9_kind_0 : List UInt8 := dkwX9_kind_0 ++ []
theorem dksX9_kind_0 : cX9_kind.data.toList.drop 0 = dktX9_kind_0 := by decide +kernel
theorem dX9_kind_0 : decode cX9_kind 0 = .ok (.aload_n 0, 1) := dk_42 (dk_at dksX9_kind_0 0 rfl rfl)
theorem dX9_kind_1 : decode cX9_kind 1 = .ok (.invokespecial 7, 3) := dk_183 0 7 (dk_at dksX9_kind_0 1 rfl rfl)
theorem dX9_kind_4 : decode cX9_kind 4 = .ok (.iconst 2, 1) := dk_5 (dk_at dksX9_kind_0 4 rfl rfl)
theorem dX9_kind_5 : decode cX9_kind 5 = .ok (.iadd, 1) := dk_96 (dk_at dksX9_kind_0 5 rfl rfl)
theorem dX9_kind_6 : decode cX9_kind 6 = .ok (.ireturn, 1) := dk_172 (dk_at dksX9_kind_0 6 rfl rfl)
abbrev cX9_pushes : ByteArray := prog_5_method_3_code
def yX9_pushes : MethodName := ⟨RX9, "pushes", "(I)I"⟩
def dkwX9_pushes_0 : List UInt8 := [3, 42, 27, 183, 0, 11, 8, 100, 184, 0, 15, 172]
abbrev dktX9_pushes_0 : List UInt8 := dkwX9_pushes_0 ++ []
theorem dksX9_pushes_0 : cX9_pushes.data.toList.drop 0 = dktX9_pushes_0 := by decide +kernel
theorem dX9_pushes_0 : decode cX9_pushes 0 = .ok (.iconst 0, 1) := dk_3 (dk_at dksX9_pushes_0 0 rfl rfl)
theorem dX9_pushes_1 : decode cX9_pushes 1 = .ok (.aload_n 0, 1) := dk_42 (dk_at dksX9_pushes_0 1 rfl rfl)
theorem dX9_pushes_2 : decode cX9_pushes 2 = .ok (.iload_n 1, 1) := dk_27 (dk_at dksX9_pushes_0 2 rfl rfl)
theorem dX9_pushes_3 : decode cX9_pushes 3 = .ok (.invokespecial 11, 3) := dk_183 0 11 (dk_at dksX9_pushes_0 3 rfl rfl)
theorem dX9_pushes_6 : decode cX9_pushes 6 = .ok (.iconst 5, 1) := dk_8 (dk_at dksX9_pushes_0 6 rfl rfl)
theorem dX9_pushes_7 : decode cX9_pushes 7 = .ok (.isub, 1) := dk_100 (dk_at dksX9_pushes_0 7 rfl rfl)
theorem dX9_pushes_8 : decode cX9_pushes 8 = .ok (.invokestatic 15, 3) := dk_184 0 15 (dk_at dksX9_pushes_0 8 rfl rfl)
theorem dX9_pushes_11 : decode cX9_pushes 11 = .ok (.ireturn, 1) := dk_172 (dk_at dksX9_pushes_0 11 rfl rfl)
abbrev cX9_worth : ByteArray := prog_5_method_4_code
def yX9_worth : MethodName := ⟨RX9, "worth", "()I"⟩
def dkwX9_worth_0 : List UInt8 := [5, 42, 183, 0, 21, 104, 172]
abbrev dktX9_worth_0 : List UInt8 := dkwX9_worth_0 ++ []
theorem dksX9_worth_0 : cX9_worth.data.toList.drop 0 = dktX9_worth_0 := by decide +kernel
theorem dX9_worth_0 : decode cX9_worth 0 = .ok (.iconst 2, 1) := dk_5 (dk_at dksX9_worth_0 0 rfl rfl)
theorem dX9_worth_1 : decode cX9_worth 1 = .ok (.aload_n 0, 1) := dk_42 (dk_at dksX9_worth_0 1 rfl rfl)
theorem dX9_worth_2 : decode cX9_worth 2 = .ok (.invokespecial 21, 3) := dk_183 0 21 (dk_at dksX9_worth_0 2 rfl rfl)
theorem dX9_worth_5 : decode cX9_worth 5 = .ok (.imul, 1) := dk_104 (dk_at dksX9_worth_0 5 rfl rfl)
theorem dX9_worth_6 : decode cX9_worth 6 = .ok (.ireturn, 1) := dk_172 (dk_at dksX9_worth_0 6 rfl rfl)
abbrev cX9_another : ByteArray := prog_5_method_5_code
def yX9_another : MethodName := ⟨RX9, "another", "()LLeaningStreet$House;"⟩
def dkwX9_another_0 : List UInt8 := [187, 0, 24, 89, 183, 0, 26, 176]
abbrev dktX9_another_0 : List UInt8 := dkwX9_another_0 ++ []
theorem dksX9_another_0 : cX9_another.data.toList.drop 0 = dktX9_another_0 := by decide +kernel
theorem dX9_another_0 : decode cX9_another 0 = .ok (.new 24, 3) := dk_187 0 24 (dk_at dksX9_another_0 0 rfl rfl)
theorem dX9_another_3 : decode cX9_another 3 = .ok (.dup, 1) := dk_89 (dk_at dksX9_another_0 3 rfl rfl)
theorem dX9_another_4 : decode cX9_another 4 = .ok (.invokespecial 26, 3) := dk_183 0 26 (dk_at dksX9_another_0 4 rfl rfl)
theorem dX9_another_7 : decode cX9_another 7 = .ok (.areturn, 1) := dk_176 (dk_at dksX9_another_0 7 rfl rfl)
abbrev cX10_init : ByteArray := prog_4_method_1_code
def yX10_init : MethodName := ⟨RX10, "<init>", "()V"⟩
theorem dX10_init_0 : decode cX10_init 0 = .ok (.aload_n 0, 1) := by decide +kernel
theorem dX10_init_1 : decode cX10_init 1 = .ok (.invokespecial 1, 3) := by decide +kernel
theorem dX10_init_4 : decode cX10_init 4 = .ok (.return_, 1) := by decide +kernel
abbrev cX10_kind : ByteArray := prog_4_method_2_code
def yX10_kind : MethodName := ⟨RX10, "kind", "()I"⟩
def dkwX10_kind_0 : List UInt8 := [42, 183, 0, 7, 5, 96, 172]
abbrev dktX10_kind_0 : List UInt8 := dkwX10_kind_0 ++ []
theorem dksX10_kind_0 : cX10_kind.data.toList.drop 0 = dktX10_kind_0 := by decide +kernel
theorem dX10_kind_0 : decode cX10_kind 0 = .ok (.aload_n 0, 1) := dk_42 (dk_at dksX10_kind_0 0 rfl rfl)
theorem dX10_kind_1 : decode cX10_kind 1 = .ok (.invokespecial 7, 3) := dk_183 0 7 (dk_at dksX10_kind_0 1 rfl rfl)
theorem dX10_kind_4 : decode cX10_kind 4 = .ok (.iconst 2, 1) := dk_5 (dk_at dksX10_kind_0 4 rfl rfl)
theorem dX10_kind_5 : decode cX10_kind 5 = .ok (.iadd, 1) := dk_96 (dk_at dksX10_kind_0 5 rfl rfl)
theorem dX10_kind_6 : decode cX10_kind 6 = .ok (.ireturn, 1) := dk_172 (dk_at dksX10_kind_0 6 rfl rfl)
abbrev cX10_pushes : ByteArray := prog_4_method_3_code
def yX10_pushes : MethodName := ⟨RX10, "pushes", "(I)I"⟩
def dkwX10_pushes_0 : List UInt8 := [5, 42, 27, 183, 0, 11, 104, 172]
abbrev dktX10_pushes_0 : List UInt8 := dkwX10_pushes_0 ++ []
theorem dksX10_pushes_0 : cX10_pushes.data.toList.drop 0 = dktX10_pushes_0 := by decide +kernel
theorem dX10_pushes_0 : decode cX10_pushes 0 = .ok (.iconst 2, 1) := dk_5 (dk_at dksX10_pushes_0 0 rfl rfl)
theorem dX10_pushes_1 : decode cX10_pushes 1 = .ok (.aload_n 0, 1) := dk_42 (dk_at dksX10_pushes_0 1 rfl rfl)
theorem dX10_pushes_2 : decode cX10_pushes 2 = .ok (.iload_n 1, 1) := dk_27 (dk_at dksX10_pushes_0 2 rfl rfl)
theorem dX10_pushes_3 : decode cX10_pushes 3 = .ok (.invokespecial 11, 3) := dk_183 0 11 (dk_at dksX10_pushes_0 3 rfl rfl)
theorem dX10_pushes_6 : decode cX10_pushes 6 = .ok (.imul, 1) := dk_104 (dk_at dksX10_pushes_0 6 rfl rfl)
theorem dX10_pushes_7 : decode cX10_pushes 7 = .ok (.ireturn, 1) := dk_172 (dk_at dksX10_pushes_0 7 rfl rfl)
abbrev cX10_worth : ByteArray := prog_4_method_4_code
def yX10_worth : MethodName := ⟨RX10, "worth", "()I"⟩
def dkwX10_worth_0 : List UInt8 := [42, 183, 0, 15, 8, 100, 172]
abbrev dktX10_worth_0 : List UInt8 := dkwX10_worth_0 ++ []
theorem dksX10_worth_0 : cX10_worth.data.toList.drop 0 = dktX10_worth_0 := by decide +kernel
theorem dX10_worth_0 : decode cX10_worth 0 = .ok (.aload_n 0, 1) := dk_42 (dk_at dksX10_worth_0 0 rfl rfl)
theorem dX10_worth_1 : decode cX10_worth 1 = .ok (.invokespecial 15, 3) := dk_183 0 15 (dk_at dksX10_worth_0 1 rfl rfl)
theorem dX10_worth_4 : decode cX10_worth 4 = .ok (.iconst 5, 1) := dk_8 (dk_at dksX10_worth_0 4 rfl rfl)
theorem dX10_worth_5 : decode cX10_worth 5 = .ok (.isub, 1) := dk_100 (dk_at dksX10_worth_0 5 rfl rfl)
theorem dX10_worth_6 : decode cX10_worth 6 = .ok (.ireturn, 1) := dk_172 (dk_at dksX10_worth_0 6 rfl rfl)
abbrev cX10_another : ByteArray := prog_4_method_5_code
def yX10_another : MethodName := ⟨RX10, "another", "()LLeaningStreet$House;"⟩
def dkwX10_another_0 : List UInt8 := [187, 0, 18, 89, 183, 0, 20, 176]
abbrev dktX10_another_0 : List UInt8 := dkwX10_another_0 ++ []
theorem dksX10_another_0 : cX10_another.data.toList.drop 0 = dktX10_another_0 := by decide +kernel
theorem dX10_another_0 : decode cX10_another 0 = .ok (.new 18, 3) := dk_187 0 18 (dk_at dksX10_another_0 0 rfl rfl)
theorem dX10_another_3 : decode cX10_another 3 = .ok (.dup, 1) := dk_89 (dk_at dksX10_another_0 3 rfl rfl)
theorem dX10_another_4 : decode cX10_another 4 = .ok (.invokespecial 20, 3) := dk_183 0 20 (dk_at dksX10_another_0 4 rfl rfl)
theorem dX10_another_7 : decode cX10_another 7 = .ok (.areturn, 1) := dk_176 (dk_at dksX10_another_0 7 rfl rfl)
abbrev cX11_init : ByteArray := prog_8_method_1_code
def yX11_init : MethodName := ⟨RX11, "<init>", "()V"⟩
theorem dX11_init_0 : decode cX11_init 0 = .ok (.aload_n 0, 1) := by decide +kernel
theorem dX11_init_1 : decode cX11_init 1 = .ok (.invokespecial 3, 3) := by decide +kernel
theorem dX11_init_4 : decode cX11_init 4 = .ok (.return_, 1) := by decide +kernel
abbrev cX11_kind : ByteArray := prog_8_method_2_code
def yX11_kind : MethodName := ⟨RX11, "kind", "()I"⟩
theorem dX11_kind_0 : decode cX11_kind 0 = .ok (.iconst 5, 1) := by decide +kernel
theorem dX11_kind_1 : decode cX11_kind 1 = .ok (.ireturn, 1) := by decide +kernel
abbrev cX11_pushes : ByteArray := prog_8_method_3_code
def yX11_pushes : MethodName := ⟨RX11, "pushes", "(I)I"⟩
theorem dX11_pushes_0 : decode cX11_pushes 0 = .ok (.iconst 0, 1) := by decide +kernel
theorem dX11_pushes_1 : decode cX11_pushes 1 = .ok (.ireturn, 1) := by decide +kernel
abbrev cX11_bears : ByteArray := prog_8_method_4_code
def yX11_bears : MethodName := ⟨RX11, "bears", "()I"⟩
theorem dX11_bears_0 : decode cX11_bears 0 = .ok (.sipush 999, 3) := by decide +kernel
theorem dX11_bears_3 : decode cX11_bears 3 = .ok (.ireturn, 1) := by decide +kernel
abbrev cX11_worth : ByteArray := prog_8_method_5_code
def yX11_worth : MethodName := ⟨RX11, "worth", "()I"⟩
theorem dX11_worth_0 : decode cX11_worth 0 = .ok (.bipush 6, 2) := by decide +kernel
theorem dX11_worth_2 : decode cX11_worth 2 = .ok (.ireturn, 1) := by decide +kernel
abbrev cX11_another : ByteArray := prog_8_method_6_code
def yX11_another : MethodName := ⟨RX11, "another", "()LLeaningStreet$House;"⟩
def dkwX11_another_0 : List UInt8 := [187, 0, 9, 89, 183, 0, 11, 176]
abbrev dktX11_another_0 : List UInt8 := dkwX11_another_0 ++ []
theorem dksX11_another_0 : cX11_another.data.toList.drop 0 = dktX11_another_0 := by decide +kernel
theorem dX11_another_0 : decode cX11_another 0 = .ok (.new 9, 3) := dk_187 0 9 (dk_at dksX11_another_0 0 rfl rfl)
theorem dX11_another_3 : decode cX11_another 3 = .ok (.dup, 1) := dk_89 (dk_at dksX11_another_0 3 rfl rfl)
theorem dX11_another_4 : decode cX11_another 4 = .ok (.invokespecial 11, 3) := dk_183 0 11 (dk_at dksX11_another_0 4 rfl rfl)
theorem dX11_another_7 : decode cX11_another 7 = .ok (.areturn, 1) := dk_176 (dk_at dksX11_another_0 7 rfl rfl)
abbrev cJ3_abs : ByteArray := prog_22_method_59_code
def yJ3_abs : MethodName := ⟨RJ3, "abs", "(I)I"⟩
def dkwJ3_abs_0 : List UInt8 := [26, 156, 0, 8, 26, 116, 167, 0, 4, 26, 172]
abbrev dktJ3_abs_0 : List UInt8 := dkwJ3_abs_0 ++ []
theorem dksJ3_abs_0 : cJ3_abs.data.toList.drop 0 = dktJ3_abs_0 := by decide +kernel
theorem dJ3_abs_0 : decode cJ3_abs 0 = .ok (.iload_n 0, 1) := dk_26 (dk_at dksJ3_abs_0 0 rfl rfl)
theorem dJ3_abs_1 : decode cJ3_abs 1 = .ok (.ifCond .ge 8, 3) := dk_156 0 8 (dk_at dksJ3_abs_0 1 rfl rfl)
theorem dJ3_abs_4 : decode cJ3_abs 4 = .ok (.iload_n 0, 1) := dk_26 (dk_at dksJ3_abs_0 4 rfl rfl)
theorem dJ3_abs_5 : decode cJ3_abs 5 = .ok (.ineg, 1) := dk_116 (dk_at dksJ3_abs_0 5 rfl rfl)
theorem dJ3_abs_6 : decode cJ3_abs 6 = .ok (.goto 4, 3) := dk_167 0 4 (dk_at dksJ3_abs_0 6 rfl rfl)
theorem dJ3_abs_9 : decode cJ3_abs 9 = .ok (.iload_n 0, 1) := dk_26 (dk_at dksJ3_abs_0 9 rfl rfl)
theorem dJ3_abs_10 : decode cJ3_abs 10 = .ok (.ireturn, 1) := dk_172 (dk_at dksJ3_abs_0 10 rfl rfl)
abbrev cJ3_min : ByteArray := prog_22_method_69_code
def yJ3_min : MethodName := ⟨RJ3, "min", "(II)I"⟩
def dkwJ3_min_0 : List UInt8 := [26, 27, 163, 0, 7, 26, 167, 0, 4, 27, 172]
abbrev dktJ3_min_0 : List UInt8 := dkwJ3_min_0 ++ []
theorem dksJ3_min_0 : cJ3_min.data.toList.drop 0 = dktJ3_min_0 := by decide +kernel
theorem dJ3_min_0 : decode cJ3_min 0 = .ok (.iload_n 0, 1) := dk_26 (dk_at dksJ3_min_0 0 rfl rfl)
theorem dJ3_min_1 : decode cJ3_min 1 = .ok (.iload_n 1, 1) := dk_27 (dk_at dksJ3_min_0 1 rfl rfl)
theorem dJ3_min_2 : decode cJ3_min 2 = .ok (.if_icmp .gt 7, 3) := dk_163 0 7 (dk_at dksJ3_min_0 2 rfl rfl)
theorem dJ3_min_5 : decode cJ3_min 5 = .ok (.iload_n 0, 1) := dk_26 (dk_at dksJ3_min_0 5 rfl rfl)
theorem dJ3_min_6 : decode cJ3_min 6 = .ok (.goto 4, 3) := dk_167 0 4 (dk_at dksJ3_min_0 6 rfl rfl)
theorem dJ3_min_9 : decode cJ3_min 9 = .ok (.iload_n 1, 1) := dk_27 (dk_at dksJ3_min_0 9 rfl rfl)
theorem dJ3_min_10 : decode cJ3_min 10 = .ok (.ireturn, 1) := dk_172 (dk_at dksJ3_min_0 10 rfl rfl)
abbrev cJ3_max : ByteArray := prog_22_method_65_code
def yJ3_max : MethodName := ⟨RJ3, "max", "(II)I"⟩
def dkwJ3_max_0 : List UInt8 := [26, 27, 161, 0, 7, 26, 167, 0, 4, 27, 172]
abbrev dktJ3_max_0 : List UInt8 := dkwJ3_max_0 ++ []
theorem dksJ3_max_0 : cJ3_max.data.toList.drop 0 = dktJ3_max_0 := by decide +kernel
theorem dJ3_max_0 : decode cJ3_max 0 = .ok (.iload_n 0, 1) := dk_26 (dk_at dksJ3_max_0 0 rfl rfl)
theorem dJ3_max_1 : decode cJ3_max 1 = .ok (.iload_n 1, 1) := dk_27 (dk_at dksJ3_max_0 1 rfl rfl)
theorem dJ3_max_2 : decode cJ3_max 2 = .ok (.if_icmp .lt 7, 3) := dk_161 0 7 (dk_at dksJ3_max_0 2 rfl rfl)
theorem dJ3_max_5 : decode cJ3_max 5 = .ok (.iload_n 0, 1) := dk_26 (dk_at dksJ3_max_0 5 rfl rfl)
theorem dJ3_max_6 : decode cJ3_max 6 = .ok (.goto 4, 3) := dk_167 0 4 (dk_at dksJ3_max_0 6 rfl rfl)
theorem dJ3_max_9 : decode cJ3_max 9 = .ok (.iload_n 1, 1) := dk_27 (dk_at dksJ3_max_0 9 rfl rfl)
theorem dJ3_max_10 : decode cJ3_max 10 = .ok (.ireturn, 1) := dk_172 (dk_at dksJ3_max_0 10 rfl rfl)
abbrev cJ3_abs_2 : ByteArray := prog_22_method_61_code
def yJ3_abs_2 : MethodName := ⟨RJ3, "abs", "(J)J"⟩
def dkwJ3_abs_2_0 : List UInt8 := [30, 9, 148, 156, 0, 8, 30, 117, 167, 0, 4, 30, 173]
abbrev dktJ3_abs_2_0 : List UInt8 := dkwJ3_abs_2_0 ++ []
theorem dksJ3_abs_2_0 : cJ3_abs_2.data.toList.drop 0 = dktJ3_abs_2_0 := by decide +kernel
theorem dJ3_abs_2_0 : decode cJ3_abs_2 0 = .ok (.lload_n 0, 1) := dk_30 (dk_at dksJ3_abs_2_0 0 rfl rfl)
theorem dJ3_abs_2_1 : decode cJ3_abs_2 1 = .ok (.lconst 0, 1) := dk_9 (dk_at dksJ3_abs_2_0 1 rfl rfl)
theorem dJ3_abs_2_2 : decode cJ3_abs_2 2 = .ok (.lcmp, 1) := dk_148 (dk_at dksJ3_abs_2_0 2 rfl rfl)
theorem dJ3_abs_2_3 : decode cJ3_abs_2 3 = .ok (.ifCond .ge 8, 3) := dk_156 0 8 (dk_at dksJ3_abs_2_0 3 rfl rfl)
theorem dJ3_abs_2_6 : decode cJ3_abs_2 6 = .ok (.lload_n 0, 1) := dk_30 (dk_at dksJ3_abs_2_0 6 rfl rfl)
theorem dJ3_abs_2_7 : decode cJ3_abs_2 7 = .ok (.lneg, 1) := dk_117 (dk_at dksJ3_abs_2_0 7 rfl rfl)
theorem dJ3_abs_2_8 : decode cJ3_abs_2 8 = .ok (.goto 4, 3) := dk_167 0 4 (dk_at dksJ3_abs_2_0 8 rfl rfl)
theorem dJ3_abs_2_11 : decode cJ3_abs_2 11 = .ok (.lload_n 0, 1) := dk_30 (dk_at dksJ3_abs_2_0 11 rfl rfl)
theorem dJ3_abs_2_12 : decode cJ3_abs_2 12 = .ok (.lreturn, 1) := dk_173 (dk_at dksJ3_abs_2_0 12 rfl rfl)
abbrev cJ4_init : ByteArray := prog_19_method_2_code
def yJ4_init : MethodName := ⟨RJ4, "<init>", "(Ljava/lang/String;)V"⟩
def dkwJ4_init_0 : List UInt8 := [42, 43, 183, 0, 7, 177]
abbrev dktJ4_init_0 : List UInt8 := dkwJ4_init_0 ++ []
theorem dksJ4_init_0 : cJ4_init.data.toList.drop 0 = dktJ4_init_0 := by decide +kernel
theorem dJ4_init_0 : decode cJ4_init 0 = .ok (.aload_n 0, 1) := dk_42 (dk_at dksJ4_init_0 0 rfl rfl)
theorem dJ4_init_1 : decode cJ4_init 1 = .ok (.aload_n 1, 1) := dk_43 (dk_at dksJ4_init_0 1 rfl rfl)
theorem dJ4_init_2 : decode cJ4_init 2 = .ok (.invokespecial 7, 3) := dk_183 0 7 (dk_at dksJ4_init_0 2 rfl rfl)
theorem dJ4_init_5 : decode cJ4_init 5 = .ok (.return_, 1) := dk_177 (dk_at dksJ4_init_0 5 rfl rfl)
abbrev cJ5_length : ByteArray := prog_25_method_54_code
def yJ5_length : MethodName := ⟨RJ5, "length", "()I"⟩
def dkwJ5_length_0 : List UInt8 := [42, 180, 0, 9, 190, 42, 182, 1, 79, 122, 172]
abbrev dktJ5_length_0 : List UInt8 := dkwJ5_length_0 ++ []
theorem dksJ5_length_0 : cJ5_length.data.toList.drop 0 = dktJ5_length_0 := by decide +kernel
theorem dJ5_length_0 : decode cJ5_length 0 = .ok (.aload_n 0, 1) := dk_42 (dk_at dksJ5_length_0 0 rfl rfl)
theorem dJ5_length_1 : decode cJ5_length 1 = .ok (.getfield 9, 3) := dk_180 0 9 (dk_at dksJ5_length_0 1 rfl rfl)
theorem dJ5_length_4 : decode cJ5_length 4 = .ok (.arraylength, 1) := dk_190 (dk_at dksJ5_length_0 4 rfl rfl)
theorem dJ5_length_5 : decode cJ5_length 5 = .ok (.aload_n 0, 1) := dk_42 (dk_at dksJ5_length_0 5 rfl rfl)
theorem dJ5_length_6 : decode cJ5_length 6 = .ok (.invokevirtual 335, 3) := dk_182 1 79 (dk_at dksJ5_length_0 6 rfl rfl)
theorem dJ5_length_9 : decode cJ5_length 9 = .ok (.ishr, 1) := dk_122 (dk_at dksJ5_length_0 9 rfl rfl)
theorem dJ5_length_10 : decode cJ5_length 10 = .ok (.ireturn, 1) := dk_172 (dk_at dksJ5_length_0 10 rfl rfl)
abbrev cJ5_coder : ByteArray := prog_25_method_152_code
def yJ5_coder : MethodName := ⟨RJ5, "coder", "()B"⟩
def dkwJ5_coder_0 : List UInt8 := [178, 0, 38, 153, 0, 10, 42, 180, 0, 15, 167, 0, 4, 4, 172]
abbrev dktJ5_coder_0 : List UInt8 := dkwJ5_coder_0 ++ []
theorem dksJ5_coder_0 : cJ5_coder.data.toList.drop 0 = dktJ5_coder_0 := by decide +kernel
theorem dJ5_coder_0 : decode cJ5_coder 0 = .ok (.getstatic 38, 3) := dk_178 0 38 (dk_at dksJ5_coder_0 0 rfl rfl)
theorem dJ5_coder_3 : decode cJ5_coder 3 = .ok (.ifCond .eq 10, 3) := dk_153 0 10 (dk_at dksJ5_coder_0 3 rfl rfl)
theorem dJ5_coder_6 : decode cJ5_coder 6 = .ok (.aload_n 0, 1) := dk_42 (dk_at dksJ5_coder_0 6 rfl rfl)
theorem dJ5_coder_7 : decode cJ5_coder 7 = .ok (.getfield 15, 3) := dk_180 0 15 (dk_at dksJ5_coder_0 7 rfl rfl)
theorem dJ5_coder_10 : decode cJ5_coder 10 = .ok (.goto 4, 3) := dk_167 0 4 (dk_at dksJ5_coder_0 10 rfl rfl)
theorem dJ5_coder_13 : decode cJ5_coder 13 = .ok (.iconst 1, 1) := dk_4 (dk_at dksJ5_coder_0 13 rfl rfl)
theorem dJ5_coder_14 : decode cJ5_coder 14 = .ok (.ireturn, 1) := dk_172 (dk_at dksJ5_coder_0 14 rfl rfl)
abbrev cJ5_charAt : ByteArray := prog_25_method_56_code
def yJ5_charAt : MethodName := ⟨RJ5, "charAt", "(I)C"⟩
def dkwJ5_charAt_1 : List UInt8 := [172]
abbrev dktJ5_charAt_1 : List UInt8 := dkwJ5_charAt_1 ++ []
def dkwJ5_charAt_0 : List UInt8 := [42, 182, 1, 236, 153, 0, 12, 42, 180, 0, 9, 27, 184, 1, 239, 172, 42, 180, 0, 9, 27, 184, 1, 242]
abbrev dktJ5_charAt_0 : List UInt8 := dkwJ5_charAt_0 ++ dktJ5_charAt_1
theorem dksJ5_charAt_0 : cJ5_charAt.data.toList.drop 0 = dktJ5_charAt_0 := by decide +kernel
theorem dksJ5_charAt_1 : cJ5_charAt.data.toList.drop 24 = dktJ5_charAt_1 := dk_seg dksJ5_charAt_0 24 rfl rfl
theorem dJ5_charAt_0 : decode cJ5_charAt 0 = .ok (.aload_n 0, 1) := dk_42 (dk_at dksJ5_charAt_0 0 rfl rfl)
theorem dJ5_charAt_1 : decode cJ5_charAt 1 = .ok (.invokevirtual 492, 3) := dk_182 1 236 (dk_at dksJ5_charAt_0 1 rfl rfl)
theorem dJ5_charAt_4 : decode cJ5_charAt 4 = .ok (.ifCond .eq 12, 3) := dk_153 0 12 (dk_at dksJ5_charAt_0 4 rfl rfl)
theorem dJ5_charAt_7 : decode cJ5_charAt 7 = .ok (.aload_n 0, 1) := dk_42 (dk_at dksJ5_charAt_0 7 rfl rfl)
theorem dJ5_charAt_8 : decode cJ5_charAt 8 = .ok (.getfield 9, 3) := dk_180 0 9 (dk_at dksJ5_charAt_0 8 rfl rfl)
theorem dJ5_charAt_11 : decode cJ5_charAt 11 = .ok (.iload_n 1, 1) := dk_27 (dk_at dksJ5_charAt_0 11 rfl rfl)
theorem dJ5_charAt_12 : decode cJ5_charAt 12 = .ok (.invokestatic 495, 3) := dk_184 1 239 (dk_at dksJ5_charAt_0 12 rfl rfl)
theorem dJ5_charAt_15 : decode cJ5_charAt 15 = .ok (.ireturn, 1) := dk_172 (dk_at dksJ5_charAt_0 15 rfl rfl)
theorem dJ5_charAt_16 : decode cJ5_charAt 16 = .ok (.aload_n 0, 1) := dk_42 (dk_at dksJ5_charAt_0 16 rfl rfl)
theorem dJ5_charAt_17 : decode cJ5_charAt 17 = .ok (.getfield 9, 3) := dk_180 0 9 (dk_at dksJ5_charAt_0 17 rfl rfl)
theorem dJ5_charAt_20 : decode cJ5_charAt 20 = .ok (.iload_n 1, 1) := dk_27 (dk_at dksJ5_charAt_0 20 rfl rfl)
theorem dJ5_charAt_21 : decode cJ5_charAt 21 = .ok (.invokestatic 498, 3) := dk_184 1 242 (dk_at dksJ5_charAt_0 21 rfl rfl)
theorem dJ5_charAt_24 : decode cJ5_charAt 24 = .ok (.ireturn, 1) := dk_172 (dk_at dksJ5_charAt_1 0 rfl rfl)
abbrev cJ5_isLatin1 : ByteArray := prog_25_method_154_code
def yJ5_isLatin1 : MethodName := ⟨RJ5, "isLatin1", "()Z"⟩
def dkwJ5_isLatin1_0 : List UInt8 := [178, 0, 38, 153, 0, 14, 42, 180, 0, 15, 154, 0, 7, 4, 167, 0, 4, 3, 172]
abbrev dktJ5_isLatin1_0 : List UInt8 := dkwJ5_isLatin1_0 ++ []
theorem dksJ5_isLatin1_0 : cJ5_isLatin1.data.toList.drop 0 = dktJ5_isLatin1_0 := by decide +kernel
theorem dJ5_isLatin1_0 : decode cJ5_isLatin1 0 = .ok (.getstatic 38, 3) := dk_178 0 38 (dk_at dksJ5_isLatin1_0 0 rfl rfl)
theorem dJ5_isLatin1_3 : decode cJ5_isLatin1 3 = .ok (.ifCond .eq 14, 3) := dk_153 0 14 (dk_at dksJ5_isLatin1_0 3 rfl rfl)
theorem dJ5_isLatin1_6 : decode cJ5_isLatin1 6 = .ok (.aload_n 0, 1) := dk_42 (dk_at dksJ5_isLatin1_0 6 rfl rfl)
theorem dJ5_isLatin1_7 : decode cJ5_isLatin1 7 = .ok (.getfield 15, 3) := dk_180 0 15 (dk_at dksJ5_isLatin1_0 7 rfl rfl)
theorem dJ5_isLatin1_10 : decode cJ5_isLatin1 10 = .ok (.ifCond .ne 7, 3) := dk_154 0 7 (dk_at dksJ5_isLatin1_0 10 rfl rfl)
theorem dJ5_isLatin1_13 : decode cJ5_isLatin1 13 = .ok (.iconst 1, 1) := dk_4 (dk_at dksJ5_isLatin1_0 13 rfl rfl)
theorem dJ5_isLatin1_14 : decode cJ5_isLatin1 14 = .ok (.goto 4, 3) := dk_167 0 4 (dk_at dksJ5_isLatin1_0 14 rfl rfl)
theorem dJ5_isLatin1_17 : decode cJ5_isLatin1 17 = .ok (.iconst 0, 1) := dk_3 (dk_at dksJ5_isLatin1_0 17 rfl rfl)
theorem dJ5_isLatin1_18 : decode cJ5_isLatin1 18 = .ok (.ireturn, 1) := dk_172 (dk_at dksJ5_isLatin1_0 18 rfl rfl)
abbrev cJ5_checkIndex : ByteArray := prog_25_method_155_code
def yJ5_checkIndex : MethodName := ⟨RJ5, "checkIndex", "(II)V"⟩
def dkwJ5_checkIndex_0 : List UInt8 := [26, 27, 178, 4, 29, 184, 4, 35, 87, 177]
abbrev dktJ5_checkIndex_0 : List UInt8 := dkwJ5_checkIndex_0 ++ []
theorem dksJ5_checkIndex_0 : cJ5_checkIndex.data.toList.drop 0 = dktJ5_checkIndex_0 := by decide +kernel
theorem dJ5_checkIndex_0 : decode cJ5_checkIndex 0 = .ok (.iload_n 0, 1) := dk_26 (dk_at dksJ5_checkIndex_0 0 rfl rfl)
theorem dJ5_checkIndex_1 : decode cJ5_checkIndex 1 = .ok (.iload_n 1, 1) := dk_27 (dk_at dksJ5_checkIndex_0 1 rfl rfl)
theorem dJ5_checkIndex_2 : decode cJ5_checkIndex 2 = .ok (.getstatic 1053, 3) := dk_178 4 29 (dk_at dksJ5_checkIndex_0 2 rfl rfl)
theorem dJ5_checkIndex_5 : decode cJ5_checkIndex 5 = .ok (.invokestatic 1059, 3) := dk_184 4 35 (dk_at dksJ5_checkIndex_0 5 rfl rfl)
theorem dJ5_checkIndex_8 : decode cJ5_checkIndex 8 = .ok (.pop, 1) := dk_87 (dk_at dksJ5_checkIndex_0 8 rfl rfl)
theorem dJ5_checkIndex_9 : decode cJ5_checkIndex 9 = .ok (.return_, 1) := dk_177 (dk_at dksJ5_checkIndex_0 9 rfl rfl)
abbrev cJ6_bitCount : ByteArray := prog_21_method_49_code
def yJ6_bitCount : MethodName := ⟨RJ6, "bitCount", "(I)I"⟩
def dkwJ6_bitCount_2 : List UInt8 := [26, 16, 63, 126, 172]
abbrev dktJ6_bitCount_2 : List UInt8 := dkwJ6_bitCount_2 ++ []
def dkwJ6_bitCount_1 : List UInt8 := [26, 26, 7, 124, 96, 19, 1, 11, 126, 59, 26, 26, 16, 8, 124, 96, 59, 26, 26, 16, 16, 124, 96, 59]
abbrev dktJ6_bitCount_1 : List UInt8 := dkwJ6_bitCount_1 ++ dktJ6_bitCount_2
def dkwJ6_bitCount_0 : List UInt8 := [26, 26, 4, 124, 19, 1, 9, 126, 100, 59, 26, 19, 1, 10, 126, 26, 5, 124, 19, 1, 10, 126, 96, 59]
abbrev dktJ6_bitCount_0 : List UInt8 := dkwJ6_bitCount_0 ++ dktJ6_bitCount_1
theorem dksJ6_bitCount_0 : cJ6_bitCount.data.toList.drop 0 = dktJ6_bitCount_0 := by decide +kernel
theorem dksJ6_bitCount_1 : cJ6_bitCount.data.toList.drop 24 = dktJ6_bitCount_1 := dk_seg dksJ6_bitCount_0 24 rfl rfl
theorem dksJ6_bitCount_2 : cJ6_bitCount.data.toList.drop 48 = dktJ6_bitCount_2 := dk_seg dksJ6_bitCount_1 24 rfl rfl
theorem dJ6_bitCount_0 : decode cJ6_bitCount 0 = .ok (.iload_n 0, 1) := dk_26 (dk_at dksJ6_bitCount_0 0 rfl rfl)
theorem dJ6_bitCount_1 : decode cJ6_bitCount 1 = .ok (.iload_n 0, 1) := dk_26 (dk_at dksJ6_bitCount_0 1 rfl rfl)
theorem dJ6_bitCount_2 : decode cJ6_bitCount 2 = .ok (.iconst 1, 1) := dk_4 (dk_at dksJ6_bitCount_0 2 rfl rfl)
theorem dJ6_bitCount_3 : decode cJ6_bitCount 3 = .ok (.iushr, 1) := dk_124 (dk_at dksJ6_bitCount_0 3 rfl rfl)
theorem dJ6_bitCount_4 : decode cJ6_bitCount 4 = .ok (.ldc_w 265, 3) := dk_19 1 9 (dk_at dksJ6_bitCount_0 4 rfl rfl)
theorem dJ6_bitCount_7 : decode cJ6_bitCount 7 = .ok (.iand, 1) := dk_126 (dk_at dksJ6_bitCount_0 7 rfl rfl)
theorem dJ6_bitCount_8 : decode cJ6_bitCount 8 = .ok (.isub, 1) := dk_100 (dk_at dksJ6_bitCount_0 8 rfl rfl)
theorem dJ6_bitCount_9 : decode cJ6_bitCount 9 = .ok (.istore_n 0, 1) := dk_59 (dk_at dksJ6_bitCount_0 9 rfl rfl)
theorem dJ6_bitCount_10 : decode cJ6_bitCount 10 = .ok (.iload_n 0, 1) := dk_26 (dk_at dksJ6_bitCount_0 10 rfl rfl)
theorem dJ6_bitCount_11 : decode cJ6_bitCount 11 = .ok (.ldc_w 266, 3) := dk_19 1 10 (dk_at dksJ6_bitCount_0 11 rfl rfl)
theorem dJ6_bitCount_14 : decode cJ6_bitCount 14 = .ok (.iand, 1) := dk_126 (dk_at dksJ6_bitCount_0 14 rfl rfl)
theorem dJ6_bitCount_15 : decode cJ6_bitCount 15 = .ok (.iload_n 0, 1) := dk_26 (dk_at dksJ6_bitCount_0 15 rfl rfl)
theorem dJ6_bitCount_16 : decode cJ6_bitCount 16 = .ok (.iconst 2, 1) := dk_5 (dk_at dksJ6_bitCount_0 16 rfl rfl)
theorem dJ6_bitCount_17 : decode cJ6_bitCount 17 = .ok (.iushr, 1) := dk_124 (dk_at dksJ6_bitCount_0 17 rfl rfl)
theorem dJ6_bitCount_18 : decode cJ6_bitCount 18 = .ok (.ldc_w 266, 3) := dk_19 1 10 (dk_at dksJ6_bitCount_0 18 rfl rfl)
theorem dJ6_bitCount_21 : decode cJ6_bitCount 21 = .ok (.iand, 1) := dk_126 (dk_at dksJ6_bitCount_0 21 rfl rfl)
theorem dJ6_bitCount_22 : decode cJ6_bitCount 22 = .ok (.iadd, 1) := dk_96 (dk_at dksJ6_bitCount_0 22 rfl rfl)
theorem dJ6_bitCount_23 : decode cJ6_bitCount 23 = .ok (.istore_n 0, 1) := dk_59 (dk_at dksJ6_bitCount_0 23 rfl rfl)
theorem dJ6_bitCount_24 : decode cJ6_bitCount 24 = .ok (.iload_n 0, 1) := dk_26 (dk_at dksJ6_bitCount_1 0 rfl rfl)
theorem dJ6_bitCount_25 : decode cJ6_bitCount 25 = .ok (.iload_n 0, 1) := dk_26 (dk_at dksJ6_bitCount_1 1 rfl rfl)
theorem dJ6_bitCount_26 : decode cJ6_bitCount 26 = .ok (.iconst 4, 1) := dk_7 (dk_at dksJ6_bitCount_1 2 rfl rfl)
theorem dJ6_bitCount_27 : decode cJ6_bitCount 27 = .ok (.iushr, 1) := dk_124 (dk_at dksJ6_bitCount_1 3 rfl rfl)
theorem dJ6_bitCount_28 : decode cJ6_bitCount 28 = .ok (.iadd, 1) := dk_96 (dk_at dksJ6_bitCount_1 4 rfl rfl)
theorem dJ6_bitCount_29 : decode cJ6_bitCount 29 = .ok (.ldc_w 267, 3) := dk_19 1 11 (dk_at dksJ6_bitCount_1 5 rfl rfl)
theorem dJ6_bitCount_32 : decode cJ6_bitCount 32 = .ok (.iand, 1) := dk_126 (dk_at dksJ6_bitCount_1 8 rfl rfl)
theorem dJ6_bitCount_33 : decode cJ6_bitCount 33 = .ok (.istore_n 0, 1) := dk_59 (dk_at dksJ6_bitCount_1 9 rfl rfl)
theorem dJ6_bitCount_34 : decode cJ6_bitCount 34 = .ok (.iload_n 0, 1) := dk_26 (dk_at dksJ6_bitCount_1 10 rfl rfl)
theorem dJ6_bitCount_35 : decode cJ6_bitCount 35 = .ok (.iload_n 0, 1) := dk_26 (dk_at dksJ6_bitCount_1 11 rfl rfl)
theorem dJ6_bitCount_36 : decode cJ6_bitCount 36 = .ok (.bipush 8, 2) := dk_16 8 (dk_at dksJ6_bitCount_1 12 rfl rfl)
theorem dJ6_bitCount_38 : decode cJ6_bitCount 38 = .ok (.iushr, 1) := dk_124 (dk_at dksJ6_bitCount_1 14 rfl rfl)
theorem dJ6_bitCount_39 : decode cJ6_bitCount 39 = .ok (.iadd, 1) := dk_96 (dk_at dksJ6_bitCount_1 15 rfl rfl)
theorem dJ6_bitCount_40 : decode cJ6_bitCount 40 = .ok (.istore_n 0, 1) := dk_59 (dk_at dksJ6_bitCount_1 16 rfl rfl)
theorem dJ6_bitCount_41 : decode cJ6_bitCount 41 = .ok (.iload_n 0, 1) := dk_26 (dk_at dksJ6_bitCount_1 17 rfl rfl)
theorem dJ6_bitCount_42 : decode cJ6_bitCount 42 = .ok (.iload_n 0, 1) := dk_26 (dk_at dksJ6_bitCount_1 18 rfl rfl)
theorem dJ6_bitCount_43 : decode cJ6_bitCount 43 = .ok (.bipush 16, 2) := dk_16 16 (dk_at dksJ6_bitCount_1 19 rfl rfl)
theorem dJ6_bitCount_45 : decode cJ6_bitCount 45 = .ok (.iushr, 1) := dk_124 (dk_at dksJ6_bitCount_1 21 rfl rfl)
theorem dJ6_bitCount_46 : decode cJ6_bitCount 46 = .ok (.iadd, 1) := dk_96 (dk_at dksJ6_bitCount_1 22 rfl rfl)
theorem dJ6_bitCount_47 : decode cJ6_bitCount 47 = .ok (.istore_n 0, 1) := dk_59 (dk_at dksJ6_bitCount_1 23 rfl rfl)
theorem dJ6_bitCount_48 : decode cJ6_bitCount 48 = .ok (.iload_n 0, 1) := dk_26 (dk_at dksJ6_bitCount_2 0 rfl rfl)
theorem dJ6_bitCount_49 : decode cJ6_bitCount 49 = .ok (.bipush 63, 2) := dk_16 63 (dk_at dksJ6_bitCount_2 1 rfl rfl)
theorem dJ6_bitCount_51 : decode cJ6_bitCount 51 = .ok (.iand, 1) := dk_126 (dk_at dksJ6_bitCount_2 3 rfl rfl)
theorem dJ6_bitCount_52 : decode cJ6_bitCount 52 = .ok (.ireturn, 1) := dk_172 (dk_at dksJ6_bitCount_2 4 rfl rfl)
abbrev cJ7_charAt : ByteArray := prog_26_method_2_code
def yJ7_charAt : MethodName := ⟨RJ7, "charAt", "([BI)C"⟩
def dkwJ7_charAt_0 : List UInt8 := [27, 42, 190, 184, 0, 9, 42, 27, 51, 17, 0, 255, 126, 146, 172]
abbrev dktJ7_charAt_0 : List UInt8 := dkwJ7_charAt_0 ++ []
theorem dksJ7_charAt_0 : cJ7_charAt.data.toList.drop 0 = dktJ7_charAt_0 := by decide +kernel
theorem dJ7_charAt_0 : decode cJ7_charAt 0 = .ok (.iload_n 1, 1) := dk_27 (dk_at dksJ7_charAt_0 0 rfl rfl)
theorem dJ7_charAt_1 : decode cJ7_charAt 1 = .ok (.aload_n 0, 1) := dk_42 (dk_at dksJ7_charAt_0 1 rfl rfl)
theorem dJ7_charAt_2 : decode cJ7_charAt 2 = .ok (.arraylength, 1) := dk_190 (dk_at dksJ7_charAt_0 2 rfl rfl)
theorem dJ7_charAt_3 : decode cJ7_charAt 3 = .ok (.invokestatic 9, 3) := dk_184 0 9 (dk_at dksJ7_charAt_0 3 rfl rfl)
theorem dJ7_charAt_6 : decode cJ7_charAt 6 = .ok (.aload_n 0, 1) := dk_42 (dk_at dksJ7_charAt_0 6 rfl rfl)
theorem dJ7_charAt_7 : decode cJ7_charAt 7 = .ok (.iload_n 1, 1) := dk_27 (dk_at dksJ7_charAt_0 7 rfl rfl)
theorem dJ7_charAt_8 : decode cJ7_charAt 8 = .ok (.baload, 1) := dk_51 (dk_at dksJ7_charAt_0 8 rfl rfl)
theorem dJ7_charAt_9 : decode cJ7_charAt 9 = .ok (.sipush 255, 3) := dk_17 0 255 (dk_at dksJ7_charAt_0 9 rfl rfl)
theorem dJ7_charAt_12 : decode cJ7_charAt 12 = .ok (.iand, 1) := dk_126 (dk_at dksJ7_charAt_0 12 rfl rfl)
theorem dJ7_charAt_13 : decode cJ7_charAt 13 = .ok (.i2c, 1) := dk_146 (dk_at dksJ7_charAt_0 13 rfl rfl)
theorem dJ7_charAt_14 : decode cJ7_charAt 14 = .ok (.ireturn, 1) := dk_172 (dk_at dksJ7_charAt_0 14 rfl rfl)
abbrev cJ8_checkIndex : ByteArray := prog_30_method_11_code
def yJ8_checkIndex : MethodName := ⟨RJ8, "checkIndex", "(IILjava/util/function/BiFunction;)I"⟩
def dkwJ8_checkIndex_0 : List UInt8 := [26, 155, 0, 8, 26, 27, 161, 0, 10, 44, 26, 27, 184, 0, 95, 191, 26, 172]
abbrev dktJ8_checkIndex_0 : List UInt8 := dkwJ8_checkIndex_0 ++ []
theorem dksJ8_checkIndex_0 : cJ8_checkIndex.data.toList.drop 0 = dktJ8_checkIndex_0 := by decide +kernel
theorem dJ8_checkIndex_0 : decode cJ8_checkIndex 0 = .ok (.iload_n 0, 1) := dk_26 (dk_at dksJ8_checkIndex_0 0 rfl rfl)
theorem dJ8_checkIndex_1 : decode cJ8_checkIndex 1 = .ok (.ifCond .lt 8, 3) := dk_155 0 8 (dk_at dksJ8_checkIndex_0 1 rfl rfl)
theorem dJ8_checkIndex_4 : decode cJ8_checkIndex 4 = .ok (.iload_n 0, 1) := dk_26 (dk_at dksJ8_checkIndex_0 4 rfl rfl)
theorem dJ8_checkIndex_5 : decode cJ8_checkIndex 5 = .ok (.iload_n 1, 1) := dk_27 (dk_at dksJ8_checkIndex_0 5 rfl rfl)
theorem dJ8_checkIndex_6 : decode cJ8_checkIndex 6 = .ok (.if_icmp .lt 10, 3) := dk_161 0 10 (dk_at dksJ8_checkIndex_0 6 rfl rfl)
theorem dJ8_checkIndex_9 : decode cJ8_checkIndex 9 = .ok (.aload_n 2, 1) := dk_44 (dk_at dksJ8_checkIndex_0 9 rfl rfl)
theorem dJ8_checkIndex_10 : decode cJ8_checkIndex 10 = .ok (.iload_n 0, 1) := dk_26 (dk_at dksJ8_checkIndex_0 10 rfl rfl)
theorem dJ8_checkIndex_11 : decode cJ8_checkIndex 11 = .ok (.iload_n 1, 1) := dk_27 (dk_at dksJ8_checkIndex_0 11 rfl rfl)
theorem dJ8_checkIndex_12 : decode cJ8_checkIndex 12 = .ok (.invokestatic 95, 3) := dk_184 0 95 (dk_at dksJ8_checkIndex_0 12 rfl rfl)
theorem dJ8_checkIndex_15 : decode cJ8_checkIndex 15 = .ok (.athrow, 1) := dk_191 (dk_at dksJ8_checkIndex_0 15 rfl rfl)
theorem dJ8_checkIndex_16 : decode cJ8_checkIndex 16 = .ok (.iload_n 0, 1) := dk_26 (dk_at dksJ8_checkIndex_0 16 rfl rfl)
theorem dJ8_checkIndex_17 : decode cJ8_checkIndex 17 = .ok (.ireturn, 1) := dk_172 (dk_at dksJ8_checkIndex_0 17 rfl rfl)
abbrev cJ9_charAt : ByteArray := prog_27_method_83_code
def yJ9_charAt : MethodName := ⟨RJ9, "charAt", "([BI)C"⟩
def dkwJ9_charAt_0 : List UInt8 := [27, 42, 184, 0, 67, 42, 27, 184, 0, 71, 172]
abbrev dktJ9_charAt_0 : List UInt8 := dkwJ9_charAt_0 ++ []
theorem dksJ9_charAt_0 : cJ9_charAt.data.toList.drop 0 = dktJ9_charAt_0 := by decide +kernel
theorem dJ9_charAt_0 : decode cJ9_charAt 0 = .ok (.iload_n 1, 1) := dk_27 (dk_at dksJ9_charAt_0 0 rfl rfl)
theorem dJ9_charAt_1 : decode cJ9_charAt 1 = .ok (.aload_n 0, 1) := dk_42 (dk_at dksJ9_charAt_0 1 rfl rfl)
theorem dJ9_charAt_2 : decode cJ9_charAt 2 = .ok (.invokestatic 67, 3) := dk_184 0 67 (dk_at dksJ9_charAt_0 2 rfl rfl)
theorem dJ9_charAt_5 : decode cJ9_charAt 5 = .ok (.aload_n 0, 1) := dk_42 (dk_at dksJ9_charAt_0 5 rfl rfl)
theorem dJ9_charAt_6 : decode cJ9_charAt 6 = .ok (.iload_n 1, 1) := dk_27 (dk_at dksJ9_charAt_0 6 rfl rfl)
theorem dJ9_charAt_7 : decode cJ9_charAt 7 = .ok (.invokestatic 71, 3) := dk_184 0 71 (dk_at dksJ9_charAt_0 7 rfl rfl)
theorem dJ9_charAt_10 : decode cJ9_charAt 10 = .ok (.ireturn, 1) := dk_172 (dk_at dksJ9_charAt_0 10 rfl rfl)
abbrev cJ9_checkIndex : ByteArray := prog_27_method_91_code
def yJ9_checkIndex : MethodName := ⟨RJ9, "checkIndex", "(I[B)V"⟩
def dkwJ9_checkIndex_0 : List UInt8 := [26, 43, 184, 0, 48, 184, 1, 158, 177]
abbrev dktJ9_checkIndex_0 : List UInt8 := dkwJ9_checkIndex_0 ++ []
theorem dksJ9_checkIndex_0 : cJ9_checkIndex.data.toList.drop 0 = dktJ9_checkIndex_0 := by decide +kernel
theorem dJ9_checkIndex_0 : decode cJ9_checkIndex 0 = .ok (.iload_n 0, 1) := dk_26 (dk_at dksJ9_checkIndex_0 0 rfl rfl)
theorem dJ9_checkIndex_1 : decode cJ9_checkIndex 1 = .ok (.aload_n 1, 1) := dk_43 (dk_at dksJ9_checkIndex_0 1 rfl rfl)
theorem dJ9_checkIndex_2 : decode cJ9_checkIndex 2 = .ok (.invokestatic 48, 3) := dk_184 0 48 (dk_at dksJ9_checkIndex_0 2 rfl rfl)
theorem dJ9_checkIndex_5 : decode cJ9_checkIndex 5 = .ok (.invokestatic 414, 3) := dk_184 1 158 (dk_at dksJ9_checkIndex_0 5 rfl rfl)
theorem dJ9_checkIndex_8 : decode cJ9_checkIndex 8 = .ok (.return_, 1) := dk_177 (dk_at dksJ9_checkIndex_0 8 rfl rfl)
abbrev cJ9_length : ByteArray := prog_27_method_6_code
def yJ9_length : MethodName := ⟨RJ9, "length", "([B)I"⟩
def dkwJ9_length_0 : List UInt8 := [42, 190, 4, 122, 172]
abbrev dktJ9_length_0 : List UInt8 := dkwJ9_length_0 ++ []
theorem dksJ9_length_0 : cJ9_length.data.toList.drop 0 = dktJ9_length_0 := by decide +kernel
theorem dJ9_length_0 : decode cJ9_length 0 = .ok (.aload_n 0, 1) := dk_42 (dk_at dksJ9_length_0 0 rfl rfl)
theorem dJ9_length_1 : decode cJ9_length 1 = .ok (.arraylength, 1) := dk_190 (dk_at dksJ9_length_0 1 rfl rfl)
theorem dJ9_length_2 : decode cJ9_length 2 = .ok (.iconst 1, 1) := dk_4 (dk_at dksJ9_length_0 2 rfl rfl)
theorem dJ9_length_3 : decode cJ9_length 3 = .ok (.ishr, 1) := dk_122 (dk_at dksJ9_length_0 3 rfl rfl)
theorem dJ9_length_4 : decode cJ9_length 4 = .ok (.ireturn, 1) := dk_172 (dk_at dksJ9_length_0 4 rfl rfl)
abbrev cJ9_getChar : ByteArray := prog_27_method_5_code
def yJ9_getChar : MethodName := ⟨RJ9, "getChar", "([BI)C"⟩
def dkwJ9_getChar_2 : List UInt8 := [51, 17, 0, 255, 126, 178, 0, 63, 120, 128, 146, 172]
abbrev dktJ9_getChar_2 : List UInt8 := dkwJ9_getChar_2 ++ []
def dkwJ9_getChar_1 : List UInt8 := [183, 0, 56, 191, 27, 4, 120, 60, 42, 27, 132, 1, 1, 51, 17, 0, 255, 126, 178, 0, 59, 120, 42, 27]
abbrev dktJ9_getChar_1 : List UInt8 := dkwJ9_getChar_1 ++ dktJ9_getChar_2
def dkwJ9_getChar_0 : List UInt8 := [178, 0, 44, 154, 0, 25, 27, 155, 0, 11, 27, 42, 184, 0, 48, 161, 0, 13, 187, 0, 52, 89, 18, 54]
abbrev dktJ9_getChar_0 : List UInt8 := dkwJ9_getChar_0 ++ dktJ9_getChar_1
theorem dksJ9_getChar_0 : cJ9_getChar.data.toList.drop 0 = dktJ9_getChar_0 := by decide +kernel
theorem dksJ9_getChar_1 : cJ9_getChar.data.toList.drop 24 = dktJ9_getChar_1 := dk_seg dksJ9_getChar_0 24 rfl rfl
theorem dksJ9_getChar_2 : cJ9_getChar.data.toList.drop 48 = dktJ9_getChar_2 := dk_seg dksJ9_getChar_1 24 rfl rfl
theorem dJ9_getChar_0 : decode cJ9_getChar 0 = .ok (.getstatic 44, 3) := dk_178 0 44 (dk_at dksJ9_getChar_0 0 rfl rfl)
theorem dJ9_getChar_3 : decode cJ9_getChar 3 = .ok (.ifCond .ne 25, 3) := dk_154 0 25 (dk_at dksJ9_getChar_0 3 rfl rfl)
theorem dJ9_getChar_6 : decode cJ9_getChar 6 = .ok (.iload_n 1, 1) := dk_27 (dk_at dksJ9_getChar_0 6 rfl rfl)
theorem dJ9_getChar_7 : decode cJ9_getChar 7 = .ok (.ifCond .lt 11, 3) := dk_155 0 11 (dk_at dksJ9_getChar_0 7 rfl rfl)
theorem dJ9_getChar_10 : decode cJ9_getChar 10 = .ok (.iload_n 1, 1) := dk_27 (dk_at dksJ9_getChar_0 10 rfl rfl)
theorem dJ9_getChar_11 : decode cJ9_getChar 11 = .ok (.aload_n 0, 1) := dk_42 (dk_at dksJ9_getChar_0 11 rfl rfl)
theorem dJ9_getChar_12 : decode cJ9_getChar 12 = .ok (.invokestatic 48, 3) := dk_184 0 48 (dk_at dksJ9_getChar_0 12 rfl rfl)
theorem dJ9_getChar_15 : decode cJ9_getChar 15 = .ok (.if_icmp .lt 13, 3) := dk_161 0 13 (dk_at dksJ9_getChar_0 15 rfl rfl)
theorem dJ9_getChar_18 : decode cJ9_getChar 18 = .ok (.new 52, 3) := dk_187 0 52 (dk_at dksJ9_getChar_0 18 rfl rfl)
theorem dJ9_getChar_21 : decode cJ9_getChar 21 = .ok (.dup, 1) := dk_89 (dk_at dksJ9_getChar_0 21 rfl rfl)
theorem dJ9_getChar_22 : decode cJ9_getChar 22 = .ok (.ldc 54, 2) := dk_18 54 (dk_at dksJ9_getChar_0 22 rfl rfl)
theorem dJ9_getChar_24 : decode cJ9_getChar 24 = .ok (.invokespecial 56, 3) := dk_183 0 56 (dk_at dksJ9_getChar_1 0 rfl rfl)
theorem dJ9_getChar_27 : decode cJ9_getChar 27 = .ok (.athrow, 1) := dk_191 (dk_at dksJ9_getChar_1 3 rfl rfl)
theorem dJ9_getChar_28 : decode cJ9_getChar 28 = .ok (.iload_n 1, 1) := dk_27 (dk_at dksJ9_getChar_1 4 rfl rfl)
theorem dJ9_getChar_29 : decode cJ9_getChar 29 = .ok (.iconst 1, 1) := dk_4 (dk_at dksJ9_getChar_1 5 rfl rfl)
theorem dJ9_getChar_30 : decode cJ9_getChar 30 = .ok (.ishl, 1) := dk_120 (dk_at dksJ9_getChar_1 6 rfl rfl)
theorem dJ9_getChar_31 : decode cJ9_getChar 31 = .ok (.istore_n 1, 1) := dk_60 (dk_at dksJ9_getChar_1 7 rfl rfl)
theorem dJ9_getChar_32 : decode cJ9_getChar 32 = .ok (.aload_n 0, 1) := dk_42 (dk_at dksJ9_getChar_1 8 rfl rfl)
theorem dJ9_getChar_33 : decode cJ9_getChar 33 = .ok (.iload_n 1, 1) := dk_27 (dk_at dksJ9_getChar_1 9 rfl rfl)
theorem dJ9_getChar_34 : decode cJ9_getChar 34 = .ok (.iinc 1 1, 3) := dk_132 1 1 (dk_at dksJ9_getChar_1 10 rfl rfl)
theorem dJ9_getChar_37 : decode cJ9_getChar 37 = .ok (.baload, 1) := dk_51 (dk_at dksJ9_getChar_1 13 rfl rfl)
theorem dJ9_getChar_38 : decode cJ9_getChar 38 = .ok (.sipush 255, 3) := dk_17 0 255 (dk_at dksJ9_getChar_1 14 rfl rfl)
theorem dJ9_getChar_41 : decode cJ9_getChar 41 = .ok (.iand, 1) := dk_126 (dk_at dksJ9_getChar_1 17 rfl rfl)
theorem dJ9_getChar_42 : decode cJ9_getChar 42 = .ok (.getstatic 59, 3) := dk_178 0 59 (dk_at dksJ9_getChar_1 18 rfl rfl)
theorem dJ9_getChar_45 : decode cJ9_getChar 45 = .ok (.ishl, 1) := dk_120 (dk_at dksJ9_getChar_1 21 rfl rfl)
theorem dJ9_getChar_46 : decode cJ9_getChar 46 = .ok (.aload_n 0, 1) := dk_42 (dk_at dksJ9_getChar_1 22 rfl rfl)
theorem dJ9_getChar_47 : decode cJ9_getChar 47 = .ok (.iload_n 1, 1) := dk_27 (dk_at dksJ9_getChar_1 23 rfl rfl)
theorem dJ9_getChar_48 : decode cJ9_getChar 48 = .ok (.baload, 1) := dk_51 (dk_at dksJ9_getChar_2 0 rfl rfl)
theorem dJ9_getChar_49 : decode cJ9_getChar 49 = .ok (.sipush 255, 3) := dk_17 0 255 (dk_at dksJ9_getChar_2 1 rfl rfl)
theorem dJ9_getChar_52 : decode cJ9_getChar 52 = .ok (.iand, 1) := dk_126 (dk_at dksJ9_getChar_2 4 rfl rfl)
theorem dJ9_getChar_53 : decode cJ9_getChar 53 = .ok (.getstatic 63, 3) := dk_178 0 63 (dk_at dksJ9_getChar_2 5 rfl rfl)
theorem dJ9_getChar_56 : decode cJ9_getChar 56 = .ok (.ishl, 1) := dk_120 (dk_at dksJ9_getChar_2 8 rfl rfl)
theorem dJ9_getChar_57 : decode cJ9_getChar 57 = .ok (.ior, 1) := dk_128 (dk_at dksJ9_getChar_2 9 rfl rfl)
theorem dJ9_getChar_58 : decode cJ9_getChar 58 = .ok (.i2c, 1) := dk_146 (dk_at dksJ9_getChar_2 10 rfl rfl)
theorem dJ9_getChar_59 : decode cJ9_getChar 59 = .ok (.ireturn, 1) := dk_172 (dk_at dksJ9_getChar_2 11 rfl rfl)
abbrev cX12_init : ByteArray := prog_16_method_1_code
def yX12_init : MethodName := ⟨RX12, "<init>", "()V"⟩
def dkwX12_init_0 : List UInt8 := [42, 183, 0, 3, 42, 16, 96, 188, 10, 181, 0, 9, 42, 16, 96, 188, 10, 181, 0, 15, 177]
abbrev dktX12_init_0 : List UInt8 := dkwX12_init_0 ++ []
theorem dksX12_init_0 : cX12_init.data.toList.drop 0 = dktX12_init_0 := by decide +kernel
theorem dX12_init_0 : decode cX12_init 0 = .ok (.aload_n 0, 1) := dk_42 (dk_at dksX12_init_0 0 rfl rfl)
theorem dX12_init_1 : decode cX12_init 1 = .ok (.invokespecial 3, 3) := dk_183 0 3 (dk_at dksX12_init_0 1 rfl rfl)
theorem dX12_init_4 : decode cX12_init 4 = .ok (.aload_n 0, 1) := dk_42 (dk_at dksX12_init_0 4 rfl rfl)
theorem dX12_init_5 : decode cX12_init 5 = .ok (.bipush 96, 2) := dk_16 96 (dk_at dksX12_init_0 5 rfl rfl)
theorem dX12_init_7 : decode cX12_init 7 = .ok (.newarray .int, 2) := dk_188_10 (dk_at dksX12_init_0 7 rfl rfl)
theorem dX12_init_9 : decode cX12_init 9 = .ok (.putfield 9, 3) := dk_181 0 9 (dk_at dksX12_init_0 9 rfl rfl)
theorem dX12_init_12 : decode cX12_init 12 = .ok (.aload_n 0, 1) := dk_42 (dk_at dksX12_init_0 12 rfl rfl)
theorem dX12_init_13 : decode cX12_init 13 = .ok (.bipush 96, 2) := dk_16 96 (dk_at dksX12_init_0 13 rfl rfl)
theorem dX12_init_15 : decode cX12_init 15 = .ok (.newarray .int, 2) := dk_188_10 (dk_at dksX12_init_0 15 rfl rfl)
theorem dX12_init_17 : decode cX12_init 17 = .ok (.putfield 15, 3) := dk_181 0 15 (dk_at dksX12_init_0 17 rfl rfl)
theorem dX12_init_20 : decode cX12_init 20 = .ok (.return_, 1) := dk_177 (dk_at dksX12_init_0 20 rfl rfl)
abbrev cX12_add : ByteArray := prog_16_method_2_code
def yX12_add : MethodName := ⟨RX12, "add", "(II)V"⟩
def dkwX12_add_1 : List UInt8 := [180, 0, 18, 4, 96, 181, 0, 18, 177]
abbrev dktX12_add_1 : List UInt8 := dkwX12_add_1 ++ []
def dkwX12_add_0 : List UInt8 := [42, 180, 0, 9, 42, 180, 0, 18, 27, 79, 42, 180, 0, 15, 42, 180, 0, 18, 28, 79, 42, 89]
abbrev dktX12_add_0 : List UInt8 := dkwX12_add_0 ++ dktX12_add_1
theorem dksX12_add_0 : cX12_add.data.toList.drop 0 = dktX12_add_0 := by decide +kernel
theorem dksX12_add_1 : cX12_add.data.toList.drop 22 = dktX12_add_1 := dk_seg dksX12_add_0 22 rfl rfl
theorem dX12_add_0 : decode cX12_add 0 = .ok (.aload_n 0, 1) := dk_42 (dk_at dksX12_add_0 0 rfl rfl)
theorem dX12_add_1 : decode cX12_add 1 = .ok (.getfield 9, 3) := dk_180 0 9 (dk_at dksX12_add_0 1 rfl rfl)
theorem dX12_add_4 : decode cX12_add 4 = .ok (.aload_n 0, 1) := dk_42 (dk_at dksX12_add_0 4 rfl rfl)
theorem dX12_add_5 : decode cX12_add 5 = .ok (.getfield 18, 3) := dk_180 0 18 (dk_at dksX12_add_0 5 rfl rfl)
theorem dX12_add_8 : decode cX12_add 8 = .ok (.iload_n 1, 1) := dk_27 (dk_at dksX12_add_0 8 rfl rfl)
theorem dX12_add_9 : decode cX12_add 9 = .ok (.iastore, 1) := dk_79 (dk_at dksX12_add_0 9 rfl rfl)
theorem dX12_add_10 : decode cX12_add 10 = .ok (.aload_n 0, 1) := dk_42 (dk_at dksX12_add_0 10 rfl rfl)
theorem dX12_add_11 : decode cX12_add 11 = .ok (.getfield 15, 3) := dk_180 0 15 (dk_at dksX12_add_0 11 rfl rfl)
theorem dX12_add_14 : decode cX12_add 14 = .ok (.aload_n 0, 1) := dk_42 (dk_at dksX12_add_0 14 rfl rfl)
theorem dX12_add_15 : decode cX12_add 15 = .ok (.getfield 18, 3) := dk_180 0 18 (dk_at dksX12_add_0 15 rfl rfl)
theorem dX12_add_18 : decode cX12_add 18 = .ok (.iload_n 2, 1) := dk_28 (dk_at dksX12_add_0 18 rfl rfl)
theorem dX12_add_19 : decode cX12_add 19 = .ok (.iastore, 1) := dk_79 (dk_at dksX12_add_0 19 rfl rfl)
theorem dX12_add_20 : decode cX12_add 20 = .ok (.aload_n 0, 1) := dk_42 (dk_at dksX12_add_0 20 rfl rfl)
theorem dX12_add_21 : decode cX12_add 21 = .ok (.dup, 1) := dk_89 (dk_at dksX12_add_0 21 rfl rfl)
theorem dX12_add_22 : decode cX12_add 22 = .ok (.getfield 18, 3) := dk_180 0 18 (dk_at dksX12_add_1 0 rfl rfl)
theorem dX12_add_25 : decode cX12_add 25 = .ok (.iconst 1, 1) := dk_4 (dk_at dksX12_add_1 3 rfl rfl)
theorem dX12_add_26 : decode cX12_add 26 = .ok (.iadd, 1) := dk_96 (dk_at dksX12_add_1 4 rfl rfl)
theorem dX12_add_27 : decode cX12_add 27 = .ok (.putfield 18, 3) := dk_181 0 18 (dk_at dksX12_add_1 5 rfl rfl)
theorem dX12_add_30 : decode cX12_add 30 = .ok (.return_, 1) := dk_177 (dk_at dksX12_add_1 8 rfl rfl)
abbrev cX13_init : ByteArray := prog_14_method_1_code
def yX13_init : MethodName := ⟨RX13, "<init>", "(ILLeaningStreet$Words;I)V"⟩
def dkwX13_init_0 : List UInt8 := [42, 183, 0, 1, 42, 27, 181, 0, 7, 42, 44, 181, 0, 13, 42, 29, 181, 0, 17, 177]
abbrev dktX13_init_0 : List UInt8 := dkwX13_init_0 ++ []
theorem dksX13_init_0 : cX13_init.data.toList.drop 0 = dktX13_init_0 := by decide +kernel
theorem dX13_init_0 : decode cX13_init 0 = .ok (.aload_n 0, 1) := dk_42 (dk_at dksX13_init_0 0 rfl rfl)
theorem dX13_init_1 : decode cX13_init 1 = .ok (.invokespecial 1, 3) := dk_183 0 1 (dk_at dksX13_init_0 1 rfl rfl)
theorem dX13_init_4 : decode cX13_init 4 = .ok (.aload_n 0, 1) := dk_42 (dk_at dksX13_init_0 4 rfl rfl)
theorem dX13_init_5 : decode cX13_init 5 = .ok (.iload_n 1, 1) := dk_27 (dk_at dksX13_init_0 5 rfl rfl)
theorem dX13_init_6 : decode cX13_init 6 = .ok (.putfield 7, 3) := dk_181 0 7 (dk_at dksX13_init_0 6 rfl rfl)
theorem dX13_init_9 : decode cX13_init 9 = .ok (.aload_n 0, 1) := dk_42 (dk_at dksX13_init_0 9 rfl rfl)
theorem dX13_init_10 : decode cX13_init 10 = .ok (.aload_n 2, 1) := dk_44 (dk_at dksX13_init_0 10 rfl rfl)
theorem dX13_init_11 : decode cX13_init 11 = .ok (.putfield 13, 3) := dk_181 0 13 (dk_at dksX13_init_0 11 rfl rfl)
theorem dX13_init_14 : decode cX13_init 14 = .ok (.aload_n 0, 1) := dk_42 (dk_at dksX13_init_0 14 rfl rfl)
theorem dX13_init_15 : decode cX13_init 15 = .ok (.iload_n 3, 1) := dk_29 (dk_at dksX13_init_0 15 rfl rfl)
theorem dX13_init_16 : decode cX13_init 16 = .ok (.putfield 17, 3) := dk_181 0 17 (dk_at dksX13_init_0 16 rfl rfl)
theorem dX13_init_19 : decode cX13_init 19 = .ok (.return_, 1) := dk_177 (dk_at dksX13_init_0 19 rfl rfl)
abbrev cJ10_init : ByteArray := prog_23_method_2_code
def yJ10_init : MethodName := ⟨RJ10, "<init>", "(Ljava/lang/String;)V"⟩
def dkwJ10_init_0 : List UInt8 := [42, 43, 183, 0, 7, 177]
abbrev dktJ10_init_0 : List UInt8 := dkwJ10_init_0 ++ []
theorem dksJ10_init_0 : cJ10_init.data.toList.drop 0 = dktJ10_init_0 := by decide +kernel
theorem dJ10_init_0 : decode cJ10_init 0 = .ok (.aload_n 0, 1) := dk_42 (dk_at dksJ10_init_0 0 rfl rfl)
theorem dJ10_init_1 : decode cJ10_init 1 = .ok (.aload_n 1, 1) := dk_43 (dk_at dksJ10_init_0 1 rfl rfl)
theorem dJ10_init_2 : decode cJ10_init 2 = .ok (.invokespecial 7, 3) := dk_183 0 7 (dk_at dksJ10_init_0 2 rfl rfl)
theorem dJ10_init_5 : decode cJ10_init 5 = .ok (.return_, 1) := dk_177 (dk_at dksJ10_init_0 5 rfl rfl)
abbrev cX14_init : ByteArray := prog_7_method_1_code
def yX14_init : MethodName := ⟨RX14, "<init>", "(I)V"⟩
def dkwX14_init_0 : List UInt8 := [42, 183, 0, 1, 42, 27, 181, 0, 7, 177]
abbrev dktX14_init_0 : List UInt8 := dkwX14_init_0 ++ []
theorem dksX14_init_0 : cX14_init.data.toList.drop 0 = dktX14_init_0 := by decide +kernel
theorem dX14_init_0 : decode cX14_init 0 = .ok (.aload_n 0, 1) := dk_42 (dk_at dksX14_init_0 0 rfl rfl)
theorem dX14_init_1 : decode cX14_init 1 = .ok (.invokespecial 1, 3) := dk_183 0 1 (dk_at dksX14_init_0 1 rfl rfl)
theorem dX14_init_4 : decode cX14_init 4 = .ok (.aload_n 0, 1) := dk_42 (dk_at dksX14_init_0 4 rfl rfl)
theorem dX14_init_5 : decode cX14_init 5 = .ok (.iload_n 1, 1) := dk_27 (dk_at dksX14_init_0 5 rfl rfl)
theorem dX14_init_6 : decode cX14_init 6 = .ok (.putfield 7, 3) := dk_181 0 7 (dk_at dksX14_init_0 6 rfl rfl)
theorem dX14_init_9 : decode cX14_init 9 = .ok (.return_, 1) := dk_177 (dk_at dksX14_init_0 9 rfl rfl)
abbrev cJ11_init : ByteArray := object_method_1_code
def yJ11_init : MethodName := ⟨RJ11, "<init>", "()V"⟩
theorem dJ11_init_0 : decode cJ11_init 0 = .ok (.return_, 1) := by decide +kernel
abbrev cX15_pushes : ByteArray := prog_10_method_1_code
def yX15_pushes : MethodName := ⟨RX15, "pushes", "(I)I"⟩
theorem dX15_pushes_0 : decode cX15_pushes 0 = .ok (.iload_n 1, 1) := by decide +kernel
theorem dX15_pushes_1 : decode cX15_pushes 1 = .ok (.ireturn, 1) := by decide +kernel
