/-! ToneGraph -/
set_option maxRecDepth 100000
def RX1 : String := "ToneGraph"
def TX1 : u_T := fun k => match k with
  | 0 => ("ToneGraph", "chorus", "LToneGraph$Chorus;", true)
  | 1 => ("ToneGraph", "nodes", "Ljava/util/ArrayList;", true)
  | 2 => ("ToneGraph", "order", "Ljava/util/ArrayList;", true)
  | 3 => ("ToneGraph", "output", "LToneGraph$Node;", false)
  | 4 => ("ToneGraph", "wave", "C", false)
  | 5 => ("ToneGraph", "envelope", "LToneGraph$Envelope;", false)
  | 6 => ("ToneGraph", "heard", "[I", true)
  | 7 => ("ToneGraph", "time", "I", false)
  | 8 => ("ToneGraph", "greatest", "I", false)
  | 9 => ("ToneGraph", "quiet", "I", false)
  | 10 => ("ToneGraph", "energy", "J", false)
  | 11 => ("ToneGraph", "turns", "J", false)
  | _ => ("ToneGraph", "stolen", "I", false)
def tyX1 : Nat → FieldType := fun k => match k with
  | 0 => .object "ToneGraph$Chorus"
  | 1 => .object "java/util/ArrayList"
  | 2 => .object "java/util/ArrayList"
  | 3 => .object "ToneGraph$Node"
  | 4 => .char
  | 5 => .object "ToneGraph$Envelope"
  | 6 => .array .int
  | 7 => .int
  | 8 => .int
  | 9 => .int
  | 10 => .long
  | 11 => .long
  | _ => .int
abbrev wsX10 : List Cond := u_ws RX1 TX1 13
set_option maxRecDepth 100000 in
theorem nmX1 : ∀ a, a < 13 → ∀ b, b < 13 → a ≠ b → (TX1 a).2.1 ≠ (TX1 b).2.1 := by decide +kernel
set_option maxRecDepth 100000 in
theorem tyX1_ok : ∀ k, k < 13 → parseFieldDescriptor (TX1 k).2.2.1 = some (tyX1 k) := by decide +kernel
abbrev cX1_init : ByteArray := prog_1_method_4_code
def yX1_init : MethodName := ⟨RX1, "<init>", "()V"⟩
def dkwX1_init_4 : List UInt8 := [177]
abbrev dktX1_init_4 : List UInt8 := dkwX1_init_4 ++ []
def dkwX1_init_3 : List UInt8 := [182, 0, 56, 87, 42, 180, 0, 31, 42, 180, 0, 52, 182, 0, 56, 87, 42, 42, 180, 0, 52, 181, 0, 60]
abbrev dktX1_init_3 : List UInt8 := dkwX1_init_3 ++ dktX1_init_4
def dkwX1_init_2 : List UInt8 := [188, 10, 181, 0, 45, 42, 187, 0, 49, 89, 183, 0, 51, 181, 0, 52, 42, 180, 0, 27, 42, 180, 0, 52]
abbrev dktX1_init_2 : List UInt8 := dkwX1_init_2 ++ dktX1_init_3
def dkwX1_init_1 : List UInt8 := [181, 0, 31, 42, 16, 115, 181, 0, 34, 42, 187, 0, 38, 89, 183, 0, 40, 181, 0, 41, 42, 16, 64]
abbrev dktX1_init_1 : List UInt8 := dkwX1_init_1 ++ dktX1_init_2
def dkwX1_init_0 : List UInt8 := [42, 183, 0, 18, 42, 187, 0, 24, 89, 183, 0, 26, 181, 0, 27, 42, 187, 0, 24, 89, 183, 0, 26]
abbrev dktX1_init_0 : List UInt8 := dkwX1_init_0 ++ dktX1_init_1
theorem dksX1_init_0 : cX1_init.data.toList.drop 0 = dktX1_init_0 := by decide +kernel
theorem dksX1_init_1 : cX1_init.data.toList.drop 23 = dktX1_init_1 := dk_seg dksX1_init_0 23 rfl rfl
theorem dksX1_init_2 : cX1_init.data.toList.drop 46 = dktX1_init_2 := dk_seg dksX1_init_1 23 rfl rfl
theorem dksX1_init_3 : cX1_init.data.toList.drop 70 = dktX1_init_3 := dk_seg dksX1_init_2 24 rfl rfl
theorem dksX1_init_4 : cX1_init.data.toList.drop 94 = dktX1_init_4 := dk_seg dksX1_init_3 24 rfl rfl
theorem dX1_init_0 : decode cX1_init 0 = .ok (.aload_n 0, 1) := dk_42 (dk_at dksX1_init_0 0 rfl rfl)
theorem dX1_init_1 : decode cX1_init 1 = .ok (.invokespecial 18, 3) := dk_183 0 18 (dk_at dksX1_init_0 1 rfl rfl)
theorem dX1_init_4 : decode cX1_init 4 = .ok (.aload_n 0, 1) := dk_42 (dk_at dksX1_init_0 4 rfl rfl)
theorem dX1_init_5 : decode cX1_init 5 = .ok (.new 24, 3) := dk_187 0 24 (dk_at dksX1_init_0 5 rfl rfl)
theorem dX1_init_8 : decode cX1_init 8 = .ok (.dup, 1) := dk_89 (dk_at dksX1_init_0 8 rfl rfl)
theorem dX1_init_9 : decode cX1_init 9 = .ok (.invokespecial 26, 3) := dk_183 0 26 (dk_at dksX1_init_0 9 rfl rfl)
theorem dX1_init_12 : decode cX1_init 12 = .ok (.putfield 27, 3) := dk_181 0 27 (dk_at dksX1_init_0 12 rfl rfl)
theorem dX1_init_15 : decode cX1_init 15 = .ok (.aload_n 0, 1) := dk_42 (dk_at dksX1_init_0 15 rfl rfl)
theorem dX1_init_16 : decode cX1_init 16 = .ok (.new 24, 3) := dk_187 0 24 (dk_at dksX1_init_0 16 rfl rfl)
theorem dX1_init_19 : decode cX1_init 19 = .ok (.dup, 1) := dk_89 (dk_at dksX1_init_0 19 rfl rfl)
theorem dX1_init_20 : decode cX1_init 20 = .ok (.invokespecial 26, 3) := dk_183 0 26 (dk_at dksX1_init_0 20 rfl rfl)
theorem dX1_init_23 : decode cX1_init 23 = .ok (.putfield 31, 3) := dk_181 0 31 (dk_at dksX1_init_1 0 rfl rfl)
theorem dX1_init_26 : decode cX1_init 26 = .ok (.aload_n 0, 1) := dk_42 (dk_at dksX1_init_1 3 rfl rfl)
theorem dX1_init_27 : decode cX1_init 27 = .ok (.bipush 115, 2) := dk_16 115 (dk_at dksX1_init_1 4 rfl rfl)
theorem dX1_init_29 : decode cX1_init 29 = .ok (.putfield 34, 3) := dk_181 0 34 (dk_at dksX1_init_1 6 rfl rfl)
theorem dX1_init_32 : decode cX1_init 32 = .ok (.aload_n 0, 1) := dk_42 (dk_at dksX1_init_1 9 rfl rfl)
theorem dX1_init_33 : decode cX1_init 33 = .ok (.new 38, 3) := dk_187 0 38 (dk_at dksX1_init_1 10 rfl rfl)
theorem dX1_init_36 : decode cX1_init 36 = .ok (.dup, 1) := dk_89 (dk_at dksX1_init_1 13 rfl rfl)
theorem dX1_init_37 : decode cX1_init 37 = .ok (.invokespecial 40, 3) := dk_183 0 40 (dk_at dksX1_init_1 14 rfl rfl)
theorem dX1_init_40 : decode cX1_init 40 = .ok (.putfield 41, 3) := dk_181 0 41 (dk_at dksX1_init_1 17 rfl rfl)
theorem dX1_init_43 : decode cX1_init 43 = .ok (.aload_n 0, 1) := dk_42 (dk_at dksX1_init_1 20 rfl rfl)
theorem dX1_init_44 : decode cX1_init 44 = .ok (.bipush 64, 2) := dk_16 64 (dk_at dksX1_init_1 21 rfl rfl)
theorem dX1_init_46 : decode cX1_init 46 = .ok (.newarray .int, 2) := dk_188_10 (dk_at dksX1_init_2 0 rfl rfl)
theorem dX1_init_48 : decode cX1_init 48 = .ok (.putfield 45, 3) := dk_181 0 45 (dk_at dksX1_init_2 2 rfl rfl)
theorem dX1_init_51 : decode cX1_init 51 = .ok (.aload_n 0, 1) := dk_42 (dk_at dksX1_init_2 5 rfl rfl)
theorem dX1_init_52 : decode cX1_init 52 = .ok (.new 49, 3) := dk_187 0 49 (dk_at dksX1_init_2 6 rfl rfl)
theorem dX1_init_55 : decode cX1_init 55 = .ok (.dup, 1) := dk_89 (dk_at dksX1_init_2 9 rfl rfl)
theorem dX1_init_56 : decode cX1_init 56 = .ok (.invokespecial 51, 3) := dk_183 0 51 (dk_at dksX1_init_2 10 rfl rfl)
theorem dX1_init_59 : decode cX1_init 59 = .ok (.putfield 52, 3) := dk_181 0 52 (dk_at dksX1_init_2 13 rfl rfl)
theorem dX1_init_62 : decode cX1_init 62 = .ok (.aload_n 0, 1) := dk_42 (dk_at dksX1_init_2 16 rfl rfl)
theorem dX1_init_63 : decode cX1_init 63 = .ok (.getfield 27, 3) := dk_180 0 27 (dk_at dksX1_init_2 17 rfl rfl)
theorem dX1_init_66 : decode cX1_init 66 = .ok (.aload_n 0, 1) := dk_42 (dk_at dksX1_init_2 20 rfl rfl)
theorem dX1_init_67 : decode cX1_init 67 = .ok (.getfield 52, 3) := dk_180 0 52 (dk_at dksX1_init_2 21 rfl rfl)
theorem dX1_init_70 : decode cX1_init 70 = .ok (.invokevirtual 56, 3) := dk_182 0 56 (dk_at dksX1_init_3 0 rfl rfl)
theorem dX1_init_73 : decode cX1_init 73 = .ok (.pop, 1) := dk_87 (dk_at dksX1_init_3 3 rfl rfl)
theorem dX1_init_74 : decode cX1_init 74 = .ok (.aload_n 0, 1) := dk_42 (dk_at dksX1_init_3 4 rfl rfl)
theorem dX1_init_75 : decode cX1_init 75 = .ok (.getfield 31, 3) := dk_180 0 31 (dk_at dksX1_init_3 5 rfl rfl)
theorem dX1_init_78 : decode cX1_init 78 = .ok (.aload_n 0, 1) := dk_42 (dk_at dksX1_init_3 8 rfl rfl)
theorem dX1_init_79 : decode cX1_init 79 = .ok (.getfield 52, 3) := dk_180 0 52 (dk_at dksX1_init_3 9 rfl rfl)
theorem dX1_init_82 : decode cX1_init 82 = .ok (.invokevirtual 56, 3) := dk_182 0 56 (dk_at dksX1_init_3 12 rfl rfl)
theorem dX1_init_85 : decode cX1_init 85 = .ok (.pop, 1) := dk_87 (dk_at dksX1_init_3 15 rfl rfl)
theorem dX1_init_86 : decode cX1_init 86 = .ok (.aload_n 0, 1) := dk_42 (dk_at dksX1_init_3 16 rfl rfl)
theorem dX1_init_87 : decode cX1_init 87 = .ok (.aload_n 0, 1) := dk_42 (dk_at dksX1_init_3 17 rfl rfl)
theorem dX1_init_88 : decode cX1_init 88 = .ok (.getfield 52, 3) := dk_180 0 52 (dk_at dksX1_init_3 18 rfl rfl)
theorem dX1_init_91 : decode cX1_init 91 = .ok (.putfield 60, 3) := dk_181 0 60 (dk_at dksX1_init_3 21 rfl rfl)
theorem dX1_init_94 : decode cX1_init 94 = .ok (.return_, 1) := dk_177 (dk_at dksX1_init_4 0 rfl rfl)
abbrev cX1_nodes : ByteArray := prog_1_method_21_code
def yX1_nodes : MethodName := ⟨RX1, "nodes", "()I"⟩
def dkwX1_nodes_0 : List UInt8 := [42, 180, 0, 27, 182, 0, 70, 172]
abbrev dktX1_nodes_0 : List UInt8 := dkwX1_nodes_0 ++ []
theorem dksX1_nodes_0 : cX1_nodes.data.toList.drop 0 = dktX1_nodes_0 := by decide +kernel
theorem dX1_nodes_0 : decode cX1_nodes 0 = .ok (.aload_n 0, 1) := dk_42 (dk_at dksX1_nodes_0 0 rfl rfl)
theorem dX1_nodes_1 : decode cX1_nodes 1 = .ok (.getfield 27, 3) := dk_180 0 27 (dk_at dksX1_nodes_0 1 rfl rfl)
theorem dX1_nodes_4 : decode cX1_nodes 4 = .ok (.invokevirtual 70, 3) := dk_182 0 70 (dk_at dksX1_nodes_0 4 rfl rfl)
theorem dX1_nodes_7 : decode cX1_nodes 7 = .ok (.ireturn, 1) := dk_172 (dk_at dksX1_nodes_0 7 rfl rfl)
abbrev cX1_longestBlock : ByteArray := prog_1_method_28_code
def yX1_longestBlock : MethodName := ⟨RX1, "longestBlock", "()I"⟩
def dkwX1_longestBlock_2 : List UInt8 := [167, 0, 4, 27, 60, 132, 2, 1, 167, 255, 207, 27, 172]
abbrev dktX1_longestBlock_2 : List UInt8 := dkwX1_longestBlock_2 ++ []
def dkwX1_longestBlock_1 : List UInt8 := [192, 0, 85, 78, 45, 182, 0, 94, 153, 0, 17, 27, 45, 192, 0, 140, 180, 0, 187, 184, 0, 3]
abbrev dktX1_longestBlock_1 : List UInt8 := dkwX1_longestBlock_1 ++ dktX1_longestBlock_2
def dkwX1_longestBlock_0 : List UInt8 := [16, 64, 60, 3, 61, 28, 42, 180, 0, 27, 182, 0, 70, 162, 0, 44, 42, 180, 0, 27, 28, 182, 0, 81]
abbrev dktX1_longestBlock_0 : List UInt8 := dkwX1_longestBlock_0 ++ dktX1_longestBlock_1
theorem dksX1_longestBlock_0 : cX1_longestBlock.data.toList.drop 0 = dktX1_longestBlock_0 := by decide +kernel
theorem dksX1_longestBlock_1 : cX1_longestBlock.data.toList.drop 24 = dktX1_longestBlock_1 := dk_seg dksX1_longestBlock_0 24 rfl rfl
theorem dksX1_longestBlock_2 : cX1_longestBlock.data.toList.drop 46 = dktX1_longestBlock_2 := dk_seg dksX1_longestBlock_1 22 rfl rfl
theorem dX1_longestBlock_0 : decode cX1_longestBlock 0 = .ok (.bipush 64, 2) := dk_16 64 (dk_at dksX1_longestBlock_0 0 rfl rfl)
theorem dX1_longestBlock_2 : decode cX1_longestBlock 2 = .ok (.istore_n 1, 1) := dk_60 (dk_at dksX1_longestBlock_0 2 rfl rfl)
theorem dX1_longestBlock_3 : decode cX1_longestBlock 3 = .ok (.iconst 0, 1) := dk_3 (dk_at dksX1_longestBlock_0 3 rfl rfl)
theorem dX1_longestBlock_4 : decode cX1_longestBlock 4 = .ok (.istore_n 2, 1) := dk_61 (dk_at dksX1_longestBlock_0 4 rfl rfl)
theorem dX1_longestBlock_5 : decode cX1_longestBlock 5 = .ok (.iload_n 2, 1) := dk_28 (dk_at dksX1_longestBlock_0 5 rfl rfl)
theorem dX1_longestBlock_6 : decode cX1_longestBlock 6 = .ok (.aload_n 0, 1) := dk_42 (dk_at dksX1_longestBlock_0 6 rfl rfl)
theorem dX1_longestBlock_7 : decode cX1_longestBlock 7 = .ok (.getfield 27, 3) := dk_180 0 27 (dk_at dksX1_longestBlock_0 7 rfl rfl)
theorem dX1_longestBlock_10 : decode cX1_longestBlock 10 = .ok (.invokevirtual 70, 3) := dk_182 0 70 (dk_at dksX1_longestBlock_0 10 rfl rfl)
theorem dX1_longestBlock_13 : decode cX1_longestBlock 13 = .ok (.if_icmp .ge 44, 3) := dk_162 0 44 (dk_at dksX1_longestBlock_0 13 rfl rfl)
theorem dX1_longestBlock_16 : decode cX1_longestBlock 16 = .ok (.aload_n 0, 1) := dk_42 (dk_at dksX1_longestBlock_0 16 rfl rfl)
theorem dX1_longestBlock_17 : decode cX1_longestBlock 17 = .ok (.getfield 27, 3) := dk_180 0 27 (dk_at dksX1_longestBlock_0 17 rfl rfl)
theorem dX1_longestBlock_20 : decode cX1_longestBlock 20 = .ok (.iload_n 2, 1) := dk_28 (dk_at dksX1_longestBlock_0 20 rfl rfl)
theorem dX1_longestBlock_21 : decode cX1_longestBlock 21 = .ok (.invokevirtual 81, 3) := dk_182 0 81 (dk_at dksX1_longestBlock_0 21 rfl rfl)
theorem dX1_longestBlock_24 : decode cX1_longestBlock 24 = .ok (.checkcast 85, 3) := dk_192 0 85 (dk_at dksX1_longestBlock_1 0 rfl rfl)
theorem dX1_longestBlock_27 : decode cX1_longestBlock 27 = .ok (.astore_n 3, 1) := dk_78 (dk_at dksX1_longestBlock_1 3 rfl rfl)
theorem dX1_longestBlock_28 : decode cX1_longestBlock 28 = .ok (.aload_n 3, 1) := dk_45 (dk_at dksX1_longestBlock_1 4 rfl rfl)
theorem dX1_longestBlock_29 : decode cX1_longestBlock 29 = .ok (.invokevirtual 94, 3) := dk_182 0 94 (dk_at dksX1_longestBlock_1 5 rfl rfl)
theorem dX1_longestBlock_32 : decode cX1_longestBlock 32 = .ok (.ifCond .eq 17, 3) := dk_153 0 17 (dk_at dksX1_longestBlock_1 8 rfl rfl)
theorem dX1_longestBlock_35 : decode cX1_longestBlock 35 = .ok (.iload_n 1, 1) := dk_27 (dk_at dksX1_longestBlock_1 11 rfl rfl)
theorem dX1_longestBlock_36 : decode cX1_longestBlock 36 = .ok (.aload_n 3, 1) := dk_45 (dk_at dksX1_longestBlock_1 12 rfl rfl)
theorem dX1_longestBlock_37 : decode cX1_longestBlock 37 = .ok (.checkcast 140, 3) := dk_192 0 140 (dk_at dksX1_longestBlock_1 13 rfl rfl)
theorem dX1_longestBlock_40 : decode cX1_longestBlock 40 = .ok (.getfield 187, 3) := dk_180 0 187 (dk_at dksX1_longestBlock_1 16 rfl rfl)
theorem dX1_longestBlock_43 : decode cX1_longestBlock 43 = .ok (.invokestatic 3, 3) := dk_184 0 3 (dk_at dksX1_longestBlock_1 19 rfl rfl)
theorem dX1_longestBlock_46 : decode cX1_longestBlock 46 = .ok (.goto 4, 3) := dk_167 0 4 (dk_at dksX1_longestBlock_2 0 rfl rfl)
theorem dX1_longestBlock_49 : decode cX1_longestBlock 49 = .ok (.iload_n 1, 1) := dk_27 (dk_at dksX1_longestBlock_2 3 rfl rfl)
theorem dX1_longestBlock_50 : decode cX1_longestBlock 50 = .ok (.istore_n 1, 1) := dk_60 (dk_at dksX1_longestBlock_2 4 rfl rfl)
theorem dX1_longestBlock_51 : decode cX1_longestBlock 51 = .ok (.iinc 2 1, 3) := dk_132 2 1 (dk_at dksX1_longestBlock_2 5 rfl rfl)
theorem dX1_longestBlock_54 : decode cX1_longestBlock 54 = .ok (.goto (-49), 3) := dk_167 255 207 (dk_at dksX1_longestBlock_2 8 rfl rfl)
theorem dX1_longestBlock_57 : decode cX1_longestBlock 57 = .ok (.iload_n 1, 1) := dk_27 (dk_at dksX1_longestBlock_2 11 rfl rfl)
theorem dX1_longestBlock_58 : decode cX1_longestBlock 58 = .ok (.ireturn, 1) := dk_172 (dk_at dksX1_longestBlock_2 12 rfl rfl)
abbrev cX1_endAll : ByteArray := prog_1_method_35_code
def yX1_endAll : MethodName := ⟨RX1, "endAll", "()I"⟩
def dkwX1_endAll_2 : List UInt8 := [180, 0, 229, 182, 0, 244, 132, 1, 1, 132, 2, 1, 167, 255, 203, 27, 172]
abbrev dktX1_endAll_2 : List UInt8 := dkwX1_endAll_2 ++ []
def dkwX1_endAll_1 : List UInt8 := [153, 0, 31, 45, 180, 0, 248, 154, 0, 24, 42, 89, 180, 0, 229, 10, 97, 181, 0, 229, 45, 42]
abbrev dktX1_endAll_1 : List UInt8 := dkwX1_endAll_1 ++ dktX1_endAll_2
def dkwX1_endAll_0 : List UInt8 := [3, 60, 3, 61, 28, 7, 162, 0, 54, 42, 180, 0, 52, 180, 0, 87, 28, 50, 78, 45, 180, 0, 211]
abbrev dktX1_endAll_0 : List UInt8 := dkwX1_endAll_0 ++ dktX1_endAll_1
theorem dksX1_endAll_0 : cX1_endAll.data.toList.drop 0 = dktX1_endAll_0 := by decide +kernel
theorem dksX1_endAll_1 : cX1_endAll.data.toList.drop 23 = dktX1_endAll_1 := dk_seg dksX1_endAll_0 23 rfl rfl
theorem dksX1_endAll_2 : cX1_endAll.data.toList.drop 45 = dktX1_endAll_2 := dk_seg dksX1_endAll_1 22 rfl rfl
theorem dX1_endAll_0 : decode cX1_endAll 0 = .ok (.iconst 0, 1) := dk_3 (dk_at dksX1_endAll_0 0 rfl rfl)
theorem dX1_endAll_1 : decode cX1_endAll 1 = .ok (.istore_n 1, 1) := dk_60 (dk_at dksX1_endAll_0 1 rfl rfl)
theorem dX1_endAll_2 : decode cX1_endAll 2 = .ok (.iconst 0, 1) := dk_3 (dk_at dksX1_endAll_0 2 rfl rfl)
theorem dX1_endAll_3 : decode cX1_endAll 3 = .ok (.istore_n 2, 1) := dk_61 (dk_at dksX1_endAll_0 3 rfl rfl)
theorem dX1_endAll_4 : decode cX1_endAll 4 = .ok (.iload_n 2, 1) := dk_28 (dk_at dksX1_endAll_0 4 rfl rfl)
theorem dX1_endAll_5 : decode cX1_endAll 5 = .ok (.iconst 4, 1) := dk_7 (dk_at dksX1_endAll_0 5 rfl rfl)
theorem dX1_endAll_6 : decode cX1_endAll 6 = .ok (.if_icmp .ge 54, 3) := dk_162 0 54 (dk_at dksX1_endAll_0 6 rfl rfl)
theorem dX1_endAll_9 : decode cX1_endAll 9 = .ok (.aload_n 0, 1) := dk_42 (dk_at dksX1_endAll_0 9 rfl rfl)
theorem dX1_endAll_10 : decode cX1_endAll 10 = .ok (.getfield 52, 3) := dk_180 0 52 (dk_at dksX1_endAll_0 10 rfl rfl)
theorem dX1_endAll_13 : decode cX1_endAll 13 = .ok (.getfield 87, 3) := dk_180 0 87 (dk_at dksX1_endAll_0 13 rfl rfl)
theorem dX1_endAll_16 : decode cX1_endAll 16 = .ok (.iload_n 2, 1) := dk_28 (dk_at dksX1_endAll_0 16 rfl rfl)
theorem dX1_endAll_17 : decode cX1_endAll 17 = .ok (.aaload, 1) := dk_50 (dk_at dksX1_endAll_0 17 rfl rfl)
theorem dX1_endAll_18 : decode cX1_endAll 18 = .ok (.astore_n 3, 1) := dk_78 (dk_at dksX1_endAll_0 18 rfl rfl)
theorem dX1_endAll_19 : decode cX1_endAll 19 = .ok (.aload_n 3, 1) := dk_45 (dk_at dksX1_endAll_0 19 rfl rfl)
theorem dX1_endAll_20 : decode cX1_endAll 20 = .ok (.getfield 211, 3) := dk_180 0 211 (dk_at dksX1_endAll_0 20 rfl rfl)
theorem dX1_endAll_23 : decode cX1_endAll 23 = .ok (.ifCond .eq 31, 3) := dk_153 0 31 (dk_at dksX1_endAll_1 0 rfl rfl)
theorem dX1_endAll_26 : decode cX1_endAll 26 = .ok (.aload_n 3, 1) := dk_45 (dk_at dksX1_endAll_1 3 rfl rfl)
theorem dX1_endAll_27 : decode cX1_endAll 27 = .ok (.getfield 248, 3) := dk_180 0 248 (dk_at dksX1_endAll_1 4 rfl rfl)
theorem dX1_endAll_30 : decode cX1_endAll 30 = .ok (.ifCond .ne 24, 3) := dk_154 0 24 (dk_at dksX1_endAll_1 7 rfl rfl)
theorem dX1_endAll_33 : decode cX1_endAll 33 = .ok (.aload_n 0, 1) := dk_42 (dk_at dksX1_endAll_1 10 rfl rfl)
theorem dX1_endAll_34 : decode cX1_endAll 34 = .ok (.dup, 1) := dk_89 (dk_at dksX1_endAll_1 11 rfl rfl)
theorem dX1_endAll_35 : decode cX1_endAll 35 = .ok (.getfield 229, 3) := dk_180 0 229 (dk_at dksX1_endAll_1 12 rfl rfl)
theorem dX1_endAll_38 : decode cX1_endAll 38 = .ok (.lconst 1, 1) := dk_10 (dk_at dksX1_endAll_1 15 rfl rfl)
theorem dX1_endAll_39 : decode cX1_endAll 39 = .ok (.ladd, 1) := dk_97 (dk_at dksX1_endAll_1 16 rfl rfl)
theorem dX1_endAll_40 : decode cX1_endAll 40 = .ok (.putfield 229, 3) := dk_181 0 229 (dk_at dksX1_endAll_1 17 rfl rfl)
theorem dX1_endAll_43 : decode cX1_endAll 43 = .ok (.aload_n 3, 1) := dk_45 (dk_at dksX1_endAll_1 20 rfl rfl)
theorem dX1_endAll_44 : decode cX1_endAll 44 = .ok (.aload_n 0, 1) := dk_42 (dk_at dksX1_endAll_1 21 rfl rfl)
theorem dX1_endAll_45 : decode cX1_endAll 45 = .ok (.getfield 229, 3) := dk_180 0 229 (dk_at dksX1_endAll_2 0 rfl rfl)
theorem dX1_endAll_48 : decode cX1_endAll 48 = .ok (.invokevirtual 244, 3) := dk_182 0 244 (dk_at dksX1_endAll_2 3 rfl rfl)
theorem dX1_endAll_51 : decode cX1_endAll 51 = .ok (.iinc 1 1, 3) := dk_132 1 1 (dk_at dksX1_endAll_2 6 rfl rfl)
theorem dX1_endAll_54 : decode cX1_endAll 54 = .ok (.iinc 2 1, 3) := dk_132 2 1 (dk_at dksX1_endAll_2 9 rfl rfl)
theorem dX1_endAll_57 : decode cX1_endAll 57 = .ok (.goto (-53), 3) := dk_167 255 203 (dk_at dksX1_endAll_2 12 rfl rfl)
theorem dX1_endAll_60 : decode cX1_endAll 60 = .ok (.iload_n 1, 1) := dk_27 (dk_at dksX1_endAll_2 15 rfl rfl)
theorem dX1_endAll_61 : decode cX1_endAll 61 = .ok (.ireturn, 1) := dk_172 (dk_at dksX1_endAll_2 16 rfl rfl)
abbrev cX1_sounding : ByteArray := prog_1_method_36_code
def yX1_sounding : MethodName := ⟨RX1, "sounding", "()I"⟩
def dkwX1_sounding_1 : List UInt8 := [153, 0, 7, 4, 167, 0, 4, 3, 96, 60, 132, 2, 1, 167, 255, 225, 27, 172]
abbrev dktX1_sounding_1 : List UInt8 := dkwX1_sounding_1 ++ []
def dkwX1_sounding_0 : List UInt8 := [3, 60, 3, 61, 28, 7, 162, 0, 32, 27, 42, 180, 0, 52, 180, 0, 87, 28, 50, 180, 0, 211]
abbrev dktX1_sounding_0 : List UInt8 := dkwX1_sounding_0 ++ dktX1_sounding_1
theorem dksX1_sounding_0 : cX1_sounding.data.toList.drop 0 = dktX1_sounding_0 := by decide +kernel
theorem dksX1_sounding_1 : cX1_sounding.data.toList.drop 22 = dktX1_sounding_1 := dk_seg dksX1_sounding_0 22 rfl rfl
theorem dX1_sounding_0 : decode cX1_sounding 0 = .ok (.iconst 0, 1) := dk_3 (dk_at dksX1_sounding_0 0 rfl rfl)
theorem dX1_sounding_1 : decode cX1_sounding 1 = .ok (.istore_n 1, 1) := dk_60 (dk_at dksX1_sounding_0 1 rfl rfl)
theorem dX1_sounding_2 : decode cX1_sounding 2 = .ok (.iconst 0, 1) := dk_3 (dk_at dksX1_sounding_0 2 rfl rfl)
theorem dX1_sounding_3 : decode cX1_sounding 3 = .ok (.istore_n 2, 1) := dk_61 (dk_at dksX1_sounding_0 3 rfl rfl)
theorem dX1_sounding_4 : decode cX1_sounding 4 = .ok (.iload_n 2, 1) := dk_28 (dk_at dksX1_sounding_0 4 rfl rfl)
theorem dX1_sounding_5 : decode cX1_sounding 5 = .ok (.iconst 4, 1) := dk_7 (dk_at dksX1_sounding_0 5 rfl rfl)
theorem dX1_sounding_6 : decode cX1_sounding 6 = .ok (.if_icmp .ge 32, 3) := dk_162 0 32 (dk_at dksX1_sounding_0 6 rfl rfl)
theorem dX1_sounding_9 : decode cX1_sounding 9 = .ok (.iload_n 1, 1) := dk_27 (dk_at dksX1_sounding_0 9 rfl rfl)
theorem dX1_sounding_10 : decode cX1_sounding 10 = .ok (.aload_n 0, 1) := dk_42 (dk_at dksX1_sounding_0 10 rfl rfl)
theorem dX1_sounding_11 : decode cX1_sounding 11 = .ok (.getfield 52, 3) := dk_180 0 52 (dk_at dksX1_sounding_0 11 rfl rfl)
theorem dX1_sounding_14 : decode cX1_sounding 14 = .ok (.getfield 87, 3) := dk_180 0 87 (dk_at dksX1_sounding_0 14 rfl rfl)
theorem dX1_sounding_17 : decode cX1_sounding 17 = .ok (.iload_n 2, 1) := dk_28 (dk_at dksX1_sounding_0 17 rfl rfl)
theorem dX1_sounding_18 : decode cX1_sounding 18 = .ok (.aaload, 1) := dk_50 (dk_at dksX1_sounding_0 18 rfl rfl)
theorem dX1_sounding_19 : decode cX1_sounding 19 = .ok (.getfield 211, 3) := dk_180 0 211 (dk_at dksX1_sounding_0 19 rfl rfl)
theorem dX1_sounding_22 : decode cX1_sounding 22 = .ok (.ifCond .eq 7, 3) := dk_153 0 7 (dk_at dksX1_sounding_1 0 rfl rfl)
theorem dX1_sounding_25 : decode cX1_sounding 25 = .ok (.iconst 1, 1) := dk_4 (dk_at dksX1_sounding_1 3 rfl rfl)
theorem dX1_sounding_26 : decode cX1_sounding 26 = .ok (.goto 4, 3) := dk_167 0 4 (dk_at dksX1_sounding_1 4 rfl rfl)
theorem dX1_sounding_29 : decode cX1_sounding 29 = .ok (.iconst 0, 1) := dk_3 (dk_at dksX1_sounding_1 7 rfl rfl)
theorem dX1_sounding_30 : decode cX1_sounding 30 = .ok (.iadd, 1) := dk_96 (dk_at dksX1_sounding_1 8 rfl rfl)
theorem dX1_sounding_31 : decode cX1_sounding 31 = .ok (.istore_n 1, 1) := dk_60 (dk_at dksX1_sounding_1 9 rfl rfl)
theorem dX1_sounding_32 : decode cX1_sounding 32 = .ok (.iinc 2 1, 3) := dk_132 2 1 (dk_at dksX1_sounding_1 10 rfl rfl)
theorem dX1_sounding_35 : decode cX1_sounding 35 = .ok (.goto (-31), 3) := dk_167 255 225 (dk_at dksX1_sounding_1 13 rfl rfl)
theorem dX1_sounding_38 : decode cX1_sounding 38 = .ok (.iload_n 1, 1) := dk_27 (dk_at dksX1_sounding_1 16 rfl rfl)
theorem dX1_sounding_39 : decode cX1_sounding 39 = .ok (.ireturn, 1) := dk_172 (dk_at dksX1_sounding_1 17 rfl rfl)
abbrev cX1_stolen : ByteArray := prog_1_method_42_code
def yX1_stolen : MethodName := ⟨RX1, "stolen", "()I"⟩
theorem dX1_stolen_0 : decode cX1_stolen 0 = .ok (.aload_n 0, 1) := by decide +kernel
theorem dX1_stolen_1 : decode cX1_stolen 1 = .ok (.getfield 214, 3) := by decide +kernel
theorem dX1_stolen_4 : decode cX1_stolen 4 = .ok (.ireturn, 1) := by decide +kernel
abbrev cX1_step : ByteArray := prog_1_method_47_code
def yX1_step : MethodName := ⟨RX1, "step", "()I"⟩
def dkwX1_step_0 : List UInt8 := [42, 182, 1, 54, 42, 42, 180, 0, 60, 180, 1, 51, 182, 1, 48, 42, 180, 0, 60, 180, 1, 51, 172]
abbrev dktX1_step_0 : List UInt8 := dkwX1_step_0 ++ []
theorem dksX1_step_0 : cX1_step.data.toList.drop 0 = dktX1_step_0 := by decide +kernel
theorem dX1_step_0 : decode cX1_step 0 = .ok (.aload_n 0, 1) := dk_42 (dk_at dksX1_step_0 0 rfl rfl)
theorem dX1_step_1 : decode cX1_step 1 = .ok (.invokevirtual 310, 3) := dk_182 1 54 (dk_at dksX1_step_0 1 rfl rfl)
theorem dX1_step_4 : decode cX1_step 4 = .ok (.aload_n 0, 1) := dk_42 (dk_at dksX1_step_0 4 rfl rfl)
theorem dX1_step_5 : decode cX1_step 5 = .ok (.aload_n 0, 1) := dk_42 (dk_at dksX1_step_0 5 rfl rfl)
theorem dX1_step_6 : decode cX1_step 6 = .ok (.getfield 60, 3) := dk_180 0 60 (dk_at dksX1_step_0 6 rfl rfl)
theorem dX1_step_9 : decode cX1_step 9 = .ok (.getfield 307, 3) := dk_180 1 51 (dk_at dksX1_step_0 9 rfl rfl)
theorem dX1_step_12 : decode cX1_step 12 = .ok (.invokevirtual 304, 3) := dk_182 1 48 (dk_at dksX1_step_0 12 rfl rfl)
theorem dX1_step_15 : decode cX1_step 15 = .ok (.aload_n 0, 1) := dk_42 (dk_at dksX1_step_0 15 rfl rfl)
theorem dX1_step_16 : decode cX1_step 16 = .ok (.getfield 60, 3) := dk_180 0 60 (dk_at dksX1_step_0 16 rfl rfl)
theorem dX1_step_19 : decode cX1_step 19 = .ok (.getfield 307, 3) := dk_180 1 51 (dk_at dksX1_step_0 19 rfl rfl)
theorem dX1_step_22 : decode cX1_step 22 = .ok (.ireturn, 1) := dk_172 (dk_at dksX1_step_0 22 rfl rfl)
abbrev cX1_tick : ByteArray := prog_1_method_43_code
def yX1_tick : MethodName := ⟨RX1, "tick", "()V"⟩
def dkwX1_tick_2 : List UInt8 := [180, 0, 31, 27, 182, 0, 81, 192, 0, 85, 182, 1, 17, 132, 1, 1, 167, 255, 228, 177]
abbrev dktX1_tick_2 : List UInt8 := dkwX1_tick_2 ++ []
def dkwX1_tick_1 : List UInt8 := [182, 1, 14, 132, 1, 1, 167, 255, 228, 3, 60, 27, 42, 180, 0, 31, 182, 0, 70, 162, 0, 23, 42]
abbrev dktX1_tick_1 : List UInt8 := dkwX1_tick_1 ++ dktX1_tick_2
def dkwX1_tick_0 : List UInt8 := [3, 60, 27, 42, 180, 0, 31, 182, 0, 70, 162, 0, 23, 42, 180, 0, 31, 27, 182, 0, 81, 192, 0, 85]
abbrev dktX1_tick_0 : List UInt8 := dkwX1_tick_0 ++ dktX1_tick_1
theorem dksX1_tick_0 : cX1_tick.data.toList.drop 0 = dktX1_tick_0 := by decide +kernel
theorem dksX1_tick_1 : cX1_tick.data.toList.drop 24 = dktX1_tick_1 := dk_seg dksX1_tick_0 24 rfl rfl
theorem dksX1_tick_2 : cX1_tick.data.toList.drop 47 = dktX1_tick_2 := dk_seg dksX1_tick_1 23 rfl rfl
theorem dX1_tick_0 : decode cX1_tick 0 = .ok (.iconst 0, 1) := dk_3 (dk_at dksX1_tick_0 0 rfl rfl)
theorem dX1_tick_1 : decode cX1_tick 1 = .ok (.istore_n 1, 1) := dk_60 (dk_at dksX1_tick_0 1 rfl rfl)
theorem dX1_tick_2 : decode cX1_tick 2 = .ok (.iload_n 1, 1) := dk_27 (dk_at dksX1_tick_0 2 rfl rfl)
theorem dX1_tick_3 : decode cX1_tick 3 = .ok (.aload_n 0, 1) := dk_42 (dk_at dksX1_tick_0 3 rfl rfl)
theorem dX1_tick_4 : decode cX1_tick 4 = .ok (.getfield 31, 3) := dk_180 0 31 (dk_at dksX1_tick_0 4 rfl rfl)
theorem dX1_tick_7 : decode cX1_tick 7 = .ok (.invokevirtual 70, 3) := dk_182 0 70 (dk_at dksX1_tick_0 7 rfl rfl)
theorem dX1_tick_10 : decode cX1_tick 10 = .ok (.if_icmp .ge 23, 3) := dk_162 0 23 (dk_at dksX1_tick_0 10 rfl rfl)
theorem dX1_tick_13 : decode cX1_tick 13 = .ok (.aload_n 0, 1) := dk_42 (dk_at dksX1_tick_0 13 rfl rfl)
theorem dX1_tick_14 : decode cX1_tick 14 = .ok (.getfield 31, 3) := dk_180 0 31 (dk_at dksX1_tick_0 14 rfl rfl)
theorem dX1_tick_17 : decode cX1_tick 17 = .ok (.iload_n 1, 1) := dk_27 (dk_at dksX1_tick_0 17 rfl rfl)
theorem dX1_tick_18 : decode cX1_tick 18 = .ok (.invokevirtual 81, 3) := dk_182 0 81 (dk_at dksX1_tick_0 18 rfl rfl)
theorem dX1_tick_21 : decode cX1_tick 21 = .ok (.checkcast 85, 3) := dk_192 0 85 (dk_at dksX1_tick_0 21 rfl rfl)
theorem dX1_tick_24 : decode cX1_tick 24 = .ok (.invokevirtual 270, 3) := dk_182 1 14 (dk_at dksX1_tick_1 0 rfl rfl)
theorem dX1_tick_27 : decode cX1_tick 27 = .ok (.iinc 1 1, 3) := dk_132 1 1 (dk_at dksX1_tick_1 3 rfl rfl)
theorem dX1_tick_30 : decode cX1_tick 30 = .ok (.goto (-28), 3) := dk_167 255 228 (dk_at dksX1_tick_1 6 rfl rfl)
theorem dX1_tick_33 : decode cX1_tick 33 = .ok (.iconst 0, 1) := dk_3 (dk_at dksX1_tick_1 9 rfl rfl)
theorem dX1_tick_34 : decode cX1_tick 34 = .ok (.istore_n 1, 1) := dk_60 (dk_at dksX1_tick_1 10 rfl rfl)
theorem dX1_tick_35 : decode cX1_tick 35 = .ok (.iload_n 1, 1) := dk_27 (dk_at dksX1_tick_1 11 rfl rfl)
theorem dX1_tick_36 : decode cX1_tick 36 = .ok (.aload_n 0, 1) := dk_42 (dk_at dksX1_tick_1 12 rfl rfl)
theorem dX1_tick_37 : decode cX1_tick 37 = .ok (.getfield 31, 3) := dk_180 0 31 (dk_at dksX1_tick_1 13 rfl rfl)
theorem dX1_tick_40 : decode cX1_tick 40 = .ok (.invokevirtual 70, 3) := dk_182 0 70 (dk_at dksX1_tick_1 16 rfl rfl)
theorem dX1_tick_43 : decode cX1_tick 43 = .ok (.if_icmp .ge 23, 3) := dk_162 0 23 (dk_at dksX1_tick_1 19 rfl rfl)
theorem dX1_tick_46 : decode cX1_tick 46 = .ok (.aload_n 0, 1) := dk_42 (dk_at dksX1_tick_1 22 rfl rfl)
theorem dX1_tick_47 : decode cX1_tick 47 = .ok (.getfield 31, 3) := dk_180 0 31 (dk_at dksX1_tick_2 0 rfl rfl)
theorem dX1_tick_50 : decode cX1_tick 50 = .ok (.iload_n 1, 1) := dk_27 (dk_at dksX1_tick_2 3 rfl rfl)
theorem dX1_tick_51 : decode cX1_tick 51 = .ok (.invokevirtual 81, 3) := dk_182 0 81 (dk_at dksX1_tick_2 4 rfl rfl)
theorem dX1_tick_54 : decode cX1_tick 54 = .ok (.checkcast 85, 3) := dk_192 0 85 (dk_at dksX1_tick_2 7 rfl rfl)
theorem dX1_tick_57 : decode cX1_tick 57 = .ok (.invokevirtual 273, 3) := dk_182 1 17 (dk_at dksX1_tick_2 10 rfl rfl)
theorem dX1_tick_60 : decode cX1_tick 60 = .ok (.iinc 1 1, 3) := dk_132 1 1 (dk_at dksX1_tick_2 13 rfl rfl)
theorem dX1_tick_63 : decode cX1_tick 63 = .ok (.goto (-28), 3) := dk_167 255 228 (dk_at dksX1_tick_2 16 rfl rfl)
theorem dX1_tick_66 : decode cX1_tick 66 = .ok (.return_, 1) := dk_177 (dk_at dksX1_tick_2 19 rfl rfl)
abbrev cX1_cut : ByteArray := prog_1_method_2_code
def yX1_cut : MethodName := ⟨RX1, "cut", "(I)I"⟩
def dkwX1_cut_0 : List UInt8 := [17, 128, 1, 17, 127, 255, 26, 184, 0, 3, 184, 0, 9, 172]
abbrev dktX1_cut_0 : List UInt8 := dkwX1_cut_0 ++ []
theorem dksX1_cut_0 : cX1_cut.data.toList.drop 0 = dktX1_cut_0 := by decide +kernel
theorem dX1_cut_0 : decode cX1_cut 0 = .ok (.sipush (-32767), 3) := dk_17 128 1 (dk_at dksX1_cut_0 0 rfl rfl)
theorem dX1_cut_3 : decode cX1_cut 3 = .ok (.sipush 32767, 3) := dk_17 127 255 (dk_at dksX1_cut_0 3 rfl rfl)
theorem dX1_cut_6 : decode cX1_cut 6 = .ok (.iload_n 0, 1) := dk_26 (dk_at dksX1_cut_0 6 rfl rfl)
theorem dX1_cut_7 : decode cX1_cut 7 = .ok (.invokestatic 3, 3) := dk_184 0 3 (dk_at dksX1_cut_0 7 rfl rfl)
theorem dX1_cut_10 : decode cX1_cut 10 = .ok (.invokestatic 9, 3) := dk_184 0 9 (dk_at dksX1_cut_0 10 rfl rfl)
theorem dX1_cut_13 : decode cX1_cut 13 = .ok (.ireturn, 1) := dk_172 (dk_at dksX1_cut_0 13 rfl rfl)
abbrev cX1_hear : ByteArray := prog_1_method_45_code
def yX1_hear : MethodName := ⟨RX1, "hear", "(I)V"⟩
def dkwX1_hear_2 : List UInt8 := [167, 0, 4, 3, 96, 181, 1, 35, 42, 89, 180, 1, 38, 27, 133, 27, 133, 105, 97, 181, 1, 38, 177]
abbrev dktX1_hear_2 : List UInt8 := dkwX1_hear_2 ++ []
def dkwX1_hear_1 : List UInt8 := [42, 180, 1, 28, 27, 184, 1, 31, 184, 0, 9, 181, 1, 28, 42, 89, 180, 1, 35, 27, 154, 0, 7, 4]
abbrev dktX1_hear_1 : List UInt8 := dkwX1_hear_1 ++ dktX1_hear_2
def dkwX1_hear_0 : List UInt8 := [42, 180, 0, 45, 42, 180, 1, 25, 16, 64, 112, 27, 79, 42, 89, 180, 1, 25, 4, 96, 181, 1, 25, 42]
abbrev dktX1_hear_0 : List UInt8 := dkwX1_hear_0 ++ dktX1_hear_1
theorem dksX1_hear_0 : cX1_hear.data.toList.drop 0 = dktX1_hear_0 := by decide +kernel
theorem dksX1_hear_1 : cX1_hear.data.toList.drop 24 = dktX1_hear_1 := dk_seg dksX1_hear_0 24 rfl rfl
theorem dksX1_hear_2 : cX1_hear.data.toList.drop 48 = dktX1_hear_2 := dk_seg dksX1_hear_1 24 rfl rfl
theorem dX1_hear_0 : decode cX1_hear 0 = .ok (.aload_n 0, 1) := dk_42 (dk_at dksX1_hear_0 0 rfl rfl)
theorem dX1_hear_1 : decode cX1_hear 1 = .ok (.getfield 45, 3) := dk_180 0 45 (dk_at dksX1_hear_0 1 rfl rfl)
theorem dX1_hear_4 : decode cX1_hear 4 = .ok (.aload_n 0, 1) := dk_42 (dk_at dksX1_hear_0 4 rfl rfl)
theorem dX1_hear_5 : decode cX1_hear 5 = .ok (.getfield 281, 3) := dk_180 1 25 (dk_at dksX1_hear_0 5 rfl rfl)
theorem dX1_hear_8 : decode cX1_hear 8 = .ok (.bipush 64, 2) := dk_16 64 (dk_at dksX1_hear_0 8 rfl rfl)
theorem dX1_hear_10 : decode cX1_hear 10 = .ok (.irem, 1) := dk_112 (dk_at dksX1_hear_0 10 rfl rfl)
theorem dX1_hear_11 : decode cX1_hear 11 = .ok (.iload_n 1, 1) := dk_27 (dk_at dksX1_hear_0 11 rfl rfl)
theorem dX1_hear_12 : decode cX1_hear 12 = .ok (.iastore, 1) := dk_79 (dk_at dksX1_hear_0 12 rfl rfl)
theorem dX1_hear_13 : decode cX1_hear 13 = .ok (.aload_n 0, 1) := dk_42 (dk_at dksX1_hear_0 13 rfl rfl)
theorem dX1_hear_14 : decode cX1_hear 14 = .ok (.dup, 1) := dk_89 (dk_at dksX1_hear_0 14 rfl rfl)
theorem dX1_hear_15 : decode cX1_hear 15 = .ok (.getfield 281, 3) := dk_180 1 25 (dk_at dksX1_hear_0 15 rfl rfl)
theorem dX1_hear_18 : decode cX1_hear 18 = .ok (.iconst 1, 1) := dk_4 (dk_at dksX1_hear_0 18 rfl rfl)
theorem dX1_hear_19 : decode cX1_hear 19 = .ok (.iadd, 1) := dk_96 (dk_at dksX1_hear_0 19 rfl rfl)
theorem dX1_hear_20 : decode cX1_hear 20 = .ok (.putfield 281, 3) := dk_181 1 25 (dk_at dksX1_hear_0 20 rfl rfl)
theorem dX1_hear_23 : decode cX1_hear 23 = .ok (.aload_n 0, 1) := dk_42 (dk_at dksX1_hear_0 23 rfl rfl)
theorem dX1_hear_24 : decode cX1_hear 24 = .ok (.aload_n 0, 1) := dk_42 (dk_at dksX1_hear_1 0 rfl rfl)
theorem dX1_hear_25 : decode cX1_hear 25 = .ok (.getfield 284, 3) := dk_180 1 28 (dk_at dksX1_hear_1 1 rfl rfl)
theorem dX1_hear_28 : decode cX1_hear 28 = .ok (.iload_n 1, 1) := dk_27 (dk_at dksX1_hear_1 4 rfl rfl)
theorem dX1_hear_29 : decode cX1_hear 29 = .ok (.invokestatic 287, 3) := dk_184 1 31 (dk_at dksX1_hear_1 5 rfl rfl)
theorem dX1_hear_32 : decode cX1_hear 32 = .ok (.invokestatic 9, 3) := dk_184 0 9 (dk_at dksX1_hear_1 8 rfl rfl)
theorem dX1_hear_35 : decode cX1_hear 35 = .ok (.putfield 284, 3) := dk_181 1 28 (dk_at dksX1_hear_1 11 rfl rfl)
theorem dX1_hear_38 : decode cX1_hear 38 = .ok (.aload_n 0, 1) := dk_42 (dk_at dksX1_hear_1 14 rfl rfl)
theorem dX1_hear_39 : decode cX1_hear 39 = .ok (.dup, 1) := dk_89 (dk_at dksX1_hear_1 15 rfl rfl)
theorem dX1_hear_40 : decode cX1_hear 40 = .ok (.getfield 291, 3) := dk_180 1 35 (dk_at dksX1_hear_1 16 rfl rfl)
theorem dX1_hear_43 : decode cX1_hear 43 = .ok (.iload_n 1, 1) := dk_27 (dk_at dksX1_hear_1 19 rfl rfl)
theorem dX1_hear_44 : decode cX1_hear 44 = .ok (.ifCond .ne 7, 3) := dk_154 0 7 (dk_at dksX1_hear_1 20 rfl rfl)
theorem dX1_hear_47 : decode cX1_hear 47 = .ok (.iconst 1, 1) := dk_4 (dk_at dksX1_hear_1 23 rfl rfl)
theorem dX1_hear_48 : decode cX1_hear 48 = .ok (.goto 4, 3) := dk_167 0 4 (dk_at dksX1_hear_2 0 rfl rfl)
theorem dX1_hear_51 : decode cX1_hear 51 = .ok (.iconst 0, 1) := dk_3 (dk_at dksX1_hear_2 3 rfl rfl)
theorem dX1_hear_52 : decode cX1_hear 52 = .ok (.iadd, 1) := dk_96 (dk_at dksX1_hear_2 4 rfl rfl)
theorem dX1_hear_53 : decode cX1_hear 53 = .ok (.putfield 291, 3) := dk_181 1 35 (dk_at dksX1_hear_2 5 rfl rfl)
theorem dX1_hear_56 : decode cX1_hear 56 = .ok (.aload_n 0, 1) := dk_42 (dk_at dksX1_hear_2 8 rfl rfl)
theorem dX1_hear_57 : decode cX1_hear 57 = .ok (.dup, 1) := dk_89 (dk_at dksX1_hear_2 9 rfl rfl)
theorem dX1_hear_58 : decode cX1_hear 58 = .ok (.getfield 294, 3) := dk_180 1 38 (dk_at dksX1_hear_2 10 rfl rfl)
theorem dX1_hear_61 : decode cX1_hear 61 = .ok (.iload_n 1, 1) := dk_27 (dk_at dksX1_hear_2 13 rfl rfl)
theorem dX1_hear_62 : decode cX1_hear 62 = .ok (.i2l, 1) := dk_133 (dk_at dksX1_hear_2 14 rfl rfl)
theorem dX1_hear_63 : decode cX1_hear 63 = .ok (.iload_n 1, 1) := dk_27 (dk_at dksX1_hear_2 15 rfl rfl)
theorem dX1_hear_64 : decode cX1_hear 64 = .ok (.i2l, 1) := dk_133 (dk_at dksX1_hear_2 16 rfl rfl)
theorem dX1_hear_65 : decode cX1_hear 65 = .ok (.lmul, 1) := dk_105 (dk_at dksX1_hear_2 17 rfl rfl)
theorem dX1_hear_66 : decode cX1_hear 66 = .ok (.ladd, 1) := dk_97 (dk_at dksX1_hear_2 18 rfl rfl)
theorem dX1_hear_67 : decode cX1_hear 67 = .ok (.putfield 294, 3) := dk_181 1 38 (dk_at dksX1_hear_2 19 rfl rfl)
theorem dX1_hear_70 : decode cX1_hear 70 = .ok (.return_, 1) := dk_177 (dk_at dksX1_hear_2 22 rfl rfl)
abbrev cX1_time : ByteArray := prog_1_method_54_code
def yX1_time : MethodName := ⟨RX1, "time", "()I"⟩
theorem dX1_time_0 : decode cX1_time 0 = .ok (.aload_n 0, 1) := by decide +kernel
theorem dX1_time_1 : decode cX1_time 1 = .ok (.getfield 281, 3) := by decide +kernel
theorem dX1_time_4 : decode cX1_time 4 = .ok (.ireturn, 1) := by decide +kernel
abbrev cX1_greatest : ByteArray := prog_1_method_55_code
def yX1_greatest : MethodName := ⟨RX1, "greatest", "()I"⟩
theorem dX1_greatest_0 : decode cX1_greatest 0 = .ok (.aload_n 0, 1) := by decide +kernel
theorem dX1_greatest_1 : decode cX1_greatest 1 = .ok (.getfield 284, 3) := by decide +kernel
theorem dX1_greatest_4 : decode cX1_greatest 4 = .ok (.ireturn, 1) := by decide +kernel
abbrev cX1_energy : ByteArray := prog_1_method_56_code
def yX1_energy : MethodName := ⟨RX1, "energy", "()J"⟩
theorem dX1_energy_0 : decode cX1_energy 0 = .ok (.aload_n 0, 1) := by decide +kernel
theorem dX1_energy_1 : decode cX1_energy 1 = .ok (.getfield 294, 3) := by decide +kernel
theorem dX1_energy_4 : decode cX1_energy 4 = .ok (.lreturn, 1) := by decide +kernel
abbrev cX1_isConsistent : ByteArray := prog_1_method_61_code
def yX1_isConsistent : MethodName := ⟨RX1, "isConsistent", "()Z"⟩
def dkwX1_isConsistent_4 : List UInt8 := [126, 60, 132, 2, 1, 167, 255, 224, 27, 172]
abbrev dktX1_isConsistent_4 : List UInt8 := dkwX1_isConsistent_4 ++ []
def dkwX1_isConsistent_3 : List UInt8 := [163, 0, 32, 27, 42, 28, 182, 1, 73, 42, 28, 16, 7, 182, 1, 76, 160, 0, 7, 4, 167, 0, 4, 3]
abbrev dktX1_isConsistent_3 : List UInt8 := dkwX1_isConsistent_3 ++ dktX1_isConsistent_4
def dkwX1_isConsistent_2 : List UInt8 := [182, 1, 8, 3, 17, 3, 232, 184, 0, 74, 126, 60, 132, 2, 1, 167, 255, 226, 4, 61, 28, 16, 20]
abbrev dktX1_isConsistent_2 : List UInt8 := dkwX1_isConsistent_2 ++ dktX1_isConsistent_3
def dkwX1_isConsistent_1 : List UInt8 := [132, 2, 1, 167, 255, 234, 3, 61, 28, 7, 162, 0, 31, 27, 42, 180, 0, 52, 180, 0, 87, 28, 50]
abbrev dktX1_isConsistent_1 : List UInt8 := dkwX1_isConsistent_1 ++ dktX1_isConsistent_2
def dkwX1_isConsistent_0 : List UInt8 := [4, 60, 3, 61, 28, 42, 180, 0, 31, 182, 0, 70, 162, 0, 17, 27, 42, 28, 182, 1, 69, 126, 60]
abbrev dktX1_isConsistent_0 : List UInt8 := dkwX1_isConsistent_0 ++ dktX1_isConsistent_1
theorem dksX1_isConsistent_0 : cX1_isConsistent.data.toList.drop 0 = dktX1_isConsistent_0 := by decide +kernel
theorem dksX1_isConsistent_1 : cX1_isConsistent.data.toList.drop 23 = dktX1_isConsistent_1 := dk_seg dksX1_isConsistent_0 23 rfl rfl
theorem dksX1_isConsistent_2 : cX1_isConsistent.data.toList.drop 46 = dktX1_isConsistent_2 := dk_seg dksX1_isConsistent_1 23 rfl rfl
theorem dksX1_isConsistent_3 : cX1_isConsistent.data.toList.drop 69 = dktX1_isConsistent_3 := dk_seg dksX1_isConsistent_2 23 rfl rfl
theorem dksX1_isConsistent_4 : cX1_isConsistent.data.toList.drop 93 = dktX1_isConsistent_4 := dk_seg dksX1_isConsistent_3 24 rfl rfl
theorem dX1_isConsistent_0 : decode cX1_isConsistent 0 = .ok (.iconst 1, 1) := dk_4 (dk_at dksX1_isConsistent_0 0 rfl rfl)
theorem dX1_isConsistent_1 : decode cX1_isConsistent 1 = .ok (.istore_n 1, 1) := dk_60 (dk_at dksX1_isConsistent_0 1 rfl rfl)
theorem dX1_isConsistent_2 : decode cX1_isConsistent 2 = .ok (.iconst 0, 1) := dk_3 (dk_at dksX1_isConsistent_0 2 rfl rfl)
theorem dX1_isConsistent_3 : decode cX1_isConsistent 3 = .ok (.istore_n 2, 1) := dk_61 (dk_at dksX1_isConsistent_0 3 rfl rfl)
theorem dX1_isConsistent_4 : decode cX1_isConsistent 4 = .ok (.iload_n 2, 1) := dk_28 (dk_at dksX1_isConsistent_0 4 rfl rfl)
theorem dX1_isConsistent_5 : decode cX1_isConsistent 5 = .ok (.aload_n 0, 1) := dk_42 (dk_at dksX1_isConsistent_0 5 rfl rfl)
theorem dX1_isConsistent_6 : decode cX1_isConsistent 6 = .ok (.getfield 31, 3) := dk_180 0 31 (dk_at dksX1_isConsistent_0 6 rfl rfl)
theorem dX1_isConsistent_9 : decode cX1_isConsistent 9 = .ok (.invokevirtual 70, 3) := dk_182 0 70 (dk_at dksX1_isConsistent_0 9 rfl rfl)
theorem dX1_isConsistent_12 : decode cX1_isConsistent 12 = .ok (.if_icmp .ge 17, 3) := dk_162 0 17 (dk_at dksX1_isConsistent_0 12 rfl rfl)
theorem dX1_isConsistent_15 : decode cX1_isConsistent 15 = .ok (.iload_n 1, 1) := dk_27 (dk_at dksX1_isConsistent_0 15 rfl rfl)
theorem dX1_isConsistent_16 : decode cX1_isConsistent 16 = .ok (.aload_n 0, 1) := dk_42 (dk_at dksX1_isConsistent_0 16 rfl rfl)
theorem dX1_isConsistent_17 : decode cX1_isConsistent 17 = .ok (.iload_n 2, 1) := dk_28 (dk_at dksX1_isConsistent_0 17 rfl rfl)
theorem dX1_isConsistent_18 : decode cX1_isConsistent 18 = .ok (.invokevirtual 325, 3) := dk_182 1 69 (dk_at dksX1_isConsistent_0 18 rfl rfl)
theorem dX1_isConsistent_21 : decode cX1_isConsistent 21 = .ok (.iand, 1) := dk_126 (dk_at dksX1_isConsistent_0 21 rfl rfl)
theorem dX1_isConsistent_22 : decode cX1_isConsistent 22 = .ok (.istore_n 1, 1) := dk_60 (dk_at dksX1_isConsistent_0 22 rfl rfl)
theorem dX1_isConsistent_23 : decode cX1_isConsistent 23 = .ok (.iinc 2 1, 3) := dk_132 2 1 (dk_at dksX1_isConsistent_1 0 rfl rfl)
theorem dX1_isConsistent_26 : decode cX1_isConsistent 26 = .ok (.goto (-22), 3) := dk_167 255 234 (dk_at dksX1_isConsistent_1 3 rfl rfl)
theorem dX1_isConsistent_29 : decode cX1_isConsistent 29 = .ok (.iconst 0, 1) := dk_3 (dk_at dksX1_isConsistent_1 6 rfl rfl)
theorem dX1_isConsistent_30 : decode cX1_isConsistent 30 = .ok (.istore_n 2, 1) := dk_61 (dk_at dksX1_isConsistent_1 7 rfl rfl)
theorem dX1_isConsistent_31 : decode cX1_isConsistent 31 = .ok (.iload_n 2, 1) := dk_28 (dk_at dksX1_isConsistent_1 8 rfl rfl)
theorem dX1_isConsistent_32 : decode cX1_isConsistent 32 = .ok (.iconst 4, 1) := dk_7 (dk_at dksX1_isConsistent_1 9 rfl rfl)
theorem dX1_isConsistent_33 : decode cX1_isConsistent 33 = .ok (.if_icmp .ge 31, 3) := dk_162 0 31 (dk_at dksX1_isConsistent_1 10 rfl rfl)
theorem dX1_isConsistent_36 : decode cX1_isConsistent 36 = .ok (.iload_n 1, 1) := dk_27 (dk_at dksX1_isConsistent_1 13 rfl rfl)
theorem dX1_isConsistent_37 : decode cX1_isConsistent 37 = .ok (.aload_n 0, 1) := dk_42 (dk_at dksX1_isConsistent_1 14 rfl rfl)
theorem dX1_isConsistent_38 : decode cX1_isConsistent 38 = .ok (.getfield 52, 3) := dk_180 0 52 (dk_at dksX1_isConsistent_1 15 rfl rfl)
theorem dX1_isConsistent_41 : decode cX1_isConsistent 41 = .ok (.getfield 87, 3) := dk_180 0 87 (dk_at dksX1_isConsistent_1 18 rfl rfl)
theorem dX1_isConsistent_44 : decode cX1_isConsistent 44 = .ok (.iload_n 2, 1) := dk_28 (dk_at dksX1_isConsistent_1 21 rfl rfl)
theorem dX1_isConsistent_45 : decode cX1_isConsistent 45 = .ok (.aaload, 1) := dk_50 (dk_at dksX1_isConsistent_1 22 rfl rfl)
theorem dX1_isConsistent_46 : decode cX1_isConsistent 46 = .ok (.invokevirtual 264, 3) := dk_182 1 8 (dk_at dksX1_isConsistent_2 0 rfl rfl)
theorem dX1_isConsistent_49 : decode cX1_isConsistent 49 = .ok (.iconst 0, 1) := dk_3 (dk_at dksX1_isConsistent_2 3 rfl rfl)
theorem dX1_isConsistent_50 : decode cX1_isConsistent 50 = .ok (.sipush 1000, 3) := dk_17 3 232 (dk_at dksX1_isConsistent_2 4 rfl rfl)
theorem dX1_isConsistent_53 : decode cX1_isConsistent 53 = .ok (.invokestatic 74, 3) := dk_184 0 74 (dk_at dksX1_isConsistent_2 7 rfl rfl)
theorem dX1_isConsistent_56 : decode cX1_isConsistent 56 = .ok (.iand, 1) := dk_126 (dk_at dksX1_isConsistent_2 10 rfl rfl)
theorem dX1_isConsistent_57 : decode cX1_isConsistent 57 = .ok (.istore_n 1, 1) := dk_60 (dk_at dksX1_isConsistent_2 11 rfl rfl)
theorem dX1_isConsistent_58 : decode cX1_isConsistent 58 = .ok (.iinc 2 1, 3) := dk_132 2 1 (dk_at dksX1_isConsistent_2 12 rfl rfl)
theorem dX1_isConsistent_61 : decode cX1_isConsistent 61 = .ok (.goto (-30), 3) := dk_167 255 226 (dk_at dksX1_isConsistent_2 15 rfl rfl)
theorem dX1_isConsistent_64 : decode cX1_isConsistent 64 = .ok (.iconst 1, 1) := dk_4 (dk_at dksX1_isConsistent_2 18 rfl rfl)
theorem dX1_isConsistent_65 : decode cX1_isConsistent 65 = .ok (.istore_n 2, 1) := dk_61 (dk_at dksX1_isConsistent_2 19 rfl rfl)
theorem dX1_isConsistent_66 : decode cX1_isConsistent 66 = .ok (.iload_n 2, 1) := dk_28 (dk_at dksX1_isConsistent_2 20 rfl rfl)
theorem dX1_isConsistent_67 : decode cX1_isConsistent 67 = .ok (.bipush 20, 2) := dk_16 20 (dk_at dksX1_isConsistent_2 21 rfl rfl)
theorem dX1_isConsistent_69 : decode cX1_isConsistent 69 = .ok (.if_icmp .gt 32, 3) := dk_163 0 32 (dk_at dksX1_isConsistent_3 0 rfl rfl)
theorem dX1_isConsistent_72 : decode cX1_isConsistent 72 = .ok (.iload_n 1, 1) := dk_27 (dk_at dksX1_isConsistent_3 3 rfl rfl)
theorem dX1_isConsistent_73 : decode cX1_isConsistent 73 = .ok (.aload_n 0, 1) := dk_42 (dk_at dksX1_isConsistent_3 4 rfl rfl)
theorem dX1_isConsistent_74 : decode cX1_isConsistent 74 = .ok (.iload_n 2, 1) := dk_28 (dk_at dksX1_isConsistent_3 5 rfl rfl)
theorem dX1_isConsistent_75 : decode cX1_isConsistent 75 = .ok (.invokevirtual 329, 3) := dk_182 1 73 (dk_at dksX1_isConsistent_3 6 rfl rfl)
theorem dX1_isConsistent_78 : decode cX1_isConsistent 78 = .ok (.aload_n 0, 1) := dk_42 (dk_at dksX1_isConsistent_3 9 rfl rfl)
theorem dX1_isConsistent_79 : decode cX1_isConsistent 79 = .ok (.iload_n 2, 1) := dk_28 (dk_at dksX1_isConsistent_3 10 rfl rfl)
theorem dX1_isConsistent_80 : decode cX1_isConsistent 80 = .ok (.bipush 7, 2) := dk_16 7 (dk_at dksX1_isConsistent_3 11 rfl rfl)
theorem dX1_isConsistent_82 : decode cX1_isConsistent 82 = .ok (.invokevirtual 332, 3) := dk_182 1 76 (dk_at dksX1_isConsistent_3 13 rfl rfl)
theorem dX1_isConsistent_85 : decode cX1_isConsistent 85 = .ok (.if_icmp .ne 7, 3) := dk_160 0 7 (dk_at dksX1_isConsistent_3 16 rfl rfl)
theorem dX1_isConsistent_88 : decode cX1_isConsistent 88 = .ok (.iconst 1, 1) := dk_4 (dk_at dksX1_isConsistent_3 19 rfl rfl)
theorem dX1_isConsistent_89 : decode cX1_isConsistent 89 = .ok (.goto 4, 3) := dk_167 0 4 (dk_at dksX1_isConsistent_3 20 rfl rfl)
theorem dX1_isConsistent_92 : decode cX1_isConsistent 92 = .ok (.iconst 0, 1) := dk_3 (dk_at dksX1_isConsistent_3 23 rfl rfl)
theorem dX1_isConsistent_93 : decode cX1_isConsistent 93 = .ok (.iand, 1) := dk_126 (dk_at dksX1_isConsistent_4 0 rfl rfl)
theorem dX1_isConsistent_94 : decode cX1_isConsistent 94 = .ok (.istore_n 1, 1) := dk_60 (dk_at dksX1_isConsistent_4 1 rfl rfl)
theorem dX1_isConsistent_95 : decode cX1_isConsistent 95 = .ok (.iinc 2 1, 3) := dk_132 2 1 (dk_at dksX1_isConsistent_4 2 rfl rfl)
theorem dX1_isConsistent_98 : decode cX1_isConsistent 98 = .ok (.goto (-32), 3) := dk_167 255 224 (dk_at dksX1_isConsistent_4 5 rfl rfl)
theorem dX1_isConsistent_101 : decode cX1_isConsistent 101 = .ok (.iload_n 1, 1) := dk_27 (dk_at dksX1_isConsistent_4 8 rfl rfl)
theorem dX1_isConsistent_102 : decode cX1_isConsistent 102 = .ok (.ireturn, 1) := dk_172 (dk_at dksX1_isConsistent_4 9 rfl rfl)
abbrev cX1_isBehind : ByteArray := prog_1_method_60_code
def yX1_isBehind : MethodName := ⟨RX1, "isBehind", "(I)Z"⟩
def dkwX1_isBehind_3 : List UInt8 := [27, 164, 0, 5, 3, 172, 132, 3, 1, 167, 255, 192, 4, 172]
abbrev dktX1_isBehind_3 : List UInt8 := dkwX1_isBehind_3 ++ []
def dkwX1_isBehind_2 : List UInt8 := [180, 0, 91, 29, 182, 0, 81, 192, 0, 98, 180, 0, 100, 165, 0, 9, 132, 4, 1, 167, 255, 227, 21, 4]
abbrev dktX1_isBehind_2 : List UInt8 := dkwX1_isBehind_2 ++ dktX1_isBehind_3
def dkwX1_isBehind_1 : List UInt8 := [162, 0, 59, 44, 182, 0, 94, 154, 0, 52, 3, 54, 4, 42, 180, 0, 31, 21, 4, 182, 0, 81, 44]
abbrev dktX1_isBehind_1 : List UInt8 := dkwX1_isBehind_1 ++ dktX1_isBehind_2
def dkwX1_isBehind_0 : List UInt8 := [42, 180, 0, 31, 27, 182, 0, 81, 192, 0, 85, 77, 3, 62, 29, 44, 180, 0, 91, 182, 0, 70]
abbrev dktX1_isBehind_0 : List UInt8 := dkwX1_isBehind_0 ++ dktX1_isBehind_1
theorem dksX1_isBehind_0 : cX1_isBehind.data.toList.drop 0 = dktX1_isBehind_0 := by decide +kernel
theorem dksX1_isBehind_1 : cX1_isBehind.data.toList.drop 22 = dktX1_isBehind_1 := dk_seg dksX1_isBehind_0 22 rfl rfl
theorem dksX1_isBehind_2 : cX1_isBehind.data.toList.drop 45 = dktX1_isBehind_2 := dk_seg dksX1_isBehind_1 23 rfl rfl
theorem dksX1_isBehind_3 : cX1_isBehind.data.toList.drop 69 = dktX1_isBehind_3 := dk_seg dksX1_isBehind_2 24 rfl rfl
theorem dX1_isBehind_0 : decode cX1_isBehind 0 = .ok (.aload_n 0, 1) := dk_42 (dk_at dksX1_isBehind_0 0 rfl rfl)
theorem dX1_isBehind_1 : decode cX1_isBehind 1 = .ok (.getfield 31, 3) := dk_180 0 31 (dk_at dksX1_isBehind_0 1 rfl rfl)
theorem dX1_isBehind_4 : decode cX1_isBehind 4 = .ok (.iload_n 1, 1) := dk_27 (dk_at dksX1_isBehind_0 4 rfl rfl)
theorem dX1_isBehind_5 : decode cX1_isBehind 5 = .ok (.invokevirtual 81, 3) := dk_182 0 81 (dk_at dksX1_isBehind_0 5 rfl rfl)
theorem dX1_isBehind_8 : decode cX1_isBehind 8 = .ok (.checkcast 85, 3) := dk_192 0 85 (dk_at dksX1_isBehind_0 8 rfl rfl)
theorem dX1_isBehind_11 : decode cX1_isBehind 11 = .ok (.astore_n 2, 1) := dk_77 (dk_at dksX1_isBehind_0 11 rfl rfl)
theorem dX1_isBehind_12 : decode cX1_isBehind 12 = .ok (.iconst 0, 1) := dk_3 (dk_at dksX1_isBehind_0 12 rfl rfl)
theorem dX1_isBehind_13 : decode cX1_isBehind 13 = .ok (.istore_n 3, 1) := dk_62 (dk_at dksX1_isBehind_0 13 rfl rfl)
theorem dX1_isBehind_14 : decode cX1_isBehind 14 = .ok (.iload_n 3, 1) := dk_29 (dk_at dksX1_isBehind_0 14 rfl rfl)
theorem dX1_isBehind_15 : decode cX1_isBehind 15 = .ok (.aload_n 2, 1) := dk_44 (dk_at dksX1_isBehind_0 15 rfl rfl)
theorem dX1_isBehind_16 : decode cX1_isBehind 16 = .ok (.getfield 91, 3) := dk_180 0 91 (dk_at dksX1_isBehind_0 16 rfl rfl)
theorem dX1_isBehind_19 : decode cX1_isBehind 19 = .ok (.invokevirtual 70, 3) := dk_182 0 70 (dk_at dksX1_isBehind_0 19 rfl rfl)
theorem dX1_isBehind_22 : decode cX1_isBehind 22 = .ok (.if_icmp .ge 59, 3) := dk_162 0 59 (dk_at dksX1_isBehind_1 0 rfl rfl)
theorem dX1_isBehind_25 : decode cX1_isBehind 25 = .ok (.aload_n 2, 1) := dk_44 (dk_at dksX1_isBehind_1 3 rfl rfl)
theorem dX1_isBehind_26 : decode cX1_isBehind 26 = .ok (.invokevirtual 94, 3) := dk_182 0 94 (dk_at dksX1_isBehind_1 4 rfl rfl)
theorem dX1_isBehind_29 : decode cX1_isBehind 29 = .ok (.ifCond .ne 52, 3) := dk_154 0 52 (dk_at dksX1_isBehind_1 7 rfl rfl)
theorem dX1_isBehind_32 : decode cX1_isBehind 32 = .ok (.iconst 0, 1) := dk_3 (dk_at dksX1_isBehind_1 10 rfl rfl)
theorem dX1_isBehind_33 : decode cX1_isBehind 33 = .ok (.istore 4, 2) := dk_54 4 (dk_at dksX1_isBehind_1 11 rfl rfl)
theorem dX1_isBehind_35 : decode cX1_isBehind 35 = .ok (.aload_n 0, 1) := dk_42 (dk_at dksX1_isBehind_1 13 rfl rfl)
theorem dX1_isBehind_36 : decode cX1_isBehind 36 = .ok (.getfield 31, 3) := dk_180 0 31 (dk_at dksX1_isBehind_1 14 rfl rfl)
theorem dX1_isBehind_39 : decode cX1_isBehind 39 = .ok (.iload 4, 2) := dk_21 4 (dk_at dksX1_isBehind_1 17 rfl rfl)
theorem dX1_isBehind_41 : decode cX1_isBehind 41 = .ok (.invokevirtual 81, 3) := dk_182 0 81 (dk_at dksX1_isBehind_1 19 rfl rfl)
theorem dX1_isBehind_44 : decode cX1_isBehind 44 = .ok (.aload_n 2, 1) := dk_44 (dk_at dksX1_isBehind_1 22 rfl rfl)
theorem dX1_isBehind_45 : decode cX1_isBehind 45 = .ok (.getfield 91, 3) := dk_180 0 91 (dk_at dksX1_isBehind_2 0 rfl rfl)
theorem dX1_isBehind_48 : decode cX1_isBehind 48 = .ok (.iload_n 3, 1) := dk_29 (dk_at dksX1_isBehind_2 3 rfl rfl)
theorem dX1_isBehind_49 : decode cX1_isBehind 49 = .ok (.invokevirtual 81, 3) := dk_182 0 81 (dk_at dksX1_isBehind_2 4 rfl rfl)
theorem dX1_isBehind_52 : decode cX1_isBehind 52 = .ok (.checkcast 98, 3) := dk_192 0 98 (dk_at dksX1_isBehind_2 7 rfl rfl)
theorem dX1_isBehind_55 : decode cX1_isBehind 55 = .ok (.getfield 100, 3) := dk_180 0 100 (dk_at dksX1_isBehind_2 10 rfl rfl)
theorem dX1_isBehind_58 : decode cX1_isBehind 58 = .ok (.if_acmp .eq 9, 3) := dk_165 0 9 (dk_at dksX1_isBehind_2 13 rfl rfl)
theorem dX1_isBehind_61 : decode cX1_isBehind 61 = .ok (.iinc 4 1, 3) := dk_132 4 1 (dk_at dksX1_isBehind_2 16 rfl rfl)
theorem dX1_isBehind_64 : decode cX1_isBehind 64 = .ok (.goto (-29), 3) := dk_167 255 227 (dk_at dksX1_isBehind_2 19 rfl rfl)
theorem dX1_isBehind_67 : decode cX1_isBehind 67 = .ok (.iload 4, 2) := dk_21 4 (dk_at dksX1_isBehind_2 22 rfl rfl)
theorem dX1_isBehind_69 : decode cX1_isBehind 69 = .ok (.iload_n 1, 1) := dk_27 (dk_at dksX1_isBehind_3 0 rfl rfl)
theorem dX1_isBehind_70 : decode cX1_isBehind 70 = .ok (.if_icmp .le 5, 3) := dk_164 0 5 (dk_at dksX1_isBehind_3 1 rfl rfl)
theorem dX1_isBehind_73 : decode cX1_isBehind 73 = .ok (.iconst 0, 1) := dk_3 (dk_at dksX1_isBehind_3 4 rfl rfl)
theorem dX1_isBehind_74 : decode cX1_isBehind 74 = .ok (.ireturn, 1) := dk_172 (dk_at dksX1_isBehind_3 5 rfl rfl)
theorem dX1_isBehind_75 : decode cX1_isBehind 75 = .ok (.iinc 3 1, 3) := dk_132 3 1 (dk_at dksX1_isBehind_3 6 rfl rfl)
theorem dX1_isBehind_78 : decode cX1_isBehind 78 = .ok (.goto (-64), 3) := dk_167 255 192 (dk_at dksX1_isBehind_3 9 rfl rfl)
theorem dX1_isBehind_81 : decode cX1_isBehind 81 = .ok (.iconst 1, 1) := dk_4 (dk_at dksX1_isBehind_3 12 rfl rfl)
theorem dX1_isBehind_82 : decode cX1_isBehind 82 = .ok (.ireturn, 1) := dk_172 (dk_at dksX1_isBehind_3 13 rfl rfl)
abbrev cX1_inRange : ByteArray := prog_1_method_1_code
def yX1_inRange : MethodName := ⟨RX1, "inRange", "(III)Z"⟩
def dkwX1_inRange_0 : List UInt8 := [26, 27, 161, 0, 12, 26, 28, 163, 0, 7, 4, 167, 0, 4, 3, 172]
abbrev dktX1_inRange_0 : List UInt8 := dkwX1_inRange_0 ++ []
theorem dksX1_inRange_0 : cX1_inRange.data.toList.drop 0 = dktX1_inRange_0 := by decide +kernel
theorem dX1_inRange_0 : decode cX1_inRange 0 = .ok (.iload_n 0, 1) := dk_26 (dk_at dksX1_inRange_0 0 rfl rfl)
theorem dX1_inRange_1 : decode cX1_inRange 1 = .ok (.iload_n 1, 1) := dk_27 (dk_at dksX1_inRange_0 1 rfl rfl)
theorem dX1_inRange_2 : decode cX1_inRange 2 = .ok (.if_icmp .lt 12, 3) := dk_161 0 12 (dk_at dksX1_inRange_0 2 rfl rfl)
theorem dX1_inRange_5 : decode cX1_inRange 5 = .ok (.iload_n 0, 1) := dk_26 (dk_at dksX1_inRange_0 5 rfl rfl)
theorem dX1_inRange_6 : decode cX1_inRange 6 = .ok (.iload_n 2, 1) := dk_28 (dk_at dksX1_inRange_0 6 rfl rfl)
theorem dX1_inRange_7 : decode cX1_inRange 7 = .ok (.if_icmp .gt 7, 3) := dk_163 0 7 (dk_at dksX1_inRange_0 7 rfl rfl)
theorem dX1_inRange_10 : decode cX1_inRange 10 = .ok (.iconst 1, 1) := dk_4 (dk_at dksX1_inRange_0 10 rfl rfl)
theorem dX1_inRange_11 : decode cX1_inRange 11 = .ok (.goto 4, 3) := dk_167 0 4 (dk_at dksX1_inRange_0 11 rfl rfl)
theorem dX1_inRange_14 : decode cX1_inRange 14 = .ok (.iconst 0, 1) := dk_3 (dk_at dksX1_inRange_0 14 rfl rfl)
theorem dX1_inRange_15 : decode cX1_inRange 15 = .ok (.ireturn, 1) := dk_172 (dk_at dksX1_inRange_0 15 rfl rfl)
abbrev cX1_ahead : ByteArray := prog_1_method_50_code
def yX1_ahead : MethodName := ⟨RX1, "ahead", "(I)I"⟩
def dkwX1_ahead_1 : List UInt8 := [182, 1, 54, 132, 2, 1, 167, 255, 244, 42, 180, 0, 60, 180, 1, 51, 61, 42, 182, 1, 62, 28, 172]
abbrev dktX1_ahead_1 : List UInt8 := dkwX1_ahead_1 ++ []
def dkwX1_ahead_0 : List UInt8 := [27, 4, 16, 40, 184, 0, 74, 184, 0, 125, 42, 182, 1, 61, 3, 61, 28, 27, 162, 0, 13, 42]
abbrev dktX1_ahead_0 : List UInt8 := dkwX1_ahead_0 ++ dktX1_ahead_1
theorem dksX1_ahead_0 : cX1_ahead.data.toList.drop 0 = dktX1_ahead_0 := by decide +kernel
theorem dksX1_ahead_1 : cX1_ahead.data.toList.drop 22 = dktX1_ahead_1 := dk_seg dksX1_ahead_0 22 rfl rfl
theorem dX1_ahead_0 : decode cX1_ahead 0 = .ok (.iload_n 1, 1) := dk_27 (dk_at dksX1_ahead_0 0 rfl rfl)
theorem dX1_ahead_1 : decode cX1_ahead 1 = .ok (.iconst 1, 1) := dk_4 (dk_at dksX1_ahead_0 1 rfl rfl)
theorem dX1_ahead_2 : decode cX1_ahead 2 = .ok (.bipush 40, 2) := dk_16 40 (dk_at dksX1_ahead_0 2 rfl rfl)
theorem dX1_ahead_4 : decode cX1_ahead 4 = .ok (.invokestatic 74, 3) := dk_184 0 74 (dk_at dksX1_ahead_0 4 rfl rfl)
theorem dX1_ahead_7 : decode cX1_ahead 7 = .ok (.invokestatic 125, 3) := dk_184 0 125 (dk_at dksX1_ahead_0 7 rfl rfl)
theorem dX1_ahead_10 : decode cX1_ahead 10 = .ok (.aload_n 0, 1) := dk_42 (dk_at dksX1_ahead_0 10 rfl rfl)
theorem dX1_ahead_11 : decode cX1_ahead 11 = .ok (.invokevirtual 317, 3) := dk_182 1 61 (dk_at dksX1_ahead_0 11 rfl rfl)
theorem dX1_ahead_14 : decode cX1_ahead 14 = .ok (.iconst 0, 1) := dk_3 (dk_at dksX1_ahead_0 14 rfl rfl)
theorem dX1_ahead_15 : decode cX1_ahead 15 = .ok (.istore_n 2, 1) := dk_61 (dk_at dksX1_ahead_0 15 rfl rfl)
theorem dX1_ahead_16 : decode cX1_ahead 16 = .ok (.iload_n 2, 1) := dk_28 (dk_at dksX1_ahead_0 16 rfl rfl)
theorem dX1_ahead_17 : decode cX1_ahead 17 = .ok (.iload_n 1, 1) := dk_27 (dk_at dksX1_ahead_0 17 rfl rfl)
theorem dX1_ahead_18 : decode cX1_ahead 18 = .ok (.if_icmp .ge 13, 3) := dk_162 0 13 (dk_at dksX1_ahead_0 18 rfl rfl)
theorem dX1_ahead_21 : decode cX1_ahead 21 = .ok (.aload_n 0, 1) := dk_42 (dk_at dksX1_ahead_0 21 rfl rfl)
theorem dX1_ahead_22 : decode cX1_ahead 22 = .ok (.invokevirtual 310, 3) := dk_182 1 54 (dk_at dksX1_ahead_1 0 rfl rfl)
theorem dX1_ahead_25 : decode cX1_ahead 25 = .ok (.iinc 2 1, 3) := dk_132 2 1 (dk_at dksX1_ahead_1 3 rfl rfl)
theorem dX1_ahead_28 : decode cX1_ahead 28 = .ok (.goto (-12), 3) := dk_167 255 244 (dk_at dksX1_ahead_1 6 rfl rfl)
theorem dX1_ahead_31 : decode cX1_ahead 31 = .ok (.aload_n 0, 1) := dk_42 (dk_at dksX1_ahead_1 9 rfl rfl)
theorem dX1_ahead_32 : decode cX1_ahead 32 = .ok (.getfield 60, 3) := dk_180 0 60 (dk_at dksX1_ahead_1 10 rfl rfl)
theorem dX1_ahead_35 : decode cX1_ahead 35 = .ok (.getfield 307, 3) := dk_180 1 51 (dk_at dksX1_ahead_1 13 rfl rfl)
theorem dX1_ahead_38 : decode cX1_ahead 38 = .ok (.istore_n 2, 1) := dk_61 (dk_at dksX1_ahead_1 16 rfl rfl)
theorem dX1_ahead_39 : decode cX1_ahead 39 = .ok (.aload_n 0, 1) := dk_42 (dk_at dksX1_ahead_1 17 rfl rfl)
theorem dX1_ahead_40 : decode cX1_ahead 40 = .ok (.invokevirtual 318, 3) := dk_182 1 62 (dk_at dksX1_ahead_1 18 rfl rfl)
theorem dX1_ahead_43 : decode cX1_ahead 43 = .ok (.iload_n 2, 1) := dk_28 (dk_at dksX1_ahead_1 21 rfl rfl)
theorem dX1_ahead_44 : decode cX1_ahead 44 = .ok (.ireturn, 1) := dk_172 (dk_at dksX1_ahead_1 22 rfl rfl)
abbrev cX1_checkArgument : ByteArray := prog_1_method_5_code
def yX1_checkArgument : MethodName := ⟨RX1, "checkArgument", "(Z)V"⟩
def dkwX1_checkArgument_0 : List UInt8 := [26, 154, 0, 11, 187, 0, 64, 89, 183, 0, 66, 191, 177]
abbrev dktX1_checkArgument_0 : List UInt8 := dkwX1_checkArgument_0 ++ []
theorem dksX1_checkArgument_0 : cX1_checkArgument.data.toList.drop 0 = dktX1_checkArgument_0 := by decide +kernel
theorem dX1_checkArgument_0 : decode cX1_checkArgument 0 = .ok (.iload_n 0, 1) := dk_26 (dk_at dksX1_checkArgument_0 0 rfl rfl)
theorem dX1_checkArgument_1 : decode cX1_checkArgument 1 = .ok (.ifCond .ne 11, 3) := dk_154 0 11 (dk_at dksX1_checkArgument_0 1 rfl rfl)
theorem dX1_checkArgument_4 : decode cX1_checkArgument 4 = .ok (.new 64, 3) := dk_187 0 64 (dk_at dksX1_checkArgument_0 4 rfl rfl)
theorem dX1_checkArgument_7 : decode cX1_checkArgument 7 = .ok (.dup, 1) := dk_89 (dk_at dksX1_checkArgument_0 7 rfl rfl)
theorem dX1_checkArgument_8 : decode cX1_checkArgument 8 = .ok (.invokespecial 66, 3) := dk_183 0 66 (dk_at dksX1_checkArgument_0 8 rfl rfl)
theorem dX1_checkArgument_11 : decode cX1_checkArgument 11 = .ok (.athrow, 1) := dk_191 (dk_at dksX1_checkArgument_0 11 rfl rfl)
theorem dX1_checkArgument_12 : decode cX1_checkArgument 12 = .ok (.return_, 1) := dk_177 (dk_at dksX1_checkArgument_0 12 rfl rfl)
abbrev cX1_keep : ByteArray := prog_1_method_48_code
def yX1_keep : MethodName := ⟨RX1, "keep", "()V"⟩
def dkwX1_keep_1 : List UInt8 := [182, 1, 55, 132, 1, 1, 167, 255, 228, 177]
abbrev dktX1_keep_1 : List UInt8 := dkwX1_keep_1 ++ []
def dkwX1_keep_0 : List UInt8 := [3, 60, 27, 42, 180, 0, 27, 182, 0, 70, 162, 0, 23, 42, 180, 0, 27, 27, 182, 0, 81, 192, 0, 85]
abbrev dktX1_keep_0 : List UInt8 := dkwX1_keep_0 ++ dktX1_keep_1
theorem dksX1_keep_0 : cX1_keep.data.toList.drop 0 = dktX1_keep_0 := by decide +kernel
theorem dksX1_keep_1 : cX1_keep.data.toList.drop 24 = dktX1_keep_1 := dk_seg dksX1_keep_0 24 rfl rfl
theorem dX1_keep_0 : decode cX1_keep 0 = .ok (.iconst 0, 1) := dk_3 (dk_at dksX1_keep_0 0 rfl rfl)
theorem dX1_keep_1 : decode cX1_keep 1 = .ok (.istore_n 1, 1) := dk_60 (dk_at dksX1_keep_0 1 rfl rfl)
theorem dX1_keep_2 : decode cX1_keep 2 = .ok (.iload_n 1, 1) := dk_27 (dk_at dksX1_keep_0 2 rfl rfl)
theorem dX1_keep_3 : decode cX1_keep 3 = .ok (.aload_n 0, 1) := dk_42 (dk_at dksX1_keep_0 3 rfl rfl)
theorem dX1_keep_4 : decode cX1_keep 4 = .ok (.getfield 27, 3) := dk_180 0 27 (dk_at dksX1_keep_0 4 rfl rfl)
theorem dX1_keep_7 : decode cX1_keep 7 = .ok (.invokevirtual 70, 3) := dk_182 0 70 (dk_at dksX1_keep_0 7 rfl rfl)
theorem dX1_keep_10 : decode cX1_keep 10 = .ok (.if_icmp .ge 23, 3) := dk_162 0 23 (dk_at dksX1_keep_0 10 rfl rfl)
theorem dX1_keep_13 : decode cX1_keep 13 = .ok (.aload_n 0, 1) := dk_42 (dk_at dksX1_keep_0 13 rfl rfl)
theorem dX1_keep_14 : decode cX1_keep 14 = .ok (.getfield 27, 3) := dk_180 0 27 (dk_at dksX1_keep_0 14 rfl rfl)
theorem dX1_keep_17 : decode cX1_keep 17 = .ok (.iload_n 1, 1) := dk_27 (dk_at dksX1_keep_0 17 rfl rfl)
theorem dX1_keep_18 : decode cX1_keep 18 = .ok (.invokevirtual 81, 3) := dk_182 0 81 (dk_at dksX1_keep_0 18 rfl rfl)
theorem dX1_keep_21 : decode cX1_keep 21 = .ok (.checkcast 85, 3) := dk_192 0 85 (dk_at dksX1_keep_0 21 rfl rfl)
theorem dX1_keep_24 : decode cX1_keep 24 = .ok (.invokevirtual 311, 3) := dk_182 1 55 (dk_at dksX1_keep_1 0 rfl rfl)
theorem dX1_keep_27 : decode cX1_keep 27 = .ok (.iinc 1 1, 3) := dk_132 1 1 (dk_at dksX1_keep_1 3 rfl rfl)
theorem dX1_keep_30 : decode cX1_keep 30 = .ok (.goto (-28), 3) := dk_167 255 228 (dk_at dksX1_keep_1 6 rfl rfl)
theorem dX1_keep_33 : decode cX1_keep 33 = .ok (.return_, 1) := dk_177 (dk_at dksX1_keep_1 9 rfl rfl)
abbrev cX1_takeBack : ByteArray := prog_1_method_49_code
def yX1_takeBack : MethodName := ⟨RX1, "takeBack", "()V"⟩
def dkwX1_takeBack_1 : List UInt8 := [182, 1, 58, 132, 1, 1, 167, 255, 228, 177]
abbrev dktX1_takeBack_1 : List UInt8 := dkwX1_takeBack_1 ++ []
def dkwX1_takeBack_0 : List UInt8 := [3, 60, 27, 42, 180, 0, 27, 182, 0, 70, 162, 0, 23, 42, 180, 0, 27, 27, 182, 0, 81, 192, 0, 85]
abbrev dktX1_takeBack_0 : List UInt8 := dkwX1_takeBack_0 ++ dktX1_takeBack_1
theorem dksX1_takeBack_0 : cX1_takeBack.data.toList.drop 0 = dktX1_takeBack_0 := by decide +kernel
theorem dksX1_takeBack_1 : cX1_takeBack.data.toList.drop 24 = dktX1_takeBack_1 := dk_seg dksX1_takeBack_0 24 rfl rfl
theorem dX1_takeBack_0 : decode cX1_takeBack 0 = .ok (.iconst 0, 1) := dk_3 (dk_at dksX1_takeBack_0 0 rfl rfl)
theorem dX1_takeBack_1 : decode cX1_takeBack 1 = .ok (.istore_n 1, 1) := dk_60 (dk_at dksX1_takeBack_0 1 rfl rfl)
theorem dX1_takeBack_2 : decode cX1_takeBack 2 = .ok (.iload_n 1, 1) := dk_27 (dk_at dksX1_takeBack_0 2 rfl rfl)
theorem dX1_takeBack_3 : decode cX1_takeBack 3 = .ok (.aload_n 0, 1) := dk_42 (dk_at dksX1_takeBack_0 3 rfl rfl)
theorem dX1_takeBack_4 : decode cX1_takeBack 4 = .ok (.getfield 27, 3) := dk_180 0 27 (dk_at dksX1_takeBack_0 4 rfl rfl)
theorem dX1_takeBack_7 : decode cX1_takeBack 7 = .ok (.invokevirtual 70, 3) := dk_182 0 70 (dk_at dksX1_takeBack_0 7 rfl rfl)
theorem dX1_takeBack_10 : decode cX1_takeBack 10 = .ok (.if_icmp .ge 23, 3) := dk_162 0 23 (dk_at dksX1_takeBack_0 10 rfl rfl)
theorem dX1_takeBack_13 : decode cX1_takeBack 13 = .ok (.aload_n 0, 1) := dk_42 (dk_at dksX1_takeBack_0 13 rfl rfl)
theorem dX1_takeBack_14 : decode cX1_takeBack 14 = .ok (.getfield 27, 3) := dk_180 0 27 (dk_at dksX1_takeBack_0 14 rfl rfl)
theorem dX1_takeBack_17 : decode cX1_takeBack 17 = .ok (.iload_n 1, 1) := dk_27 (dk_at dksX1_takeBack_0 17 rfl rfl)
theorem dX1_takeBack_18 : decode cX1_takeBack 18 = .ok (.invokevirtual 81, 3) := dk_182 0 81 (dk_at dksX1_takeBack_0 18 rfl rfl)
theorem dX1_takeBack_21 : decode cX1_takeBack 21 = .ok (.checkcast 85, 3) := dk_192 0 85 (dk_at dksX1_takeBack_0 21 rfl rfl)
theorem dX1_takeBack_24 : decode cX1_takeBack 24 = .ok (.invokevirtual 314, 3) := dk_182 1 58 (dk_at dksX1_takeBack_1 0 rfl rfl)
theorem dX1_takeBack_27 : decode cX1_takeBack 27 = .ok (.iinc 1 1, 3) := dk_132 1 1 (dk_at dksX1_takeBack_1 3 rfl rfl)
theorem dX1_takeBack_30 : decode cX1_takeBack 30 = .ok (.goto (-28), 3) := dk_167 255 228 (dk_at dksX1_takeBack_1 6 rfl rfl)
theorem dX1_takeBack_33 : decode cX1_takeBack 33 = .ok (.return_, 1) := dk_177 (dk_at dksX1_takeBack_1 9 rfl rfl)
abbrev cX1_aheadByBlocks : ByteArray := prog_1_method_51_code
def yX1_aheadByBlocks : MethodName := ⟨RX1, "aheadByBlocks", "(II)I"⟩
def dkwX1_aheadByBlocks_3 : List UInt8 := [167, 255, 230, 42, 180, 0, 60, 180, 1, 51, 54, 5, 42, 182, 1, 62, 21, 5, 172]
abbrev dktX1_aheadByBlocks_3 : List UInt8 := dkwX1_aheadByBlocks_3 ++ []
def dkwX1_aheadByBlocks_2 : List UInt8 := [158, 0, 27, 42, 21, 4, 29, 184, 0, 3, 182, 1, 44, 21, 4, 21, 4, 29, 184, 0, 3, 100, 54, 4]
abbrev dktX1_aheadByBlocks_2 : List UInt8 := dkwX1_aheadByBlocks_2 ++ dktX1_aheadByBlocks_3
def dkwX1_aheadByBlocks_1 : List UInt8 := [3, 184, 0, 125, 42, 182, 1, 61, 28, 42, 182, 1, 41, 184, 0, 3, 62, 27, 54, 4, 21, 4]
abbrev dktX1_aheadByBlocks_1 : List UInt8 := dkwX1_aheadByBlocks_1 ++ dktX1_aheadByBlocks_2
def dkwX1_aheadByBlocks_0 : List UInt8 := [27, 4, 16, 40, 184, 0, 74, 153, 0, 17, 28, 4, 16, 64, 184, 0, 74, 153, 0, 7, 4, 167, 0, 4]
abbrev dktX1_aheadByBlocks_0 : List UInt8 := dkwX1_aheadByBlocks_0 ++ dktX1_aheadByBlocks_1
theorem dksX1_aheadByBlocks_0 : cX1_aheadByBlocks.data.toList.drop 0 = dktX1_aheadByBlocks_0 := by decide +kernel
theorem dksX1_aheadByBlocks_1 : cX1_aheadByBlocks.data.toList.drop 24 = dktX1_aheadByBlocks_1 := dk_seg dksX1_aheadByBlocks_0 24 rfl rfl
theorem dksX1_aheadByBlocks_2 : cX1_aheadByBlocks.data.toList.drop 46 = dktX1_aheadByBlocks_2 := dk_seg dksX1_aheadByBlocks_1 22 rfl rfl
theorem dksX1_aheadByBlocks_3 : cX1_aheadByBlocks.data.toList.drop 70 = dktX1_aheadByBlocks_3 := dk_seg dksX1_aheadByBlocks_2 24 rfl rfl
theorem dX1_aheadByBlocks_0 : decode cX1_aheadByBlocks 0 = .ok (.iload_n 1, 1) := dk_27 (dk_at dksX1_aheadByBlocks_0 0 rfl rfl)
theorem dX1_aheadByBlocks_1 : decode cX1_aheadByBlocks 1 = .ok (.iconst 1, 1) := dk_4 (dk_at dksX1_aheadByBlocks_0 1 rfl rfl)
theorem dX1_aheadByBlocks_2 : decode cX1_aheadByBlocks 2 = .ok (.bipush 40, 2) := dk_16 40 (dk_at dksX1_aheadByBlocks_0 2 rfl rfl)
theorem dX1_aheadByBlocks_4 : decode cX1_aheadByBlocks 4 = .ok (.invokestatic 74, 3) := dk_184 0 74 (dk_at dksX1_aheadByBlocks_0 4 rfl rfl)
theorem dX1_aheadByBlocks_7 : decode cX1_aheadByBlocks 7 = .ok (.ifCond .eq 17, 3) := dk_153 0 17 (dk_at dksX1_aheadByBlocks_0 7 rfl rfl)
theorem dX1_aheadByBlocks_10 : decode cX1_aheadByBlocks 10 = .ok (.iload_n 2, 1) := dk_28 (dk_at dksX1_aheadByBlocks_0 10 rfl rfl)
theorem dX1_aheadByBlocks_11 : decode cX1_aheadByBlocks 11 = .ok (.iconst 1, 1) := dk_4 (dk_at dksX1_aheadByBlocks_0 11 rfl rfl)
theorem dX1_aheadByBlocks_12 : decode cX1_aheadByBlocks 12 = .ok (.bipush 64, 2) := dk_16 64 (dk_at dksX1_aheadByBlocks_0 12 rfl rfl)
theorem dX1_aheadByBlocks_14 : decode cX1_aheadByBlocks 14 = .ok (.invokestatic 74, 3) := dk_184 0 74 (dk_at dksX1_aheadByBlocks_0 14 rfl rfl)
theorem dX1_aheadByBlocks_17 : decode cX1_aheadByBlocks 17 = .ok (.ifCond .eq 7, 3) := dk_153 0 7 (dk_at dksX1_aheadByBlocks_0 17 rfl rfl)
theorem dX1_aheadByBlocks_20 : decode cX1_aheadByBlocks 20 = .ok (.iconst 1, 1) := dk_4 (dk_at dksX1_aheadByBlocks_0 20 rfl rfl)
theorem dX1_aheadByBlocks_21 : decode cX1_aheadByBlocks 21 = .ok (.goto 4, 3) := dk_167 0 4 (dk_at dksX1_aheadByBlocks_0 21 rfl rfl)
theorem dX1_aheadByBlocks_24 : decode cX1_aheadByBlocks 24 = .ok (.iconst 0, 1) := dk_3 (dk_at dksX1_aheadByBlocks_1 0 rfl rfl)
theorem dX1_aheadByBlocks_25 : decode cX1_aheadByBlocks 25 = .ok (.invokestatic 125, 3) := dk_184 0 125 (dk_at dksX1_aheadByBlocks_1 1 rfl rfl)
theorem dX1_aheadByBlocks_28 : decode cX1_aheadByBlocks 28 = .ok (.aload_n 0, 1) := dk_42 (dk_at dksX1_aheadByBlocks_1 4 rfl rfl)
theorem dX1_aheadByBlocks_29 : decode cX1_aheadByBlocks 29 = .ok (.invokevirtual 317, 3) := dk_182 1 61 (dk_at dksX1_aheadByBlocks_1 5 rfl rfl)
theorem dX1_aheadByBlocks_32 : decode cX1_aheadByBlocks 32 = .ok (.iload_n 2, 1) := dk_28 (dk_at dksX1_aheadByBlocks_1 8 rfl rfl)
theorem dX1_aheadByBlocks_33 : decode cX1_aheadByBlocks 33 = .ok (.aload_n 0, 1) := dk_42 (dk_at dksX1_aheadByBlocks_1 9 rfl rfl)
theorem dX1_aheadByBlocks_34 : decode cX1_aheadByBlocks 34 = .ok (.invokevirtual 297, 3) := dk_182 1 41 (dk_at dksX1_aheadByBlocks_1 10 rfl rfl)
theorem dX1_aheadByBlocks_37 : decode cX1_aheadByBlocks 37 = .ok (.invokestatic 3, 3) := dk_184 0 3 (dk_at dksX1_aheadByBlocks_1 13 rfl rfl)
theorem dX1_aheadByBlocks_40 : decode cX1_aheadByBlocks 40 = .ok (.istore_n 3, 1) := dk_62 (dk_at dksX1_aheadByBlocks_1 16 rfl rfl)
theorem dX1_aheadByBlocks_41 : decode cX1_aheadByBlocks 41 = .ok (.iload_n 1, 1) := dk_27 (dk_at dksX1_aheadByBlocks_1 17 rfl rfl)
theorem dX1_aheadByBlocks_42 : decode cX1_aheadByBlocks 42 = .ok (.istore 4, 2) := dk_54 4 (dk_at dksX1_aheadByBlocks_1 18 rfl rfl)
theorem dX1_aheadByBlocks_44 : decode cX1_aheadByBlocks 44 = .ok (.iload 4, 2) := dk_21 4 (dk_at dksX1_aheadByBlocks_1 20 rfl rfl)
theorem dX1_aheadByBlocks_46 : decode cX1_aheadByBlocks 46 = .ok (.ifCond .le 27, 3) := dk_158 0 27 (dk_at dksX1_aheadByBlocks_2 0 rfl rfl)
theorem dX1_aheadByBlocks_49 : decode cX1_aheadByBlocks 49 = .ok (.aload_n 0, 1) := dk_42 (dk_at dksX1_aheadByBlocks_2 3 rfl rfl)
theorem dX1_aheadByBlocks_50 : decode cX1_aheadByBlocks 50 = .ok (.iload 4, 2) := dk_21 4 (dk_at dksX1_aheadByBlocks_2 4 rfl rfl)
theorem dX1_aheadByBlocks_52 : decode cX1_aheadByBlocks 52 = .ok (.iload_n 3, 1) := dk_29 (dk_at dksX1_aheadByBlocks_2 6 rfl rfl)
theorem dX1_aheadByBlocks_53 : decode cX1_aheadByBlocks 53 = .ok (.invokestatic 3, 3) := dk_184 0 3 (dk_at dksX1_aheadByBlocks_2 7 rfl rfl)
theorem dX1_aheadByBlocks_56 : decode cX1_aheadByBlocks 56 = .ok (.invokevirtual 300, 3) := dk_182 1 44 (dk_at dksX1_aheadByBlocks_2 10 rfl rfl)
theorem dX1_aheadByBlocks_59 : decode cX1_aheadByBlocks 59 = .ok (.iload 4, 2) := dk_21 4 (dk_at dksX1_aheadByBlocks_2 13 rfl rfl)
theorem dX1_aheadByBlocks_61 : decode cX1_aheadByBlocks 61 = .ok (.iload 4, 2) := dk_21 4 (dk_at dksX1_aheadByBlocks_2 15 rfl rfl)
theorem dX1_aheadByBlocks_63 : decode cX1_aheadByBlocks 63 = .ok (.iload_n 3, 1) := dk_29 (dk_at dksX1_aheadByBlocks_2 17 rfl rfl)
theorem dX1_aheadByBlocks_64 : decode cX1_aheadByBlocks 64 = .ok (.invokestatic 3, 3) := dk_184 0 3 (dk_at dksX1_aheadByBlocks_2 18 rfl rfl)
theorem dX1_aheadByBlocks_67 : decode cX1_aheadByBlocks 67 = .ok (.isub, 1) := dk_100 (dk_at dksX1_aheadByBlocks_2 21 rfl rfl)
theorem dX1_aheadByBlocks_68 : decode cX1_aheadByBlocks 68 = .ok (.istore 4, 2) := dk_54 4 (dk_at dksX1_aheadByBlocks_2 22 rfl rfl)
theorem dX1_aheadByBlocks_70 : decode cX1_aheadByBlocks 70 = .ok (.goto (-26), 3) := dk_167 255 230 (dk_at dksX1_aheadByBlocks_3 0 rfl rfl)
theorem dX1_aheadByBlocks_73 : decode cX1_aheadByBlocks 73 = .ok (.aload_n 0, 1) := dk_42 (dk_at dksX1_aheadByBlocks_3 3 rfl rfl)
theorem dX1_aheadByBlocks_74 : decode cX1_aheadByBlocks 74 = .ok (.getfield 60, 3) := dk_180 0 60 (dk_at dksX1_aheadByBlocks_3 4 rfl rfl)
theorem dX1_aheadByBlocks_77 : decode cX1_aheadByBlocks 77 = .ok (.getfield 307, 3) := dk_180 1 51 (dk_at dksX1_aheadByBlocks_3 7 rfl rfl)
theorem dX1_aheadByBlocks_80 : decode cX1_aheadByBlocks 80 = .ok (.istore 5, 2) := dk_54 5 (dk_at dksX1_aheadByBlocks_3 10 rfl rfl)
theorem dX1_aheadByBlocks_82 : decode cX1_aheadByBlocks 82 = .ok (.aload_n 0, 1) := dk_42 (dk_at dksX1_aheadByBlocks_3 12 rfl rfl)
theorem dX1_aheadByBlocks_83 : decode cX1_aheadByBlocks 83 = .ok (.invokevirtual 318, 3) := dk_182 1 62 (dk_at dksX1_aheadByBlocks_3 13 rfl rfl)
theorem dX1_aheadByBlocks_86 : decode cX1_aheadByBlocks 86 = .ok (.iload 5, 2) := dk_21 5 (dk_at dksX1_aheadByBlocks_3 16 rfl rfl)
theorem dX1_aheadByBlocks_88 : decode cX1_aheadByBlocks 88 = .ok (.ireturn, 1) := dk_172 (dk_at dksX1_aheadByBlocks_3 18 rfl rfl)
abbrev cX1_fill : ByteArray := prog_1_method_44_code
def yX1_fill : MethodName := ⟨RX1, "fill", "(I)V"⟩
def dkwX1_fill_2 : List UInt8 := [180, 0, 31, 28, 182, 0, 81, 192, 0, 85, 27, 182, 1, 23, 132, 2, 1, 167, 255, 227, 177]
abbrev dktX1_fill_2 : List UInt8 := dkwX1_fill_2 ++ []
def dkwX1_fill_1 : List UInt8 := [27, 182, 1, 20, 132, 2, 1, 167, 255, 227, 3, 61, 28, 42, 180, 0, 31, 182, 0, 70, 162, 0, 24, 42]
abbrev dktX1_fill_1 : List UInt8 := dkwX1_fill_1 ++ dktX1_fill_2
def dkwX1_fill_0 : List UInt8 := [3, 61, 28, 42, 180, 0, 31, 182, 0, 70, 162, 0, 24, 42, 180, 0, 31, 28, 182, 0, 81, 192, 0, 85]
abbrev dktX1_fill_0 : List UInt8 := dkwX1_fill_0 ++ dktX1_fill_1
theorem dksX1_fill_0 : cX1_fill.data.toList.drop 0 = dktX1_fill_0 := by decide +kernel
theorem dksX1_fill_1 : cX1_fill.data.toList.drop 24 = dktX1_fill_1 := dk_seg dksX1_fill_0 24 rfl rfl
theorem dksX1_fill_2 : cX1_fill.data.toList.drop 48 = dktX1_fill_2 := dk_seg dksX1_fill_1 24 rfl rfl
theorem dX1_fill_0 : decode cX1_fill 0 = .ok (.iconst 0, 1) := dk_3 (dk_at dksX1_fill_0 0 rfl rfl)
theorem dX1_fill_1 : decode cX1_fill 1 = .ok (.istore_n 2, 1) := dk_61 (dk_at dksX1_fill_0 1 rfl rfl)
theorem dX1_fill_2 : decode cX1_fill 2 = .ok (.iload_n 2, 1) := dk_28 (dk_at dksX1_fill_0 2 rfl rfl)
theorem dX1_fill_3 : decode cX1_fill 3 = .ok (.aload_n 0, 1) := dk_42 (dk_at dksX1_fill_0 3 rfl rfl)
theorem dX1_fill_4 : decode cX1_fill 4 = .ok (.getfield 31, 3) := dk_180 0 31 (dk_at dksX1_fill_0 4 rfl rfl)
theorem dX1_fill_7 : decode cX1_fill 7 = .ok (.invokevirtual 70, 3) := dk_182 0 70 (dk_at dksX1_fill_0 7 rfl rfl)
theorem dX1_fill_10 : decode cX1_fill 10 = .ok (.if_icmp .ge 24, 3) := dk_162 0 24 (dk_at dksX1_fill_0 10 rfl rfl)
theorem dX1_fill_13 : decode cX1_fill 13 = .ok (.aload_n 0, 1) := dk_42 (dk_at dksX1_fill_0 13 rfl rfl)
theorem dX1_fill_14 : decode cX1_fill 14 = .ok (.getfield 31, 3) := dk_180 0 31 (dk_at dksX1_fill_0 14 rfl rfl)
theorem dX1_fill_17 : decode cX1_fill 17 = .ok (.iload_n 2, 1) := dk_28 (dk_at dksX1_fill_0 17 rfl rfl)
theorem dX1_fill_18 : decode cX1_fill 18 = .ok (.invokevirtual 81, 3) := dk_182 0 81 (dk_at dksX1_fill_0 18 rfl rfl)
theorem dX1_fill_21 : decode cX1_fill 21 = .ok (.checkcast 85, 3) := dk_192 0 85 (dk_at dksX1_fill_0 21 rfl rfl)
theorem dX1_fill_24 : decode cX1_fill 24 = .ok (.iload_n 1, 1) := dk_27 (dk_at dksX1_fill_1 0 rfl rfl)
theorem dX1_fill_25 : decode cX1_fill 25 = .ok (.invokevirtual 276, 3) := dk_182 1 20 (dk_at dksX1_fill_1 1 rfl rfl)
theorem dX1_fill_28 : decode cX1_fill 28 = .ok (.iinc 2 1, 3) := dk_132 2 1 (dk_at dksX1_fill_1 4 rfl rfl)
theorem dX1_fill_31 : decode cX1_fill 31 = .ok (.goto (-29), 3) := dk_167 255 227 (dk_at dksX1_fill_1 7 rfl rfl)
theorem dX1_fill_34 : decode cX1_fill 34 = .ok (.iconst 0, 1) := dk_3 (dk_at dksX1_fill_1 10 rfl rfl)
theorem dX1_fill_35 : decode cX1_fill 35 = .ok (.istore_n 2, 1) := dk_61 (dk_at dksX1_fill_1 11 rfl rfl)
theorem dX1_fill_36 : decode cX1_fill 36 = .ok (.iload_n 2, 1) := dk_28 (dk_at dksX1_fill_1 12 rfl rfl)
theorem dX1_fill_37 : decode cX1_fill 37 = .ok (.aload_n 0, 1) := dk_42 (dk_at dksX1_fill_1 13 rfl rfl)
theorem dX1_fill_38 : decode cX1_fill 38 = .ok (.getfield 31, 3) := dk_180 0 31 (dk_at dksX1_fill_1 14 rfl rfl)
theorem dX1_fill_41 : decode cX1_fill 41 = .ok (.invokevirtual 70, 3) := dk_182 0 70 (dk_at dksX1_fill_1 17 rfl rfl)
theorem dX1_fill_44 : decode cX1_fill 44 = .ok (.if_icmp .ge 24, 3) := dk_162 0 24 (dk_at dksX1_fill_1 20 rfl rfl)
theorem dX1_fill_47 : decode cX1_fill 47 = .ok (.aload_n 0, 1) := dk_42 (dk_at dksX1_fill_1 23 rfl rfl)
theorem dX1_fill_48 : decode cX1_fill 48 = .ok (.getfield 31, 3) := dk_180 0 31 (dk_at dksX1_fill_2 0 rfl rfl)
theorem dX1_fill_51 : decode cX1_fill 51 = .ok (.iload_n 2, 1) := dk_28 (dk_at dksX1_fill_2 3 rfl rfl)
theorem dX1_fill_52 : decode cX1_fill 52 = .ok (.invokevirtual 81, 3) := dk_182 0 81 (dk_at dksX1_fill_2 4 rfl rfl)
theorem dX1_fill_55 : decode cX1_fill 55 = .ok (.checkcast 85, 3) := dk_192 0 85 (dk_at dksX1_fill_2 7 rfl rfl)
theorem dX1_fill_58 : decode cX1_fill 58 = .ok (.iload_n 1, 1) := dk_27 (dk_at dksX1_fill_2 10 rfl rfl)
theorem dX1_fill_59 : decode cX1_fill 59 = .ok (.invokevirtual 279, 3) := dk_182 1 23 (dk_at dksX1_fill_2 11 rfl rfl)
theorem dX1_fill_62 : decode cX1_fill 62 = .ok (.iinc 2 1, 3) := dk_132 2 1 (dk_at dksX1_fill_2 14 rfl rfl)
theorem dX1_fill_65 : decode cX1_fill 65 = .ok (.goto (-29), 3) := dk_167 255 227 (dk_at dksX1_fill_2 17 rfl rfl)
theorem dX1_fill_68 : decode cX1_fill 68 = .ok (.return_, 1) := dk_177 (dk_at dksX1_fill_2 20 rfl rfl)
abbrev cX1_addGain : ByteArray := prog_1_method_13_code
def yX1_addGain : MethodName := ⟨RX1, "addGain", "(I)I"⟩
def dkwX1_addGain_1 : List UInt8 := [180, 0, 27, 182, 0, 70, 27, 183, 0, 133, 182, 0, 136, 172]
abbrev dktX1_addGain_1 : List UInt8 := dkwX1_addGain_1 ++ []
def dkwX1_addGain_0 : List UInt8 := [27, 17, 255, 56, 17, 0, 200, 184, 0, 74, 184, 0, 125, 42, 182, 0, 128, 42, 187, 0, 131, 89, 42]
abbrev dktX1_addGain_0 : List UInt8 := dkwX1_addGain_0 ++ dktX1_addGain_1
theorem dksX1_addGain_0 : cX1_addGain.data.toList.drop 0 = dktX1_addGain_0 := by decide +kernel
theorem dksX1_addGain_1 : cX1_addGain.data.toList.drop 23 = dktX1_addGain_1 := dk_seg dksX1_addGain_0 23 rfl rfl
theorem dX1_addGain_0 : decode cX1_addGain 0 = .ok (.iload_n 1, 1) := dk_27 (dk_at dksX1_addGain_0 0 rfl rfl)
theorem dX1_addGain_1 : decode cX1_addGain 1 = .ok (.sipush (-200), 3) := dk_17 255 56 (dk_at dksX1_addGain_0 1 rfl rfl)
theorem dX1_addGain_4 : decode cX1_addGain 4 = .ok (.sipush 200, 3) := dk_17 0 200 (dk_at dksX1_addGain_0 4 rfl rfl)
theorem dX1_addGain_7 : decode cX1_addGain 7 = .ok (.invokestatic 74, 3) := dk_184 0 74 (dk_at dksX1_addGain_0 7 rfl rfl)
theorem dX1_addGain_10 : decode cX1_addGain 10 = .ok (.invokestatic 125, 3) := dk_184 0 125 (dk_at dksX1_addGain_0 10 rfl rfl)
theorem dX1_addGain_13 : decode cX1_addGain 13 = .ok (.aload_n 0, 1) := dk_42 (dk_at dksX1_addGain_0 13 rfl rfl)
theorem dX1_addGain_14 : decode cX1_addGain 14 = .ok (.invokevirtual 128, 3) := dk_182 0 128 (dk_at dksX1_addGain_0 14 rfl rfl)
theorem dX1_addGain_17 : decode cX1_addGain 17 = .ok (.aload_n 0, 1) := dk_42 (dk_at dksX1_addGain_0 17 rfl rfl)
theorem dX1_addGain_18 : decode cX1_addGain 18 = .ok (.new 131, 3) := dk_187 0 131 (dk_at dksX1_addGain_0 18 rfl rfl)
theorem dX1_addGain_21 : decode cX1_addGain 21 = .ok (.dup, 1) := dk_89 (dk_at dksX1_addGain_0 21 rfl rfl)
theorem dX1_addGain_22 : decode cX1_addGain 22 = .ok (.aload_n 0, 1) := dk_42 (dk_at dksX1_addGain_0 22 rfl rfl)
theorem dX1_addGain_23 : decode cX1_addGain 23 = .ok (.getfield 27, 3) := dk_180 0 27 (dk_at dksX1_addGain_1 0 rfl rfl)
theorem dX1_addGain_26 : decode cX1_addGain 26 = .ok (.invokevirtual 70, 3) := dk_182 0 70 (dk_at dksX1_addGain_1 3 rfl rfl)
theorem dX1_addGain_29 : decode cX1_addGain 29 = .ok (.iload_n 1, 1) := dk_27 (dk_at dksX1_addGain_1 6 rfl rfl)
theorem dX1_addGain_30 : decode cX1_addGain 30 = .ok (.invokespecial 133, 3) := dk_183 0 133 (dk_at dksX1_addGain_1 7 rfl rfl)
theorem dX1_addGain_33 : decode cX1_addGain 33 = .ok (.invokevirtual 136, 3) := dk_182 0 136 (dk_at dksX1_addGain_1 10 rfl rfl)
theorem dX1_addGain_36 : decode cX1_addGain 36 = .ok (.ireturn, 1) := dk_172 (dk_at dksX1_addGain_1 13 rfl rfl)
abbrev cX1_checkRoom : ByteArray := prog_1_method_12_code
def yX1_checkRoom : MethodName := ⟨RX1, "checkRoom", "()V"⟩
def dkwX1_checkRoom_0 : List UInt8 := [42, 180, 0, 27, 182, 0, 70, 16, 10, 162, 0, 7, 4, 167, 0, 4, 3, 184, 0, 121, 177]
abbrev dktX1_checkRoom_0 : List UInt8 := dkwX1_checkRoom_0 ++ []
theorem dksX1_checkRoom_0 : cX1_checkRoom.data.toList.drop 0 = dktX1_checkRoom_0 := by decide +kernel
theorem dX1_checkRoom_0 : decode cX1_checkRoom 0 = .ok (.aload_n 0, 1) := dk_42 (dk_at dksX1_checkRoom_0 0 rfl rfl)
theorem dX1_checkRoom_1 : decode cX1_checkRoom 1 = .ok (.getfield 27, 3) := dk_180 0 27 (dk_at dksX1_checkRoom_0 1 rfl rfl)
theorem dX1_checkRoom_4 : decode cX1_checkRoom 4 = .ok (.invokevirtual 70, 3) := dk_182 0 70 (dk_at dksX1_checkRoom_0 4 rfl rfl)
theorem dX1_checkRoom_7 : decode cX1_checkRoom 7 = .ok (.bipush 10, 2) := dk_16 10 (dk_at dksX1_checkRoom_0 7 rfl rfl)
theorem dX1_checkRoom_9 : decode cX1_checkRoom 9 = .ok (.if_icmp .ge 7, 3) := dk_162 0 7 (dk_at dksX1_checkRoom_0 9 rfl rfl)
theorem dX1_checkRoom_12 : decode cX1_checkRoom 12 = .ok (.iconst 1, 1) := dk_4 (dk_at dksX1_checkRoom_0 12 rfl rfl)
theorem dX1_checkRoom_13 : decode cX1_checkRoom 13 = .ok (.goto 4, 3) := dk_167 0 4 (dk_at dksX1_checkRoom_0 13 rfl rfl)
theorem dX1_checkRoom_16 : decode cX1_checkRoom 16 = .ok (.iconst 0, 1) := dk_3 (dk_at dksX1_checkRoom_0 16 rfl rfl)
theorem dX1_checkRoom_17 : decode cX1_checkRoom 17 = .ok (.invokestatic 121, 3) := dk_184 0 121 (dk_at dksX1_checkRoom_0 17 rfl rfl)
theorem dX1_checkRoom_20 : decode cX1_checkRoom 20 = .ok (.return_, 1) := dk_177 (dk_at dksX1_checkRoom_0 20 rfl rfl)
abbrev cX1_checkState : ByteArray := prog_1_method_6_code
def yX1_checkState : MethodName := ⟨RX1, "checkState", "(Z)V"⟩
def dkwX1_checkState_0 : List UInt8 := [26, 154, 0, 11, 187, 0, 67, 89, 183, 0, 69, 191, 177]
abbrev dktX1_checkState_0 : List UInt8 := dkwX1_checkState_0 ++ []
theorem dksX1_checkState_0 : cX1_checkState.data.toList.drop 0 = dktX1_checkState_0 := by decide +kernel
theorem dX1_checkState_0 : decode cX1_checkState 0 = .ok (.iload_n 0, 1) := dk_26 (dk_at dksX1_checkState_0 0 rfl rfl)
theorem dX1_checkState_1 : decode cX1_checkState 1 = .ok (.ifCond .ne 11, 3) := dk_154 0 11 (dk_at dksX1_checkState_0 1 rfl rfl)
theorem dX1_checkState_4 : decode cX1_checkState 4 = .ok (.new 67, 3) := dk_187 0 67 (dk_at dksX1_checkState_0 4 rfl rfl)
theorem dX1_checkState_7 : decode cX1_checkState 7 = .ok (.dup, 1) := dk_89 (dk_at dksX1_checkState_0 7 rfl rfl)
theorem dX1_checkState_8 : decode cX1_checkState 8 = .ok (.invokespecial 69, 3) := dk_183 0 69 (dk_at dksX1_checkState_0 8 rfl rfl)
theorem dX1_checkState_11 : decode cX1_checkState 11 = .ok (.athrow, 1) := dk_191 (dk_at dksX1_checkState_0 11 rfl rfl)
theorem dX1_checkState_12 : decode cX1_checkState 12 = .ok (.return_, 1) := dk_177 (dk_at dksX1_checkState_0 12 rfl rfl)
abbrev cX1_added : ByteArray := prog_1_method_11_code
def yX1_added : MethodName := ⟨RX1, "added", "(LToneGraph$Node;)I"⟩
def dkwX1_added_0 : List UInt8 := [42, 180, 0, 27, 43, 182, 0, 56, 87, 42, 182, 0, 114, 43, 180, 0, 117, 172]
abbrev dktX1_added_0 : List UInt8 := dkwX1_added_0 ++ []
theorem dksX1_added_0 : cX1_added.data.toList.drop 0 = dktX1_added_0 := by decide +kernel
theorem dX1_added_0 : decode cX1_added 0 = .ok (.aload_n 0, 1) := dk_42 (dk_at dksX1_added_0 0 rfl rfl)
theorem dX1_added_1 : decode cX1_added 1 = .ok (.getfield 27, 3) := dk_180 0 27 (dk_at dksX1_added_0 1 rfl rfl)
theorem dX1_added_4 : decode cX1_added 4 = .ok (.aload_n 1, 1) := dk_43 (dk_at dksX1_added_0 4 rfl rfl)
theorem dX1_added_5 : decode cX1_added 5 = .ok (.invokevirtual 56, 3) := dk_182 0 56 (dk_at dksX1_added_0 5 rfl rfl)
theorem dX1_added_8 : decode cX1_added 8 = .ok (.pop, 1) := dk_87 (dk_at dksX1_added_0 8 rfl rfl)
theorem dX1_added_9 : decode cX1_added 9 = .ok (.aload_n 0, 1) := dk_42 (dk_at dksX1_added_0 9 rfl rfl)
theorem dX1_added_10 : decode cX1_added 10 = .ok (.invokevirtual 114, 3) := dk_182 0 114 (dk_at dksX1_added_0 10 rfl rfl)
theorem dX1_added_13 : decode cX1_added 13 = .ok (.aload_n 1, 1) := dk_43 (dk_at dksX1_added_0 13 rfl rfl)
theorem dX1_added_14 : decode cX1_added 14 = .ok (.getfield 117, 3) := dk_180 0 117 (dk_at dksX1_added_0 14 rfl rfl)
theorem dX1_added_17 : decode cX1_added 17 = .ok (.ireturn, 1) := dk_172 (dk_at dksX1_added_0 17 rfl rfl)
abbrev cX1_sort : ByteArray := prog_1_method_10_code
def yX1_sort : MethodName := ⟨RX1, "sort", "()V"⟩
def dkwX1_sort_5 : List UInt8 := [180, 0, 31, 42, 180, 0, 27, 27, 182, 0, 81, 192, 0, 85, 182, 0, 56, 87, 167, 255, 163, 177]
abbrev dktX1_sort_5 : List UInt8 := dkwX1_sort_5 ++ []
def dkwX1_sort_4 : List UInt8 := [132, 1, 1, 167, 255, 219, 42, 180, 0, 27, 27, 182, 0, 81, 192, 0, 85, 4, 181, 0, 103, 42]
abbrev dktX1_sort_4 : List UInt8 := dkwX1_sort_4 ++ dktX1_sort_5
def dkwX1_sort_3 : List UInt8 := [180, 0, 103, 154, 0, 20, 42, 180, 0, 27, 27, 182, 0, 81, 192, 0, 85, 184, 0, 110, 154, 0, 9]
abbrev dktX1_sort_3 : List UInt8 := dkwX1_sort_3 ++ dktX1_sort_4
def dkwX1_sort_2 : List UInt8 := [42, 180, 0, 27, 182, 0, 70, 162, 0, 82, 3, 60, 42, 180, 0, 27, 27, 182, 0, 81, 192, 0, 85]
abbrev dktX1_sort_2 : List UInt8 := dkwX1_sort_2 ++ dktX1_sort_3
def dkwX1_sort_1 : List UInt8 := [27, 182, 0, 81, 192, 0, 85, 3, 181, 0, 103, 132, 1, 1, 167, 255, 227, 42, 180, 0, 31, 182, 0, 70]
abbrev dktX1_sort_1 : List UInt8 := dkwX1_sort_1 ++ dktX1_sort_2
def dkwX1_sort_0 : List UInt8 := [42, 180, 0, 31, 182, 0, 107, 3, 60, 27, 42, 180, 0, 27, 182, 0, 70, 162, 0, 24, 42, 180, 0, 27]
abbrev dktX1_sort_0 : List UInt8 := dkwX1_sort_0 ++ dktX1_sort_1
theorem dksX1_sort_0 : cX1_sort.data.toList.drop 0 = dktX1_sort_0 := by decide +kernel
theorem dksX1_sort_1 : cX1_sort.data.toList.drop 24 = dktX1_sort_1 := dk_seg dksX1_sort_0 24 rfl rfl
theorem dksX1_sort_2 : cX1_sort.data.toList.drop 48 = dktX1_sort_2 := dk_seg dksX1_sort_1 24 rfl rfl
theorem dksX1_sort_3 : cX1_sort.data.toList.drop 71 = dktX1_sort_3 := dk_seg dksX1_sort_2 23 rfl rfl
theorem dksX1_sort_4 : cX1_sort.data.toList.drop 94 = dktX1_sort_4 := dk_seg dksX1_sort_3 23 rfl rfl
theorem dksX1_sort_5 : cX1_sort.data.toList.drop 116 = dktX1_sort_5 := dk_seg dksX1_sort_4 22 rfl rfl
theorem dX1_sort_0 : decode cX1_sort 0 = .ok (.aload_n 0, 1) := dk_42 (dk_at dksX1_sort_0 0 rfl rfl)
theorem dX1_sort_1 : decode cX1_sort 1 = .ok (.getfield 31, 3) := dk_180 0 31 (dk_at dksX1_sort_0 1 rfl rfl)
theorem dX1_sort_4 : decode cX1_sort 4 = .ok (.invokevirtual 107, 3) := dk_182 0 107 (dk_at dksX1_sort_0 4 rfl rfl)
theorem dX1_sort_7 : decode cX1_sort 7 = .ok (.iconst 0, 1) := dk_3 (dk_at dksX1_sort_0 7 rfl rfl)
theorem dX1_sort_8 : decode cX1_sort 8 = .ok (.istore_n 1, 1) := dk_60 (dk_at dksX1_sort_0 8 rfl rfl)
theorem dX1_sort_9 : decode cX1_sort 9 = .ok (.iload_n 1, 1) := dk_27 (dk_at dksX1_sort_0 9 rfl rfl)
theorem dX1_sort_10 : decode cX1_sort 10 = .ok (.aload_n 0, 1) := dk_42 (dk_at dksX1_sort_0 10 rfl rfl)
theorem dX1_sort_11 : decode cX1_sort 11 = .ok (.getfield 27, 3) := dk_180 0 27 (dk_at dksX1_sort_0 11 rfl rfl)
theorem dX1_sort_14 : decode cX1_sort 14 = .ok (.invokevirtual 70, 3) := dk_182 0 70 (dk_at dksX1_sort_0 14 rfl rfl)
theorem dX1_sort_17 : decode cX1_sort 17 = .ok (.if_icmp .ge 24, 3) := dk_162 0 24 (dk_at dksX1_sort_0 17 rfl rfl)
theorem dX1_sort_20 : decode cX1_sort 20 = .ok (.aload_n 0, 1) := dk_42 (dk_at dksX1_sort_0 20 rfl rfl)
theorem dX1_sort_21 : decode cX1_sort 21 = .ok (.getfield 27, 3) := dk_180 0 27 (dk_at dksX1_sort_0 21 rfl rfl)
theorem dX1_sort_24 : decode cX1_sort 24 = .ok (.iload_n 1, 1) := dk_27 (dk_at dksX1_sort_1 0 rfl rfl)
theorem dX1_sort_25 : decode cX1_sort 25 = .ok (.invokevirtual 81, 3) := dk_182 0 81 (dk_at dksX1_sort_1 1 rfl rfl)
theorem dX1_sort_28 : decode cX1_sort 28 = .ok (.checkcast 85, 3) := dk_192 0 85 (dk_at dksX1_sort_1 4 rfl rfl)
theorem dX1_sort_31 : decode cX1_sort 31 = .ok (.iconst 0, 1) := dk_3 (dk_at dksX1_sort_1 7 rfl rfl)
theorem dX1_sort_32 : decode cX1_sort 32 = .ok (.putfield 103, 3) := dk_181 0 103 (dk_at dksX1_sort_1 8 rfl rfl)
theorem dX1_sort_35 : decode cX1_sort 35 = .ok (.iinc 1 1, 3) := dk_132 1 1 (dk_at dksX1_sort_1 11 rfl rfl)
theorem dX1_sort_38 : decode cX1_sort 38 = .ok (.goto (-29), 3) := dk_167 255 227 (dk_at dksX1_sort_1 14 rfl rfl)
theorem dX1_sort_41 : decode cX1_sort 41 = .ok (.aload_n 0, 1) := dk_42 (dk_at dksX1_sort_1 17 rfl rfl)
theorem dX1_sort_42 : decode cX1_sort 42 = .ok (.getfield 31, 3) := dk_180 0 31 (dk_at dksX1_sort_1 18 rfl rfl)
theorem dX1_sort_45 : decode cX1_sort 45 = .ok (.invokevirtual 70, 3) := dk_182 0 70 (dk_at dksX1_sort_1 21 rfl rfl)
theorem dX1_sort_48 : decode cX1_sort 48 = .ok (.aload_n 0, 1) := dk_42 (dk_at dksX1_sort_2 0 rfl rfl)
theorem dX1_sort_49 : decode cX1_sort 49 = .ok (.getfield 27, 3) := dk_180 0 27 (dk_at dksX1_sort_2 1 rfl rfl)
theorem dX1_sort_52 : decode cX1_sort 52 = .ok (.invokevirtual 70, 3) := dk_182 0 70 (dk_at dksX1_sort_2 4 rfl rfl)
theorem dX1_sort_55 : decode cX1_sort 55 = .ok (.if_icmp .ge 82, 3) := dk_162 0 82 (dk_at dksX1_sort_2 7 rfl rfl)
theorem dX1_sort_58 : decode cX1_sort 58 = .ok (.iconst 0, 1) := dk_3 (dk_at dksX1_sort_2 10 rfl rfl)
theorem dX1_sort_59 : decode cX1_sort 59 = .ok (.istore_n 1, 1) := dk_60 (dk_at dksX1_sort_2 11 rfl rfl)
theorem dX1_sort_60 : decode cX1_sort 60 = .ok (.aload_n 0, 1) := dk_42 (dk_at dksX1_sort_2 12 rfl rfl)
theorem dX1_sort_61 : decode cX1_sort 61 = .ok (.getfield 27, 3) := dk_180 0 27 (dk_at dksX1_sort_2 13 rfl rfl)
theorem dX1_sort_64 : decode cX1_sort 64 = .ok (.iload_n 1, 1) := dk_27 (dk_at dksX1_sort_2 16 rfl rfl)
theorem dX1_sort_65 : decode cX1_sort 65 = .ok (.invokevirtual 81, 3) := dk_182 0 81 (dk_at dksX1_sort_2 17 rfl rfl)
theorem dX1_sort_68 : decode cX1_sort 68 = .ok (.checkcast 85, 3) := dk_192 0 85 (dk_at dksX1_sort_2 20 rfl rfl)
theorem dX1_sort_71 : decode cX1_sort 71 = .ok (.getfield 103, 3) := dk_180 0 103 (dk_at dksX1_sort_3 0 rfl rfl)
theorem dX1_sort_74 : decode cX1_sort 74 = .ok (.ifCond .ne 20, 3) := dk_154 0 20 (dk_at dksX1_sort_3 3 rfl rfl)
theorem dX1_sort_77 : decode cX1_sort 77 = .ok (.aload_n 0, 1) := dk_42 (dk_at dksX1_sort_3 6 rfl rfl)
theorem dX1_sort_78 : decode cX1_sort 78 = .ok (.getfield 27, 3) := dk_180 0 27 (dk_at dksX1_sort_3 7 rfl rfl)
theorem dX1_sort_81 : decode cX1_sort 81 = .ok (.iload_n 1, 1) := dk_27 (dk_at dksX1_sort_3 10 rfl rfl)
theorem dX1_sort_82 : decode cX1_sort 82 = .ok (.invokevirtual 81, 3) := dk_182 0 81 (dk_at dksX1_sort_3 11 rfl rfl)
theorem dX1_sort_85 : decode cX1_sort 85 = .ok (.checkcast 85, 3) := dk_192 0 85 (dk_at dksX1_sort_3 14 rfl rfl)
theorem dX1_sort_88 : decode cX1_sort 88 = .ok (.invokestatic 110, 3) := dk_184 0 110 (dk_at dksX1_sort_3 17 rfl rfl)
theorem dX1_sort_91 : decode cX1_sort 91 = .ok (.ifCond .ne 9, 3) := dk_154 0 9 (dk_at dksX1_sort_3 20 rfl rfl)
theorem dX1_sort_94 : decode cX1_sort 94 = .ok (.iinc 1 1, 3) := dk_132 1 1 (dk_at dksX1_sort_4 0 rfl rfl)
theorem dX1_sort_97 : decode cX1_sort 97 = .ok (.goto (-37), 3) := dk_167 255 219 (dk_at dksX1_sort_4 3 rfl rfl)
theorem dX1_sort_100 : decode cX1_sort 100 = .ok (.aload_n 0, 1) := dk_42 (dk_at dksX1_sort_4 6 rfl rfl)
theorem dX1_sort_101 : decode cX1_sort 101 = .ok (.getfield 27, 3) := dk_180 0 27 (dk_at dksX1_sort_4 7 rfl rfl)
theorem dX1_sort_104 : decode cX1_sort 104 = .ok (.iload_n 1, 1) := dk_27 (dk_at dksX1_sort_4 10 rfl rfl)
theorem dX1_sort_105 : decode cX1_sort 105 = .ok (.invokevirtual 81, 3) := dk_182 0 81 (dk_at dksX1_sort_4 11 rfl rfl)
theorem dX1_sort_108 : decode cX1_sort 108 = .ok (.checkcast 85, 3) := dk_192 0 85 (dk_at dksX1_sort_4 14 rfl rfl)
theorem dX1_sort_111 : decode cX1_sort 111 = .ok (.iconst 1, 1) := dk_4 (dk_at dksX1_sort_4 17 rfl rfl)
theorem dX1_sort_112 : decode cX1_sort 112 = .ok (.putfield 103, 3) := dk_181 0 103 (dk_at dksX1_sort_4 18 rfl rfl)
theorem dX1_sort_115 : decode cX1_sort 115 = .ok (.aload_n 0, 1) := dk_42 (dk_at dksX1_sort_4 21 rfl rfl)
theorem dX1_sort_116 : decode cX1_sort 116 = .ok (.getfield 31, 3) := dk_180 0 31 (dk_at dksX1_sort_5 0 rfl rfl)
theorem dX1_sort_119 : decode cX1_sort 119 = .ok (.aload_n 0, 1) := dk_42 (dk_at dksX1_sort_5 3 rfl rfl)
theorem dX1_sort_120 : decode cX1_sort 120 = .ok (.getfield 27, 3) := dk_180 0 27 (dk_at dksX1_sort_5 4 rfl rfl)
theorem dX1_sort_123 : decode cX1_sort 123 = .ok (.iload_n 1, 1) := dk_27 (dk_at dksX1_sort_5 7 rfl rfl)
theorem dX1_sort_124 : decode cX1_sort 124 = .ok (.invokevirtual 81, 3) := dk_182 0 81 (dk_at dksX1_sort_5 8 rfl rfl)
theorem dX1_sort_127 : decode cX1_sort 127 = .ok (.checkcast 85, 3) := dk_192 0 85 (dk_at dksX1_sort_5 11 rfl rfl)
theorem dX1_sort_130 : decode cX1_sort 130 = .ok (.invokevirtual 56, 3) := dk_182 0 56 (dk_at dksX1_sort_5 14 rfl rfl)
theorem dX1_sort_133 : decode cX1_sort 133 = .ok (.pop, 1) := dk_87 (dk_at dksX1_sort_5 17 rfl rfl)
theorem dX1_sort_134 : decode cX1_sort 134 = .ok (.goto (-93), 3) := dk_167 255 163 (dk_at dksX1_sort_5 18 rfl rfl)
theorem dX1_sort_137 : decode cX1_sort 137 = .ok (.return_, 1) := dk_177 (dk_at dksX1_sort_5 21 rfl rfl)
abbrev cX1_isReady : ByteArray := prog_1_method_9_code
def yX1_isReady : MethodName := ⟨RX1, "isReady", "(LToneGraph$Node;)Z"⟩
def dkwX1_isReady_2 : List UInt8 := [4, 172]
abbrev dktX1_isReady_2 : List UInt8 := dkwX1_isReady_2 ++ []
def dkwX1_isReady_1 : List UInt8 := [27, 182, 0, 81, 192, 0, 98, 180, 0, 100, 180, 0, 103, 154, 0, 5, 3, 172, 132, 1, 1, 167, 255, 213]
abbrev dktX1_isReady_1 : List UInt8 := dkwX1_isReady_1 ++ dktX1_isReady_2
def dkwX1_isReady_0 : List UInt8 := [3, 60, 27, 42, 180, 0, 91, 182, 0, 70, 162, 0, 38, 42, 182, 0, 94, 154, 0, 31, 42, 180, 0, 91]
abbrev dktX1_isReady_0 : List UInt8 := dkwX1_isReady_0 ++ dktX1_isReady_1
theorem dksX1_isReady_0 : cX1_isReady.data.toList.drop 0 = dktX1_isReady_0 := by decide +kernel
theorem dksX1_isReady_1 : cX1_isReady.data.toList.drop 24 = dktX1_isReady_1 := dk_seg dksX1_isReady_0 24 rfl rfl
theorem dksX1_isReady_2 : cX1_isReady.data.toList.drop 48 = dktX1_isReady_2 := dk_seg dksX1_isReady_1 24 rfl rfl
theorem dX1_isReady_0 : decode cX1_isReady 0 = .ok (.iconst 0, 1) := dk_3 (dk_at dksX1_isReady_0 0 rfl rfl)
theorem dX1_isReady_1 : decode cX1_isReady 1 = .ok (.istore_n 1, 1) := dk_60 (dk_at dksX1_isReady_0 1 rfl rfl)
theorem dX1_isReady_2 : decode cX1_isReady 2 = .ok (.iload_n 1, 1) := dk_27 (dk_at dksX1_isReady_0 2 rfl rfl)
theorem dX1_isReady_3 : decode cX1_isReady 3 = .ok (.aload_n 0, 1) := dk_42 (dk_at dksX1_isReady_0 3 rfl rfl)
theorem dX1_isReady_4 : decode cX1_isReady 4 = .ok (.getfield 91, 3) := dk_180 0 91 (dk_at dksX1_isReady_0 4 rfl rfl)
theorem dX1_isReady_7 : decode cX1_isReady 7 = .ok (.invokevirtual 70, 3) := dk_182 0 70 (dk_at dksX1_isReady_0 7 rfl rfl)
theorem dX1_isReady_10 : decode cX1_isReady 10 = .ok (.if_icmp .ge 38, 3) := dk_162 0 38 (dk_at dksX1_isReady_0 10 rfl rfl)
theorem dX1_isReady_13 : decode cX1_isReady 13 = .ok (.aload_n 0, 1) := dk_42 (dk_at dksX1_isReady_0 13 rfl rfl)
theorem dX1_isReady_14 : decode cX1_isReady 14 = .ok (.invokevirtual 94, 3) := dk_182 0 94 (dk_at dksX1_isReady_0 14 rfl rfl)
theorem dX1_isReady_17 : decode cX1_isReady 17 = .ok (.ifCond .ne 31, 3) := dk_154 0 31 (dk_at dksX1_isReady_0 17 rfl rfl)
theorem dX1_isReady_20 : decode cX1_isReady 20 = .ok (.aload_n 0, 1) := dk_42 (dk_at dksX1_isReady_0 20 rfl rfl)
theorem dX1_isReady_21 : decode cX1_isReady 21 = .ok (.getfield 91, 3) := dk_180 0 91 (dk_at dksX1_isReady_0 21 rfl rfl)
theorem dX1_isReady_24 : decode cX1_isReady 24 = .ok (.iload_n 1, 1) := dk_27 (dk_at dksX1_isReady_1 0 rfl rfl)
theorem dX1_isReady_25 : decode cX1_isReady 25 = .ok (.invokevirtual 81, 3) := dk_182 0 81 (dk_at dksX1_isReady_1 1 rfl rfl)
theorem dX1_isReady_28 : decode cX1_isReady 28 = .ok (.checkcast 98, 3) := dk_192 0 98 (dk_at dksX1_isReady_1 4 rfl rfl)
theorem dX1_isReady_31 : decode cX1_isReady 31 = .ok (.getfield 100, 3) := dk_180 0 100 (dk_at dksX1_isReady_1 7 rfl rfl)
theorem dX1_isReady_34 : decode cX1_isReady 34 = .ok (.getfield 103, 3) := dk_180 0 103 (dk_at dksX1_isReady_1 10 rfl rfl)
theorem dX1_isReady_37 : decode cX1_isReady 37 = .ok (.ifCond .ne 5, 3) := dk_154 0 5 (dk_at dksX1_isReady_1 13 rfl rfl)
theorem dX1_isReady_40 : decode cX1_isReady 40 = .ok (.iconst 0, 1) := dk_3 (dk_at dksX1_isReady_1 16 rfl rfl)
theorem dX1_isReady_41 : decode cX1_isReady 41 = .ok (.ireturn, 1) := dk_172 (dk_at dksX1_isReady_1 17 rfl rfl)
theorem dX1_isReady_42 : decode cX1_isReady 42 = .ok (.iinc 1 1, 3) := dk_132 1 1 (dk_at dksX1_isReady_1 18 rfl rfl)
theorem dX1_isReady_45 : decode cX1_isReady 45 = .ok (.goto (-43), 3) := dk_167 255 213 (dk_at dksX1_isReady_1 21 rfl rfl)
theorem dX1_isReady_48 : decode cX1_isReady 48 = .ok (.iconst 1, 1) := dk_4 (dk_at dksX1_isReady_2 0 rfl rfl)
theorem dX1_isReady_49 : decode cX1_isReady 49 = .ok (.ireturn, 1) := dk_172 (dk_at dksX1_isReady_2 1 rfl rfl)
abbrev cX1_addDelay : ByteArray := prog_1_method_14_code
def yX1_addDelay : MethodName := ⟨RX1, "addDelay", "(II)I"⟩
def dkwX1_addDelay_2 : List UInt8 := [28, 183, 0, 142, 182, 0, 136, 172]
abbrev dktX1_addDelay_2 : List UInt8 := dkwX1_addDelay_2 ++ []
def dkwX1_addDelay_1 : List UInt8 := [167, 0, 4, 3, 184, 0, 125, 42, 182, 0, 128, 42, 187, 0, 140, 89, 42, 180, 0, 27, 182, 0, 70, 27]
abbrev dktX1_addDelay_1 : List UInt8 := dkwX1_addDelay_1 ++ dktX1_addDelay_2
def dkwX1_addDelay_0 : List UInt8 := [27, 4, 16, 60, 184, 0, 74, 153, 0, 18, 28, 16, 161, 16, 95, 184, 0, 74, 153, 0, 7, 4]
abbrev dktX1_addDelay_0 : List UInt8 := dkwX1_addDelay_0 ++ dktX1_addDelay_1
theorem dksX1_addDelay_0 : cX1_addDelay.data.toList.drop 0 = dktX1_addDelay_0 := by decide +kernel
theorem dksX1_addDelay_1 : cX1_addDelay.data.toList.drop 22 = dktX1_addDelay_1 := dk_seg dksX1_addDelay_0 22 rfl rfl
theorem dksX1_addDelay_2 : cX1_addDelay.data.toList.drop 46 = dktX1_addDelay_2 := dk_seg dksX1_addDelay_1 24 rfl rfl
theorem dX1_addDelay_0 : decode cX1_addDelay 0 = .ok (.iload_n 1, 1) := dk_27 (dk_at dksX1_addDelay_0 0 rfl rfl)
theorem dX1_addDelay_1 : decode cX1_addDelay 1 = .ok (.iconst 1, 1) := dk_4 (dk_at dksX1_addDelay_0 1 rfl rfl)
theorem dX1_addDelay_2 : decode cX1_addDelay 2 = .ok (.bipush 60, 2) := dk_16 60 (dk_at dksX1_addDelay_0 2 rfl rfl)
theorem dX1_addDelay_4 : decode cX1_addDelay 4 = .ok (.invokestatic 74, 3) := dk_184 0 74 (dk_at dksX1_addDelay_0 4 rfl rfl)
theorem dX1_addDelay_7 : decode cX1_addDelay 7 = .ok (.ifCond .eq 18, 3) := dk_153 0 18 (dk_at dksX1_addDelay_0 7 rfl rfl)
theorem dX1_addDelay_10 : decode cX1_addDelay 10 = .ok (.iload_n 2, 1) := dk_28 (dk_at dksX1_addDelay_0 10 rfl rfl)
theorem dX1_addDelay_11 : decode cX1_addDelay 11 = .ok (.bipush (-95), 2) := dk_16 161 (dk_at dksX1_addDelay_0 11 rfl rfl)
theorem dX1_addDelay_13 : decode cX1_addDelay 13 = .ok (.bipush 95, 2) := dk_16 95 (dk_at dksX1_addDelay_0 13 rfl rfl)
theorem dX1_addDelay_15 : decode cX1_addDelay 15 = .ok (.invokestatic 74, 3) := dk_184 0 74 (dk_at dksX1_addDelay_0 15 rfl rfl)
theorem dX1_addDelay_18 : decode cX1_addDelay 18 = .ok (.ifCond .eq 7, 3) := dk_153 0 7 (dk_at dksX1_addDelay_0 18 rfl rfl)
theorem dX1_addDelay_21 : decode cX1_addDelay 21 = .ok (.iconst 1, 1) := dk_4 (dk_at dksX1_addDelay_0 21 rfl rfl)
theorem dX1_addDelay_22 : decode cX1_addDelay 22 = .ok (.goto 4, 3) := dk_167 0 4 (dk_at dksX1_addDelay_1 0 rfl rfl)
theorem dX1_addDelay_25 : decode cX1_addDelay 25 = .ok (.iconst 0, 1) := dk_3 (dk_at dksX1_addDelay_1 3 rfl rfl)
theorem dX1_addDelay_26 : decode cX1_addDelay 26 = .ok (.invokestatic 125, 3) := dk_184 0 125 (dk_at dksX1_addDelay_1 4 rfl rfl)
theorem dX1_addDelay_29 : decode cX1_addDelay 29 = .ok (.aload_n 0, 1) := dk_42 (dk_at dksX1_addDelay_1 7 rfl rfl)
theorem dX1_addDelay_30 : decode cX1_addDelay 30 = .ok (.invokevirtual 128, 3) := dk_182 0 128 (dk_at dksX1_addDelay_1 8 rfl rfl)
theorem dX1_addDelay_33 : decode cX1_addDelay 33 = .ok (.aload_n 0, 1) := dk_42 (dk_at dksX1_addDelay_1 11 rfl rfl)
theorem dX1_addDelay_34 : decode cX1_addDelay 34 = .ok (.new 140, 3) := dk_187 0 140 (dk_at dksX1_addDelay_1 12 rfl rfl)
theorem dX1_addDelay_37 : decode cX1_addDelay 37 = .ok (.dup, 1) := dk_89 (dk_at dksX1_addDelay_1 15 rfl rfl)
theorem dX1_addDelay_38 : decode cX1_addDelay 38 = .ok (.aload_n 0, 1) := dk_42 (dk_at dksX1_addDelay_1 16 rfl rfl)
theorem dX1_addDelay_39 : decode cX1_addDelay 39 = .ok (.getfield 27, 3) := dk_180 0 27 (dk_at dksX1_addDelay_1 17 rfl rfl)
theorem dX1_addDelay_42 : decode cX1_addDelay 42 = .ok (.invokevirtual 70, 3) := dk_182 0 70 (dk_at dksX1_addDelay_1 20 rfl rfl)
theorem dX1_addDelay_45 : decode cX1_addDelay 45 = .ok (.iload_n 1, 1) := dk_27 (dk_at dksX1_addDelay_1 23 rfl rfl)
theorem dX1_addDelay_46 : decode cX1_addDelay 46 = .ok (.iload_n 2, 1) := dk_28 (dk_at dksX1_addDelay_2 0 rfl rfl)
theorem dX1_addDelay_47 : decode cX1_addDelay 47 = .ok (.invokespecial 142, 3) := dk_183 0 142 (dk_at dksX1_addDelay_2 1 rfl rfl)
theorem dX1_addDelay_50 : decode cX1_addDelay 50 = .ok (.invokevirtual 136, 3) := dk_182 0 136 (dk_at dksX1_addDelay_2 4 rfl rfl)
theorem dX1_addDelay_53 : decode cX1_addDelay 53 = .ok (.ireturn, 1) := dk_172 (dk_at dksX1_addDelay_2 7 rfl rfl)
abbrev cX1_addFilter : ByteArray := prog_1_method_15_code
def yX1_addFilter : MethodName := ⟨RX1, "addFilter", "(III)I"⟩
def dkwX1_addFilter_3 : List UInt8 := [29, 79, 183, 0, 147, 182, 0, 136, 172]
abbrev dktX1_addFilter_3 : List UInt8 := dkwX1_addFilter_3 ++ []
def dkwX1_addFilter_2 : List UInt8 := [187, 0, 145, 89, 42, 180, 0, 27, 182, 0, 70, 6, 188, 10, 89, 3, 27, 79, 89, 4, 28, 79, 89, 5]
abbrev dktX1_addFilter_2 : List UInt8 := dkwX1_addFilter_2 ++ dktX1_addFilter_3
def dkwX1_addFilter_1 : List UInt8 := [16, 192, 16, 64, 184, 0, 74, 153, 0, 7, 4, 167, 0, 4, 3, 184, 0, 125, 42, 182, 0, 128, 42]
abbrev dktX1_addFilter_1 : List UInt8 := dkwX1_addFilter_1 ++ dktX1_addFilter_2
def dkwX1_addFilter_0 : List UInt8 := [27, 16, 192, 16, 64, 184, 0, 74, 153, 0, 29, 28, 16, 192, 16, 64, 184, 0, 74, 153, 0, 18, 29]
abbrev dktX1_addFilter_0 : List UInt8 := dkwX1_addFilter_0 ++ dktX1_addFilter_1
theorem dksX1_addFilter_0 : cX1_addFilter.data.toList.drop 0 = dktX1_addFilter_0 := by decide +kernel
theorem dksX1_addFilter_1 : cX1_addFilter.data.toList.drop 23 = dktX1_addFilter_1 := dk_seg dksX1_addFilter_0 23 rfl rfl
theorem dksX1_addFilter_2 : cX1_addFilter.data.toList.drop 46 = dktX1_addFilter_2 := dk_seg dksX1_addFilter_1 23 rfl rfl
theorem dksX1_addFilter_3 : cX1_addFilter.data.toList.drop 70 = dktX1_addFilter_3 := dk_seg dksX1_addFilter_2 24 rfl rfl
theorem dX1_addFilter_0 : decode cX1_addFilter 0 = .ok (.iload_n 1, 1) := dk_27 (dk_at dksX1_addFilter_0 0 rfl rfl)
theorem dX1_addFilter_1 : decode cX1_addFilter 1 = .ok (.bipush (-64), 2) := dk_16 192 (dk_at dksX1_addFilter_0 1 rfl rfl)
theorem dX1_addFilter_3 : decode cX1_addFilter 3 = .ok (.bipush 64, 2) := dk_16 64 (dk_at dksX1_addFilter_0 3 rfl rfl)
theorem dX1_addFilter_5 : decode cX1_addFilter 5 = .ok (.invokestatic 74, 3) := dk_184 0 74 (dk_at dksX1_addFilter_0 5 rfl rfl)
theorem dX1_addFilter_8 : decode cX1_addFilter 8 = .ok (.ifCond .eq 29, 3) := dk_153 0 29 (dk_at dksX1_addFilter_0 8 rfl rfl)
theorem dX1_addFilter_11 : decode cX1_addFilter 11 = .ok (.iload_n 2, 1) := dk_28 (dk_at dksX1_addFilter_0 11 rfl rfl)
theorem dX1_addFilter_12 : decode cX1_addFilter 12 = .ok (.bipush (-64), 2) := dk_16 192 (dk_at dksX1_addFilter_0 12 rfl rfl)
theorem dX1_addFilter_14 : decode cX1_addFilter 14 = .ok (.bipush 64, 2) := dk_16 64 (dk_at dksX1_addFilter_0 14 rfl rfl)
theorem dX1_addFilter_16 : decode cX1_addFilter 16 = .ok (.invokestatic 74, 3) := dk_184 0 74 (dk_at dksX1_addFilter_0 16 rfl rfl)
theorem dX1_addFilter_19 : decode cX1_addFilter 19 = .ok (.ifCond .eq 18, 3) := dk_153 0 18 (dk_at dksX1_addFilter_0 19 rfl rfl)
theorem dX1_addFilter_22 : decode cX1_addFilter 22 = .ok (.iload_n 3, 1) := dk_29 (dk_at dksX1_addFilter_0 22 rfl rfl)
theorem dX1_addFilter_23 : decode cX1_addFilter 23 = .ok (.bipush (-64), 2) := dk_16 192 (dk_at dksX1_addFilter_1 0 rfl rfl)
theorem dX1_addFilter_25 : decode cX1_addFilter 25 = .ok (.bipush 64, 2) := dk_16 64 (dk_at dksX1_addFilter_1 2 rfl rfl)
theorem dX1_addFilter_27 : decode cX1_addFilter 27 = .ok (.invokestatic 74, 3) := dk_184 0 74 (dk_at dksX1_addFilter_1 4 rfl rfl)
theorem dX1_addFilter_30 : decode cX1_addFilter 30 = .ok (.ifCond .eq 7, 3) := dk_153 0 7 (dk_at dksX1_addFilter_1 7 rfl rfl)
theorem dX1_addFilter_33 : decode cX1_addFilter 33 = .ok (.iconst 1, 1) := dk_4 (dk_at dksX1_addFilter_1 10 rfl rfl)
theorem dX1_addFilter_34 : decode cX1_addFilter 34 = .ok (.goto 4, 3) := dk_167 0 4 (dk_at dksX1_addFilter_1 11 rfl rfl)
theorem dX1_addFilter_37 : decode cX1_addFilter 37 = .ok (.iconst 0, 1) := dk_3 (dk_at dksX1_addFilter_1 14 rfl rfl)
theorem dX1_addFilter_38 : decode cX1_addFilter 38 = .ok (.invokestatic 125, 3) := dk_184 0 125 (dk_at dksX1_addFilter_1 15 rfl rfl)
theorem dX1_addFilter_41 : decode cX1_addFilter 41 = .ok (.aload_n 0, 1) := dk_42 (dk_at dksX1_addFilter_1 18 rfl rfl)
theorem dX1_addFilter_42 : decode cX1_addFilter 42 = .ok (.invokevirtual 128, 3) := dk_182 0 128 (dk_at dksX1_addFilter_1 19 rfl rfl)
theorem dX1_addFilter_45 : decode cX1_addFilter 45 = .ok (.aload_n 0, 1) := dk_42 (dk_at dksX1_addFilter_1 22 rfl rfl)
theorem dX1_addFilter_46 : decode cX1_addFilter 46 = .ok (.new 145, 3) := dk_187 0 145 (dk_at dksX1_addFilter_2 0 rfl rfl)
theorem dX1_addFilter_49 : decode cX1_addFilter 49 = .ok (.dup, 1) := dk_89 (dk_at dksX1_addFilter_2 3 rfl rfl)
theorem dX1_addFilter_50 : decode cX1_addFilter 50 = .ok (.aload_n 0, 1) := dk_42 (dk_at dksX1_addFilter_2 4 rfl rfl)
theorem dX1_addFilter_51 : decode cX1_addFilter 51 = .ok (.getfield 27, 3) := dk_180 0 27 (dk_at dksX1_addFilter_2 5 rfl rfl)
theorem dX1_addFilter_54 : decode cX1_addFilter 54 = .ok (.invokevirtual 70, 3) := dk_182 0 70 (dk_at dksX1_addFilter_2 8 rfl rfl)
theorem dX1_addFilter_57 : decode cX1_addFilter 57 = .ok (.iconst 3, 1) := dk_6 (dk_at dksX1_addFilter_2 11 rfl rfl)
theorem dX1_addFilter_58 : decode cX1_addFilter 58 = .ok (.newarray .int, 2) := dk_188_10 (dk_at dksX1_addFilter_2 12 rfl rfl)
theorem dX1_addFilter_60 : decode cX1_addFilter 60 = .ok (.dup, 1) := dk_89 (dk_at dksX1_addFilter_2 14 rfl rfl)
theorem dX1_addFilter_61 : decode cX1_addFilter 61 = .ok (.iconst 0, 1) := dk_3 (dk_at dksX1_addFilter_2 15 rfl rfl)
theorem dX1_addFilter_62 : decode cX1_addFilter 62 = .ok (.iload_n 1, 1) := dk_27 (dk_at dksX1_addFilter_2 16 rfl rfl)
theorem dX1_addFilter_63 : decode cX1_addFilter 63 = .ok (.iastore, 1) := dk_79 (dk_at dksX1_addFilter_2 17 rfl rfl)
theorem dX1_addFilter_64 : decode cX1_addFilter 64 = .ok (.dup, 1) := dk_89 (dk_at dksX1_addFilter_2 18 rfl rfl)
theorem dX1_addFilter_65 : decode cX1_addFilter 65 = .ok (.iconst 1, 1) := dk_4 (dk_at dksX1_addFilter_2 19 rfl rfl)
theorem dX1_addFilter_66 : decode cX1_addFilter 66 = .ok (.iload_n 2, 1) := dk_28 (dk_at dksX1_addFilter_2 20 rfl rfl)
theorem dX1_addFilter_67 : decode cX1_addFilter 67 = .ok (.iastore, 1) := dk_79 (dk_at dksX1_addFilter_2 21 rfl rfl)
theorem dX1_addFilter_68 : decode cX1_addFilter 68 = .ok (.dup, 1) := dk_89 (dk_at dksX1_addFilter_2 22 rfl rfl)
theorem dX1_addFilter_69 : decode cX1_addFilter 69 = .ok (.iconst 2, 1) := dk_5 (dk_at dksX1_addFilter_2 23 rfl rfl)
theorem dX1_addFilter_70 : decode cX1_addFilter 70 = .ok (.iload_n 3, 1) := dk_29 (dk_at dksX1_addFilter_3 0 rfl rfl)
theorem dX1_addFilter_71 : decode cX1_addFilter 71 = .ok (.iastore, 1) := dk_79 (dk_at dksX1_addFilter_3 1 rfl rfl)
theorem dX1_addFilter_72 : decode cX1_addFilter 72 = .ok (.invokespecial 147, 3) := dk_183 0 147 (dk_at dksX1_addFilter_3 2 rfl rfl)
theorem dX1_addFilter_75 : decode cX1_addFilter 75 = .ok (.invokevirtual 136, 3) := dk_182 0 136 (dk_at dksX1_addFilter_3 5 rfl rfl)
theorem dX1_addFilter_78 : decode cX1_addFilter 78 = .ok (.ireturn, 1) := dk_172 (dk_at dksX1_addFilter_3 8 rfl rfl)
abbrev cX1_addBus : ByteArray := prog_1_method_16_code
def yX1_addBus : MethodName := ⟨RX1, "addBus", "(I)I"⟩
def dkwX1_addBus_1 : List UInt8 := [182, 0, 70, 27, 183, 0, 152, 182, 0, 136, 172]
abbrev dktX1_addBus_1 : List UInt8 := dkwX1_addBus_1 ++ []
def dkwX1_addBus_0 : List UInt8 := [27, 3, 17, 127, 255, 184, 0, 74, 184, 0, 125, 42, 182, 0, 128, 42, 187, 0, 150, 89, 42, 180, 0, 27]
abbrev dktX1_addBus_0 : List UInt8 := dkwX1_addBus_0 ++ dktX1_addBus_1
theorem dksX1_addBus_0 : cX1_addBus.data.toList.drop 0 = dktX1_addBus_0 := by decide +kernel
theorem dksX1_addBus_1 : cX1_addBus.data.toList.drop 24 = dktX1_addBus_1 := dk_seg dksX1_addBus_0 24 rfl rfl
theorem dX1_addBus_0 : decode cX1_addBus 0 = .ok (.iload_n 1, 1) := dk_27 (dk_at dksX1_addBus_0 0 rfl rfl)
theorem dX1_addBus_1 : decode cX1_addBus 1 = .ok (.iconst 0, 1) := dk_3 (dk_at dksX1_addBus_0 1 rfl rfl)
theorem dX1_addBus_2 : decode cX1_addBus 2 = .ok (.sipush 32767, 3) := dk_17 127 255 (dk_at dksX1_addBus_0 2 rfl rfl)
theorem dX1_addBus_5 : decode cX1_addBus 5 = .ok (.invokestatic 74, 3) := dk_184 0 74 (dk_at dksX1_addBus_0 5 rfl rfl)
theorem dX1_addBus_8 : decode cX1_addBus 8 = .ok (.invokestatic 125, 3) := dk_184 0 125 (dk_at dksX1_addBus_0 8 rfl rfl)
theorem dX1_addBus_11 : decode cX1_addBus 11 = .ok (.aload_n 0, 1) := dk_42 (dk_at dksX1_addBus_0 11 rfl rfl)
theorem dX1_addBus_12 : decode cX1_addBus 12 = .ok (.invokevirtual 128, 3) := dk_182 0 128 (dk_at dksX1_addBus_0 12 rfl rfl)
theorem dX1_addBus_15 : decode cX1_addBus 15 = .ok (.aload_n 0, 1) := dk_42 (dk_at dksX1_addBus_0 15 rfl rfl)
theorem dX1_addBus_16 : decode cX1_addBus 16 = .ok (.new 150, 3) := dk_187 0 150 (dk_at dksX1_addBus_0 16 rfl rfl)
theorem dX1_addBus_19 : decode cX1_addBus 19 = .ok (.dup, 1) := dk_89 (dk_at dksX1_addBus_0 19 rfl rfl)
theorem dX1_addBus_20 : decode cX1_addBus 20 = .ok (.aload_n 0, 1) := dk_42 (dk_at dksX1_addBus_0 20 rfl rfl)
theorem dX1_addBus_21 : decode cX1_addBus 21 = .ok (.getfield 27, 3) := dk_180 0 27 (dk_at dksX1_addBus_0 21 rfl rfl)
theorem dX1_addBus_24 : decode cX1_addBus 24 = .ok (.invokevirtual 70, 3) := dk_182 0 70 (dk_at dksX1_addBus_1 0 rfl rfl)
theorem dX1_addBus_27 : decode cX1_addBus 27 = .ok (.iload_n 1, 1) := dk_27 (dk_at dksX1_addBus_1 3 rfl rfl)
theorem dX1_addBus_28 : decode cX1_addBus 28 = .ok (.invokespecial 152, 3) := dk_183 0 152 (dk_at dksX1_addBus_1 4 rfl rfl)
theorem dX1_addBus_31 : decode cX1_addBus 31 = .ok (.invokevirtual 136, 3) := dk_182 0 136 (dk_at dksX1_addBus_1 7 rfl rfl)
theorem dX1_addBus_34 : decode cX1_addBus 34 = .ok (.ireturn, 1) := dk_172 (dk_at dksX1_addBus_1 10 rfl rfl)
abbrev cX1_connect : ByteArray := prog_1_method_17_code
def yX1_connect : MethodName := ⟨RX1, "connect", "(III)I"⟩
def dkwX1_connect_5 : List UInt8 := [182, 0, 56, 87, 42, 182, 0, 114, 25, 5, 180, 0, 91, 182, 0, 70, 172]
abbrev dktX1_connect_5 : List UInt8 := dkwX1_connect_5 ++ []
def dkwX1_connect_4 : List UInt8 := [187, 0, 164, 89, 183, 0, 166, 191, 25, 5, 180, 0, 91, 187, 0, 98, 89, 25, 4, 29, 183, 0, 167]
abbrev dktX1_connect_4 : List UInt8 := dkwX1_connect_4 ++ dktX1_connect_5
def dkwX1_connect_3 : List UInt8 := [180, 0, 52, 165, 0, 21, 25, 5, 182, 0, 94, 154, 0, 21, 25, 4, 25, 5, 182, 0, 161, 153, 0, 11]
abbrev dktX1_connect_3 : List UInt8 := dkwX1_connect_3 ++ dktX1_connect_4
def dkwX1_connect_2 : List UInt8 := [25, 5, 180, 0, 91, 182, 0, 70, 7, 162, 0, 7, 4, 167, 0, 4, 3, 184, 0, 121, 25, 5, 42]
abbrev dktX1_connect_2 : List UInt8 := dkwX1_connect_2 ++ dktX1_connect_3
def dkwX1_connect_1 : List UInt8 := [184, 0, 74, 153, 0, 7, 4, 167, 0, 4, 3, 184, 0, 125, 25, 5, 25, 4, 182, 0, 157, 199, 0, 19]
abbrev dktX1_connect_1 : List UInt8 := dkwX1_connect_1 ++ dktX1_connect_2
def dkwX1_connect_0 : List UInt8 := [42, 27, 182, 0, 153, 58, 4, 42, 28, 182, 0, 153, 58, 5, 29, 153, 0, 18, 29, 16, 156, 16, 100]
abbrev dktX1_connect_0 : List UInt8 := dkwX1_connect_0 ++ dktX1_connect_1
theorem dksX1_connect_0 : cX1_connect.data.toList.drop 0 = dktX1_connect_0 := by decide +kernel
theorem dksX1_connect_1 : cX1_connect.data.toList.drop 23 = dktX1_connect_1 := dk_seg dksX1_connect_0 23 rfl rfl
theorem dksX1_connect_2 : cX1_connect.data.toList.drop 47 = dktX1_connect_2 := dk_seg dksX1_connect_1 24 rfl rfl
theorem dksX1_connect_3 : cX1_connect.data.toList.drop 70 = dktX1_connect_3 := dk_seg dksX1_connect_2 23 rfl rfl
theorem dksX1_connect_4 : cX1_connect.data.toList.drop 94 = dktX1_connect_4 := dk_seg dksX1_connect_3 24 rfl rfl
theorem dksX1_connect_5 : cX1_connect.data.toList.drop 117 = dktX1_connect_5 := dk_seg dksX1_connect_4 23 rfl rfl
theorem dX1_connect_0 : decode cX1_connect 0 = .ok (.aload_n 0, 1) := dk_42 (dk_at dksX1_connect_0 0 rfl rfl)
theorem dX1_connect_1 : decode cX1_connect 1 = .ok (.iload_n 1, 1) := dk_27 (dk_at dksX1_connect_0 1 rfl rfl)
theorem dX1_connect_2 : decode cX1_connect 2 = .ok (.invokevirtual 153, 3) := dk_182 0 153 (dk_at dksX1_connect_0 2 rfl rfl)
theorem dX1_connect_5 : decode cX1_connect 5 = .ok (.astore 4, 2) := dk_58 4 (dk_at dksX1_connect_0 5 rfl rfl)
theorem dX1_connect_7 : decode cX1_connect 7 = .ok (.aload_n 0, 1) := dk_42 (dk_at dksX1_connect_0 7 rfl rfl)
theorem dX1_connect_8 : decode cX1_connect 8 = .ok (.iload_n 2, 1) := dk_28 (dk_at dksX1_connect_0 8 rfl rfl)
theorem dX1_connect_9 : decode cX1_connect 9 = .ok (.invokevirtual 153, 3) := dk_182 0 153 (dk_at dksX1_connect_0 9 rfl rfl)
theorem dX1_connect_12 : decode cX1_connect 12 = .ok (.astore 5, 2) := dk_58 5 (dk_at dksX1_connect_0 12 rfl rfl)
theorem dX1_connect_14 : decode cX1_connect 14 = .ok (.iload_n 3, 1) := dk_29 (dk_at dksX1_connect_0 14 rfl rfl)
theorem dX1_connect_15 : decode cX1_connect 15 = .ok (.ifCond .eq 18, 3) := dk_153 0 18 (dk_at dksX1_connect_0 15 rfl rfl)
theorem dX1_connect_18 : decode cX1_connect 18 = .ok (.iload_n 3, 1) := dk_29 (dk_at dksX1_connect_0 18 rfl rfl)
theorem dX1_connect_19 : decode cX1_connect 19 = .ok (.bipush (-100), 2) := dk_16 156 (dk_at dksX1_connect_0 19 rfl rfl)
theorem dX1_connect_21 : decode cX1_connect 21 = .ok (.bipush 100, 2) := dk_16 100 (dk_at dksX1_connect_0 21 rfl rfl)
theorem dX1_connect_23 : decode cX1_connect 23 = .ok (.invokestatic 74, 3) := dk_184 0 74 (dk_at dksX1_connect_1 0 rfl rfl)
theorem dX1_connect_26 : decode cX1_connect 26 = .ok (.ifCond .eq 7, 3) := dk_153 0 7 (dk_at dksX1_connect_1 3 rfl rfl)
theorem dX1_connect_29 : decode cX1_connect 29 = .ok (.iconst 1, 1) := dk_4 (dk_at dksX1_connect_1 6 rfl rfl)
theorem dX1_connect_30 : decode cX1_connect 30 = .ok (.goto 4, 3) := dk_167 0 4 (dk_at dksX1_connect_1 7 rfl rfl)
theorem dX1_connect_33 : decode cX1_connect 33 = .ok (.iconst 0, 1) := dk_3 (dk_at dksX1_connect_1 10 rfl rfl)
theorem dX1_connect_34 : decode cX1_connect 34 = .ok (.invokestatic 125, 3) := dk_184 0 125 (dk_at dksX1_connect_1 11 rfl rfl)
theorem dX1_connect_37 : decode cX1_connect 37 = .ok (.aload 5, 2) := dk_25 5 (dk_at dksX1_connect_1 14 rfl rfl)
theorem dX1_connect_39 : decode cX1_connect 39 = .ok (.aload 4, 2) := dk_25 4 (dk_at dksX1_connect_1 16 rfl rfl)
theorem dX1_connect_41 : decode cX1_connect 41 = .ok (.invokevirtual 157, 3) := dk_182 0 157 (dk_at dksX1_connect_1 18 rfl rfl)
theorem dX1_connect_44 : decode cX1_connect 44 = .ok (.ifnonnull 19, 3) := dk_199 0 19 (dk_at dksX1_connect_1 21 rfl rfl)
theorem dX1_connect_47 : decode cX1_connect 47 = .ok (.aload 5, 2) := dk_25 5 (dk_at dksX1_connect_2 0 rfl rfl)
theorem dX1_connect_49 : decode cX1_connect 49 = .ok (.getfield 91, 3) := dk_180 0 91 (dk_at dksX1_connect_2 2 rfl rfl)
theorem dX1_connect_52 : decode cX1_connect 52 = .ok (.invokevirtual 70, 3) := dk_182 0 70 (dk_at dksX1_connect_2 5 rfl rfl)
theorem dX1_connect_55 : decode cX1_connect 55 = .ok (.iconst 4, 1) := dk_7 (dk_at dksX1_connect_2 8 rfl rfl)
theorem dX1_connect_56 : decode cX1_connect 56 = .ok (.if_icmp .ge 7, 3) := dk_162 0 7 (dk_at dksX1_connect_2 9 rfl rfl)
theorem dX1_connect_59 : decode cX1_connect 59 = .ok (.iconst 1, 1) := dk_4 (dk_at dksX1_connect_2 12 rfl rfl)
theorem dX1_connect_60 : decode cX1_connect 60 = .ok (.goto 4, 3) := dk_167 0 4 (dk_at dksX1_connect_2 13 rfl rfl)
theorem dX1_connect_63 : decode cX1_connect 63 = .ok (.iconst 0, 1) := dk_3 (dk_at dksX1_connect_2 16 rfl rfl)
theorem dX1_connect_64 : decode cX1_connect 64 = .ok (.invokestatic 121, 3) := dk_184 0 121 (dk_at dksX1_connect_2 17 rfl rfl)
theorem dX1_connect_67 : decode cX1_connect 67 = .ok (.aload 5, 2) := dk_25 5 (dk_at dksX1_connect_2 20 rfl rfl)
theorem dX1_connect_69 : decode cX1_connect 69 = .ok (.aload_n 0, 1) := dk_42 (dk_at dksX1_connect_2 22 rfl rfl)
theorem dX1_connect_70 : decode cX1_connect 70 = .ok (.getfield 52, 3) := dk_180 0 52 (dk_at dksX1_connect_3 0 rfl rfl)
theorem dX1_connect_73 : decode cX1_connect 73 = .ok (.if_acmp .eq 21, 3) := dk_165 0 21 (dk_at dksX1_connect_3 3 rfl rfl)
theorem dX1_connect_76 : decode cX1_connect 76 = .ok (.aload 5, 2) := dk_25 5 (dk_at dksX1_connect_3 6 rfl rfl)
theorem dX1_connect_78 : decode cX1_connect 78 = .ok (.invokevirtual 94, 3) := dk_182 0 94 (dk_at dksX1_connect_3 8 rfl rfl)
theorem dX1_connect_81 : decode cX1_connect 81 = .ok (.ifCond .ne 21, 3) := dk_154 0 21 (dk_at dksX1_connect_3 11 rfl rfl)
theorem dX1_connect_84 : decode cX1_connect 84 = .ok (.aload 4, 2) := dk_25 4 (dk_at dksX1_connect_3 14 rfl rfl)
theorem dX1_connect_86 : decode cX1_connect 86 = .ok (.aload 5, 2) := dk_25 5 (dk_at dksX1_connect_3 16 rfl rfl)
theorem dX1_connect_88 : decode cX1_connect 88 = .ok (.invokevirtual 161, 3) := dk_182 0 161 (dk_at dksX1_connect_3 18 rfl rfl)
theorem dX1_connect_91 : decode cX1_connect 91 = .ok (.ifCond .eq 11, 3) := dk_153 0 11 (dk_at dksX1_connect_3 21 rfl rfl)
theorem dX1_connect_94 : decode cX1_connect 94 = .ok (.new 164, 3) := dk_187 0 164 (dk_at dksX1_connect_4 0 rfl rfl)
theorem dX1_connect_97 : decode cX1_connect 97 = .ok (.dup, 1) := dk_89 (dk_at dksX1_connect_4 3 rfl rfl)
theorem dX1_connect_98 : decode cX1_connect 98 = .ok (.invokespecial 166, 3) := dk_183 0 166 (dk_at dksX1_connect_4 4 rfl rfl)
theorem dX1_connect_101 : decode cX1_connect 101 = .ok (.athrow, 1) := dk_191 (dk_at dksX1_connect_4 7 rfl rfl)
theorem dX1_connect_102 : decode cX1_connect 102 = .ok (.aload 5, 2) := dk_25 5 (dk_at dksX1_connect_4 8 rfl rfl)
theorem dX1_connect_104 : decode cX1_connect 104 = .ok (.getfield 91, 3) := dk_180 0 91 (dk_at dksX1_connect_4 10 rfl rfl)
theorem dX1_connect_107 : decode cX1_connect 107 = .ok (.new 98, 3) := dk_187 0 98 (dk_at dksX1_connect_4 13 rfl rfl)
theorem dX1_connect_110 : decode cX1_connect 110 = .ok (.dup, 1) := dk_89 (dk_at dksX1_connect_4 16 rfl rfl)
theorem dX1_connect_111 : decode cX1_connect 111 = .ok (.aload 4, 2) := dk_25 4 (dk_at dksX1_connect_4 17 rfl rfl)
theorem dX1_connect_113 : decode cX1_connect 113 = .ok (.iload_n 3, 1) := dk_29 (dk_at dksX1_connect_4 19 rfl rfl)
theorem dX1_connect_114 : decode cX1_connect 114 = .ok (.invokespecial 167, 3) := dk_183 0 167 (dk_at dksX1_connect_4 20 rfl rfl)
theorem dX1_connect_117 : decode cX1_connect 117 = .ok (.invokevirtual 56, 3) := dk_182 0 56 (dk_at dksX1_connect_5 0 rfl rfl)
theorem dX1_connect_120 : decode cX1_connect 120 = .ok (.pop, 1) := dk_87 (dk_at dksX1_connect_5 3 rfl rfl)
theorem dX1_connect_121 : decode cX1_connect 121 = .ok (.aload_n 0, 1) := dk_42 (dk_at dksX1_connect_5 4 rfl rfl)
theorem dX1_connect_122 : decode cX1_connect 122 = .ok (.invokevirtual 114, 3) := dk_182 0 114 (dk_at dksX1_connect_5 5 rfl rfl)
theorem dX1_connect_125 : decode cX1_connect 125 = .ok (.aload 5, 2) := dk_25 5 (dk_at dksX1_connect_5 8 rfl rfl)
theorem dX1_connect_127 : decode cX1_connect 127 = .ok (.getfield 91, 3) := dk_180 0 91 (dk_at dksX1_connect_5 10 rfl rfl)
theorem dX1_connect_130 : decode cX1_connect 130 = .ok (.invokevirtual 70, 3) := dk_182 0 70 (dk_at dksX1_connect_5 13 rfl rfl)
theorem dX1_connect_133 : decode cX1_connect 133 = .ok (.ireturn, 1) := dk_172 (dk_at dksX1_connect_5 16 rfl rfl)
abbrev cX1_node : ByteArray := prog_1_method_7_code
def yX1_node : MethodName := ⟨RX1, "node", "(I)LToneGraph$Node;"⟩
def dkwX1_node_1 : List UInt8 := [191, 42, 180, 0, 27, 27, 182, 0, 81, 192, 0, 85, 176]
abbrev dktX1_node_1 : List UInt8 := dkwX1_node_1 ++ []
def dkwX1_node_0 : List UInt8 := [27, 3, 42, 180, 0, 27, 182, 0, 70, 4, 100, 184, 0, 74, 154, 0, 11, 187, 0, 78, 89, 183, 0, 80]
abbrev dktX1_node_0 : List UInt8 := dkwX1_node_0 ++ dktX1_node_1
theorem dksX1_node_0 : cX1_node.data.toList.drop 0 = dktX1_node_0 := by decide +kernel
theorem dksX1_node_1 : cX1_node.data.toList.drop 24 = dktX1_node_1 := dk_seg dksX1_node_0 24 rfl rfl
theorem dX1_node_0 : decode cX1_node 0 = .ok (.iload_n 1, 1) := dk_27 (dk_at dksX1_node_0 0 rfl rfl)
theorem dX1_node_1 : decode cX1_node 1 = .ok (.iconst 0, 1) := dk_3 (dk_at dksX1_node_0 1 rfl rfl)
theorem dX1_node_2 : decode cX1_node 2 = .ok (.aload_n 0, 1) := dk_42 (dk_at dksX1_node_0 2 rfl rfl)
theorem dX1_node_3 : decode cX1_node 3 = .ok (.getfield 27, 3) := dk_180 0 27 (dk_at dksX1_node_0 3 rfl rfl)
theorem dX1_node_6 : decode cX1_node 6 = .ok (.invokevirtual 70, 3) := dk_182 0 70 (dk_at dksX1_node_0 6 rfl rfl)
theorem dX1_node_9 : decode cX1_node 9 = .ok (.iconst 1, 1) := dk_4 (dk_at dksX1_node_0 9 rfl rfl)
theorem dX1_node_10 : decode cX1_node 10 = .ok (.isub, 1) := dk_100 (dk_at dksX1_node_0 10 rfl rfl)
theorem dX1_node_11 : decode cX1_node 11 = .ok (.invokestatic 74, 3) := dk_184 0 74 (dk_at dksX1_node_0 11 rfl rfl)
theorem dX1_node_14 : decode cX1_node 14 = .ok (.ifCond .ne 11, 3) := dk_154 0 11 (dk_at dksX1_node_0 14 rfl rfl)
theorem dX1_node_17 : decode cX1_node 17 = .ok (.new 78, 3) := dk_187 0 78 (dk_at dksX1_node_0 17 rfl rfl)
theorem dX1_node_20 : decode cX1_node 20 = .ok (.dup, 1) := dk_89 (dk_at dksX1_node_0 20 rfl rfl)
theorem dX1_node_21 : decode cX1_node 21 = .ok (.invokespecial 80, 3) := dk_183 0 80 (dk_at dksX1_node_0 21 rfl rfl)
theorem dX1_node_24 : decode cX1_node 24 = .ok (.athrow, 1) := dk_191 (dk_at dksX1_node_1 0 rfl rfl)
theorem dX1_node_25 : decode cX1_node 25 = .ok (.aload_n 0, 1) := dk_42 (dk_at dksX1_node_1 1 rfl rfl)
theorem dX1_node_26 : decode cX1_node 26 = .ok (.getfield 27, 3) := dk_180 0 27 (dk_at dksX1_node_1 2 rfl rfl)
theorem dX1_node_29 : decode cX1_node 29 = .ok (.iload_n 1, 1) := dk_27 (dk_at dksX1_node_1 5 rfl rfl)
theorem dX1_node_30 : decode cX1_node 30 = .ok (.invokevirtual 81, 3) := dk_182 0 81 (dk_at dksX1_node_1 6 rfl rfl)
theorem dX1_node_33 : decode cX1_node 33 = .ok (.checkcast 85, 3) := dk_192 0 85 (dk_at dksX1_node_1 9 rfl rfl)
theorem dX1_node_36 : decode cX1_node 36 = .ok (.areturn, 1) := dk_176 (dk_at dksX1_node_1 12 rfl rfl)
abbrev cX1_disconnect : ByteArray := prog_1_method_18_code
def yX1_disconnect : MethodName := ⟨RX1, "disconnect", "(II)I"⟩
def dkwX1_disconnect_3 : List UInt8 := [182, 0, 114, 25, 5, 180, 0, 176, 172]
abbrev dktX1_disconnect_3 : List UInt8 := dkwX1_disconnect_3 ++ []
def dkwX1_disconnect_2 : List UInt8 := [25, 5, 165, 0, 9, 132, 6, 1, 167, 255, 238, 25, 4, 180, 0, 91, 21, 6, 182, 0, 173, 87, 42]
abbrev dktX1_disconnect_2 : List UInt8 := dkwX1_disconnect_2 ++ dktX1_disconnect_3
def dkwX1_disconnect_1 : List UInt8 := [199, 0, 11, 187, 0, 170, 89, 183, 0, 172, 191, 3, 54, 6, 25, 4, 180, 0, 91, 21, 6, 182, 0, 81]
abbrev dktX1_disconnect_1 : List UInt8 := dkwX1_disconnect_1 ++ dktX1_disconnect_2
def dkwX1_disconnect_0 : List UInt8 := [42, 27, 182, 0, 153, 78, 42, 28, 182, 0, 153, 58, 4, 25, 4, 45, 182, 0, 157, 58, 5, 25, 5]
abbrev dktX1_disconnect_0 : List UInt8 := dkwX1_disconnect_0 ++ dktX1_disconnect_1
theorem dksX1_disconnect_0 : cX1_disconnect.data.toList.drop 0 = dktX1_disconnect_0 := by decide +kernel
theorem dksX1_disconnect_1 : cX1_disconnect.data.toList.drop 23 = dktX1_disconnect_1 := dk_seg dksX1_disconnect_0 23 rfl rfl
theorem dksX1_disconnect_2 : cX1_disconnect.data.toList.drop 47 = dktX1_disconnect_2 := dk_seg dksX1_disconnect_1 24 rfl rfl
theorem dksX1_disconnect_3 : cX1_disconnect.data.toList.drop 70 = dktX1_disconnect_3 := dk_seg dksX1_disconnect_2 23 rfl rfl
theorem dX1_disconnect_0 : decode cX1_disconnect 0 = .ok (.aload_n 0, 1) := dk_42 (dk_at dksX1_disconnect_0 0 rfl rfl)
theorem dX1_disconnect_1 : decode cX1_disconnect 1 = .ok (.iload_n 1, 1) := dk_27 (dk_at dksX1_disconnect_0 1 rfl rfl)
theorem dX1_disconnect_2 : decode cX1_disconnect 2 = .ok (.invokevirtual 153, 3) := dk_182 0 153 (dk_at dksX1_disconnect_0 2 rfl rfl)
theorem dX1_disconnect_5 : decode cX1_disconnect 5 = .ok (.astore_n 3, 1) := dk_78 (dk_at dksX1_disconnect_0 5 rfl rfl)
theorem dX1_disconnect_6 : decode cX1_disconnect 6 = .ok (.aload_n 0, 1) := dk_42 (dk_at dksX1_disconnect_0 6 rfl rfl)
theorem dX1_disconnect_7 : decode cX1_disconnect 7 = .ok (.iload_n 2, 1) := dk_28 (dk_at dksX1_disconnect_0 7 rfl rfl)
theorem dX1_disconnect_8 : decode cX1_disconnect 8 = .ok (.invokevirtual 153, 3) := dk_182 0 153 (dk_at dksX1_disconnect_0 8 rfl rfl)
theorem dX1_disconnect_11 : decode cX1_disconnect 11 = .ok (.astore 4, 2) := dk_58 4 (dk_at dksX1_disconnect_0 11 rfl rfl)
theorem dX1_disconnect_13 : decode cX1_disconnect 13 = .ok (.aload 4, 2) := dk_25 4 (dk_at dksX1_disconnect_0 13 rfl rfl)
theorem dX1_disconnect_15 : decode cX1_disconnect 15 = .ok (.aload_n 3, 1) := dk_45 (dk_at dksX1_disconnect_0 15 rfl rfl)
theorem dX1_disconnect_16 : decode cX1_disconnect 16 = .ok (.invokevirtual 157, 3) := dk_182 0 157 (dk_at dksX1_disconnect_0 16 rfl rfl)
theorem dX1_disconnect_19 : decode cX1_disconnect 19 = .ok (.astore 5, 2) := dk_58 5 (dk_at dksX1_disconnect_0 19 rfl rfl)
theorem dX1_disconnect_21 : decode cX1_disconnect 21 = .ok (.aload 5, 2) := dk_25 5 (dk_at dksX1_disconnect_0 21 rfl rfl)
theorem dX1_disconnect_23 : decode cX1_disconnect 23 = .ok (.ifnonnull 11, 3) := dk_199 0 11 (dk_at dksX1_disconnect_1 0 rfl rfl)
theorem dX1_disconnect_26 : decode cX1_disconnect 26 = .ok (.new 170, 3) := dk_187 0 170 (dk_at dksX1_disconnect_1 3 rfl rfl)
theorem dX1_disconnect_29 : decode cX1_disconnect 29 = .ok (.dup, 1) := dk_89 (dk_at dksX1_disconnect_1 6 rfl rfl)
theorem dX1_disconnect_30 : decode cX1_disconnect 30 = .ok (.invokespecial 172, 3) := dk_183 0 172 (dk_at dksX1_disconnect_1 7 rfl rfl)
theorem dX1_disconnect_33 : decode cX1_disconnect 33 = .ok (.athrow, 1) := dk_191 (dk_at dksX1_disconnect_1 10 rfl rfl)
theorem dX1_disconnect_34 : decode cX1_disconnect 34 = .ok (.iconst 0, 1) := dk_3 (dk_at dksX1_disconnect_1 11 rfl rfl)
theorem dX1_disconnect_35 : decode cX1_disconnect 35 = .ok (.istore 6, 2) := dk_54 6 (dk_at dksX1_disconnect_1 12 rfl rfl)
theorem dX1_disconnect_37 : decode cX1_disconnect 37 = .ok (.aload 4, 2) := dk_25 4 (dk_at dksX1_disconnect_1 14 rfl rfl)
theorem dX1_disconnect_39 : decode cX1_disconnect 39 = .ok (.getfield 91, 3) := dk_180 0 91 (dk_at dksX1_disconnect_1 16 rfl rfl)
theorem dX1_disconnect_42 : decode cX1_disconnect 42 = .ok (.iload 6, 2) := dk_21 6 (dk_at dksX1_disconnect_1 19 rfl rfl)
theorem dX1_disconnect_44 : decode cX1_disconnect 44 = .ok (.invokevirtual 81, 3) := dk_182 0 81 (dk_at dksX1_disconnect_1 21 rfl rfl)
theorem dX1_disconnect_47 : decode cX1_disconnect 47 = .ok (.aload 5, 2) := dk_25 5 (dk_at dksX1_disconnect_2 0 rfl rfl)
theorem dX1_disconnect_49 : decode cX1_disconnect 49 = .ok (.if_acmp .eq 9, 3) := dk_165 0 9 (dk_at dksX1_disconnect_2 2 rfl rfl)
theorem dX1_disconnect_52 : decode cX1_disconnect 52 = .ok (.iinc 6 1, 3) := dk_132 6 1 (dk_at dksX1_disconnect_2 5 rfl rfl)
theorem dX1_disconnect_55 : decode cX1_disconnect 55 = .ok (.goto (-18), 3) := dk_167 255 238 (dk_at dksX1_disconnect_2 8 rfl rfl)
theorem dX1_disconnect_58 : decode cX1_disconnect 58 = .ok (.aload 4, 2) := dk_25 4 (dk_at dksX1_disconnect_2 11 rfl rfl)
theorem dX1_disconnect_60 : decode cX1_disconnect 60 = .ok (.getfield 91, 3) := dk_180 0 91 (dk_at dksX1_disconnect_2 13 rfl rfl)
theorem dX1_disconnect_63 : decode cX1_disconnect 63 = .ok (.iload 6, 2) := dk_21 6 (dk_at dksX1_disconnect_2 16 rfl rfl)
theorem dX1_disconnect_65 : decode cX1_disconnect 65 = .ok (.invokevirtual 173, 3) := dk_182 0 173 (dk_at dksX1_disconnect_2 18 rfl rfl)
theorem dX1_disconnect_68 : decode cX1_disconnect 68 = .ok (.pop, 1) := dk_87 (dk_at dksX1_disconnect_2 21 rfl rfl)
theorem dX1_disconnect_69 : decode cX1_disconnect 69 = .ok (.aload_n 0, 1) := dk_42 (dk_at dksX1_disconnect_2 22 rfl rfl)
theorem dX1_disconnect_70 : decode cX1_disconnect 70 = .ok (.invokevirtual 114, 3) := dk_182 0 114 (dk_at dksX1_disconnect_3 0 rfl rfl)
theorem dX1_disconnect_73 : decode cX1_disconnect 73 = .ok (.aload 5, 2) := dk_25 5 (dk_at dksX1_disconnect_3 3 rfl rfl)
theorem dX1_disconnect_75 : decode cX1_disconnect 75 = .ok (.getfield 176, 3) := dk_180 0 176 (dk_at dksX1_disconnect_3 5 rfl rfl)
theorem dX1_disconnect_78 : decode cX1_disconnect 78 = .ok (.ireturn, 1) := dk_172 (dk_at dksX1_disconnect_3 8 rfl rfl)
abbrev cX1_setGain : ByteArray := prog_1_method_19_code
def yX1_setGain : MethodName := ⟨RX1, "setGain", "(II)I"⟩
def dkwX1_setGain_2 : List UInt8 := [54, 5, 25, 4, 28, 181, 0, 179, 21, 5, 172]
abbrev dktX1_setGain_2 : List UInt8 := dkwX1_setGain_2 ++ []
def dkwX1_setGain_1 : List UInt8 := [17, 255, 56, 17, 0, 200, 184, 0, 74, 184, 0, 125, 45, 192, 0, 131, 58, 4, 25, 4, 180, 0, 179]
abbrev dktX1_setGain_1 : List UInt8 := dkwX1_setGain_1 ++ dktX1_setGain_2
def dkwX1_setGain_0 : List UInt8 := [42, 27, 182, 0, 153, 78, 45, 193, 0, 131, 154, 0, 11, 187, 0, 164, 89, 183, 0, 166, 191, 28]
abbrev dktX1_setGain_0 : List UInt8 := dkwX1_setGain_0 ++ dktX1_setGain_1
theorem dksX1_setGain_0 : cX1_setGain.data.toList.drop 0 = dktX1_setGain_0 := by decide +kernel
theorem dksX1_setGain_1 : cX1_setGain.data.toList.drop 22 = dktX1_setGain_1 := dk_seg dksX1_setGain_0 22 rfl rfl
theorem dksX1_setGain_2 : cX1_setGain.data.toList.drop 45 = dktX1_setGain_2 := dk_seg dksX1_setGain_1 23 rfl rfl
theorem dX1_setGain_0 : decode cX1_setGain 0 = .ok (.aload_n 0, 1) := dk_42 (dk_at dksX1_setGain_0 0 rfl rfl)
theorem dX1_setGain_1 : decode cX1_setGain 1 = .ok (.iload_n 1, 1) := dk_27 (dk_at dksX1_setGain_0 1 rfl rfl)
theorem dX1_setGain_2 : decode cX1_setGain 2 = .ok (.invokevirtual 153, 3) := dk_182 0 153 (dk_at dksX1_setGain_0 2 rfl rfl)
theorem dX1_setGain_5 : decode cX1_setGain 5 = .ok (.astore_n 3, 1) := dk_78 (dk_at dksX1_setGain_0 5 rfl rfl)
theorem dX1_setGain_6 : decode cX1_setGain 6 = .ok (.aload_n 3, 1) := dk_45 (dk_at dksX1_setGain_0 6 rfl rfl)
theorem dX1_setGain_7 : decode cX1_setGain 7 = .ok (.instanceof 131, 3) := dk_193 0 131 (dk_at dksX1_setGain_0 7 rfl rfl)
theorem dX1_setGain_10 : decode cX1_setGain 10 = .ok (.ifCond .ne 11, 3) := dk_154 0 11 (dk_at dksX1_setGain_0 10 rfl rfl)
theorem dX1_setGain_13 : decode cX1_setGain 13 = .ok (.new 164, 3) := dk_187 0 164 (dk_at dksX1_setGain_0 13 rfl rfl)
theorem dX1_setGain_16 : decode cX1_setGain 16 = .ok (.dup, 1) := dk_89 (dk_at dksX1_setGain_0 16 rfl rfl)
theorem dX1_setGain_17 : decode cX1_setGain 17 = .ok (.invokespecial 166, 3) := dk_183 0 166 (dk_at dksX1_setGain_0 17 rfl rfl)
theorem dX1_setGain_20 : decode cX1_setGain 20 = .ok (.athrow, 1) := dk_191 (dk_at dksX1_setGain_0 20 rfl rfl)
theorem dX1_setGain_21 : decode cX1_setGain 21 = .ok (.iload_n 2, 1) := dk_28 (dk_at dksX1_setGain_0 21 rfl rfl)
theorem dX1_setGain_22 : decode cX1_setGain 22 = .ok (.sipush (-200), 3) := dk_17 255 56 (dk_at dksX1_setGain_1 0 rfl rfl)
theorem dX1_setGain_25 : decode cX1_setGain 25 = .ok (.sipush 200, 3) := dk_17 0 200 (dk_at dksX1_setGain_1 3 rfl rfl)
theorem dX1_setGain_28 : decode cX1_setGain 28 = .ok (.invokestatic 74, 3) := dk_184 0 74 (dk_at dksX1_setGain_1 6 rfl rfl)
theorem dX1_setGain_31 : decode cX1_setGain 31 = .ok (.invokestatic 125, 3) := dk_184 0 125 (dk_at dksX1_setGain_1 9 rfl rfl)
theorem dX1_setGain_34 : decode cX1_setGain 34 = .ok (.aload_n 3, 1) := dk_45 (dk_at dksX1_setGain_1 12 rfl rfl)
theorem dX1_setGain_35 : decode cX1_setGain 35 = .ok (.checkcast 131, 3) := dk_192 0 131 (dk_at dksX1_setGain_1 13 rfl rfl)
theorem dX1_setGain_38 : decode cX1_setGain 38 = .ok (.astore 4, 2) := dk_58 4 (dk_at dksX1_setGain_1 16 rfl rfl)
theorem dX1_setGain_40 : decode cX1_setGain 40 = .ok (.aload 4, 2) := dk_25 4 (dk_at dksX1_setGain_1 18 rfl rfl)
theorem dX1_setGain_42 : decode cX1_setGain 42 = .ok (.getfield 179, 3) := dk_180 0 179 (dk_at dksX1_setGain_1 20 rfl rfl)
theorem dX1_setGain_45 : decode cX1_setGain 45 = .ok (.istore 5, 2) := dk_54 5 (dk_at dksX1_setGain_2 0 rfl rfl)
theorem dX1_setGain_47 : decode cX1_setGain 47 = .ok (.aload 4, 2) := dk_25 4 (dk_at dksX1_setGain_2 2 rfl rfl)
theorem dX1_setGain_49 : decode cX1_setGain 49 = .ok (.iload_n 2, 1) := dk_28 (dk_at dksX1_setGain_2 4 rfl rfl)
theorem dX1_setGain_50 : decode cX1_setGain 50 = .ok (.putfield 179, 3) := dk_181 0 179 (dk_at dksX1_setGain_2 5 rfl rfl)
theorem dX1_setGain_53 : decode cX1_setGain 53 = .ok (.iload 5, 2) := dk_21 5 (dk_at dksX1_setGain_2 8 rfl rfl)
theorem dX1_setGain_55 : decode cX1_setGain 55 = .ok (.ireturn, 1) := dk_172 (dk_at dksX1_setGain_2 10 rfl rfl)
abbrev cX1_setOutput : ByteArray := prog_1_method_20_code
def yX1_setOutput : MethodName := ⟨RX1, "setOutput", "(I)I"⟩
def dkwX1_setOutput_0 : List UInt8 := [42, 27, 182, 0, 153, 77, 42, 180, 0, 60, 180, 0, 117, 62, 42, 44, 181, 0, 60, 29, 172]
abbrev dktX1_setOutput_0 : List UInt8 := dkwX1_setOutput_0 ++ []
theorem dksX1_setOutput_0 : cX1_setOutput.data.toList.drop 0 = dktX1_setOutput_0 := by decide +kernel
theorem dX1_setOutput_0 : decode cX1_setOutput 0 = .ok (.aload_n 0, 1) := dk_42 (dk_at dksX1_setOutput_0 0 rfl rfl)
theorem dX1_setOutput_1 : decode cX1_setOutput 1 = .ok (.iload_n 1, 1) := dk_27 (dk_at dksX1_setOutput_0 1 rfl rfl)
theorem dX1_setOutput_2 : decode cX1_setOutput 2 = .ok (.invokevirtual 153, 3) := dk_182 0 153 (dk_at dksX1_setOutput_0 2 rfl rfl)
theorem dX1_setOutput_5 : decode cX1_setOutput 5 = .ok (.astore_n 2, 1) := dk_77 (dk_at dksX1_setOutput_0 5 rfl rfl)
theorem dX1_setOutput_6 : decode cX1_setOutput 6 = .ok (.aload_n 0, 1) := dk_42 (dk_at dksX1_setOutput_0 6 rfl rfl)
theorem dX1_setOutput_7 : decode cX1_setOutput 7 = .ok (.getfield 60, 3) := dk_180 0 60 (dk_at dksX1_setOutput_0 7 rfl rfl)
theorem dX1_setOutput_10 : decode cX1_setOutput 10 = .ok (.getfield 117, 3) := dk_180 0 117 (dk_at dksX1_setOutput_0 10 rfl rfl)
theorem dX1_setOutput_13 : decode cX1_setOutput 13 = .ok (.istore_n 3, 1) := dk_62 (dk_at dksX1_setOutput_0 13 rfl rfl)
theorem dX1_setOutput_14 : decode cX1_setOutput 14 = .ok (.aload_n 0, 1) := dk_42 (dk_at dksX1_setOutput_0 14 rfl rfl)
theorem dX1_setOutput_15 : decode cX1_setOutput 15 = .ok (.aload_n 2, 1) := dk_44 (dk_at dksX1_setOutput_0 15 rfl rfl)
theorem dX1_setOutput_16 : decode cX1_setOutput 16 = .ok (.putfield 60, 3) := dk_181 0 60 (dk_at dksX1_setOutput_0 16 rfl rfl)
theorem dX1_setOutput_19 : decode cX1_setOutput 19 = .ok (.iload_n 3, 1) := dk_29 (dk_at dksX1_setOutput_0 19 rfl rfl)
theorem dX1_setOutput_20 : decode cX1_setOutput 20 = .ok (.ireturn, 1) := dk_172 (dk_at dksX1_setOutput_0 20 rfl rfl)
abbrev cX1_kindOf : ByteArray := prog_1_method_22_code
def yX1_kindOf : MethodName := ⟨RX1, "kindOf", "(I)C"⟩
def dkwX1_kindOf_0 : List UInt8 := [42, 27, 182, 0, 153, 180, 0, 180, 172]
abbrev dktX1_kindOf_0 : List UInt8 := dkwX1_kindOf_0 ++ []
theorem dksX1_kindOf_0 : cX1_kindOf.data.toList.drop 0 = dktX1_kindOf_0 := by decide +kernel
theorem dX1_kindOf_0 : decode cX1_kindOf 0 = .ok (.aload_n 0, 1) := dk_42 (dk_at dksX1_kindOf_0 0 rfl rfl)
theorem dX1_kindOf_1 : decode cX1_kindOf 1 = .ok (.iload_n 1, 1) := dk_27 (dk_at dksX1_kindOf_0 1 rfl rfl)
theorem dX1_kindOf_2 : decode cX1_kindOf 2 = .ok (.invokevirtual 153, 3) := dk_182 0 153 (dk_at dksX1_kindOf_0 2 rfl rfl)
theorem dX1_kindOf_5 : decode cX1_kindOf 5 = .ok (.getfield 180, 3) := dk_180 0 180 (dk_at dksX1_kindOf_0 5 rfl rfl)
theorem dX1_kindOf_8 : decode cX1_kindOf 8 = .ok (.ireturn, 1) := dk_172 (dk_at dksX1_kindOf_0 8 rfl rfl)
abbrev cX1_wires : ByteArray := prog_1_method_23_code
def yX1_wires : MethodName := ⟨RX1, "wires", "(I)I"⟩
def dkwX1_wires_0 : List UInt8 := [42, 27, 182, 0, 153, 180, 0, 91, 182, 0, 70, 172]
abbrev dktX1_wires_0 : List UInt8 := dkwX1_wires_0 ++ []
theorem dksX1_wires_0 : cX1_wires.data.toList.drop 0 = dktX1_wires_0 := by decide +kernel
theorem dX1_wires_0 : decode cX1_wires 0 = .ok (.aload_n 0, 1) := dk_42 (dk_at dksX1_wires_0 0 rfl rfl)
theorem dX1_wires_1 : decode cX1_wires 1 = .ok (.iload_n 1, 1) := dk_27 (dk_at dksX1_wires_0 1 rfl rfl)
theorem dX1_wires_2 : decode cX1_wires 2 = .ok (.invokevirtual 153, 3) := dk_182 0 153 (dk_at dksX1_wires_0 2 rfl rfl)
theorem dX1_wires_5 : decode cX1_wires 5 = .ok (.getfield 91, 3) := dk_180 0 91 (dk_at dksX1_wires_0 5 rfl rfl)
theorem dX1_wires_8 : decode cX1_wires 8 = .ok (.invokevirtual 70, 3) := dk_182 0 70 (dk_at dksX1_wires_0 8 rfl rfl)
theorem dX1_wires_11 : decode cX1_wires 11 = .ok (.ireturn, 1) := dk_172 (dk_at dksX1_wires_0 11 rfl rfl)
abbrev cX1_wireFrom : ByteArray := prog_1_method_25_code
def yX1_wireFrom : MethodName := ⟨RX1, "wireFrom", "(II)I"⟩
def dkwX1_wireFrom_0 : List UInt8 := [42, 27, 28, 182, 0, 183, 180, 0, 100, 180, 0, 117, 172]
abbrev dktX1_wireFrom_0 : List UInt8 := dkwX1_wireFrom_0 ++ []
theorem dksX1_wireFrom_0 : cX1_wireFrom.data.toList.drop 0 = dktX1_wireFrom_0 := by decide +kernel
theorem dX1_wireFrom_0 : decode cX1_wireFrom 0 = .ok (.aload_n 0, 1) := dk_42 (dk_at dksX1_wireFrom_0 0 rfl rfl)
theorem dX1_wireFrom_1 : decode cX1_wireFrom 1 = .ok (.iload_n 1, 1) := dk_27 (dk_at dksX1_wireFrom_0 1 rfl rfl)
theorem dX1_wireFrom_2 : decode cX1_wireFrom 2 = .ok (.iload_n 2, 1) := dk_28 (dk_at dksX1_wireFrom_0 2 rfl rfl)
theorem dX1_wireFrom_3 : decode cX1_wireFrom 3 = .ok (.invokevirtual 183, 3) := dk_182 0 183 (dk_at dksX1_wireFrom_0 3 rfl rfl)
theorem dX1_wireFrom_6 : decode cX1_wireFrom 6 = .ok (.getfield 100, 3) := dk_180 0 100 (dk_at dksX1_wireFrom_0 6 rfl rfl)
theorem dX1_wireFrom_9 : decode cX1_wireFrom 9 = .ok (.getfield 117, 3) := dk_180 0 117 (dk_at dksX1_wireFrom_0 9 rfl rfl)
theorem dX1_wireFrom_12 : decode cX1_wireFrom 12 = .ok (.ireturn, 1) := dk_172 (dk_at dksX1_wireFrom_0 12 rfl rfl)
abbrev cX1_wire : ByteArray := prog_1_method_24_code
def yX1_wire : MethodName := ⟨RX1, "wire", "(II)LToneGraph$Wire;"⟩
def dkwX1_wire_1 : List UInt8 := [187, 0, 170, 89, 183, 0, 172, 191, 45, 28, 182, 0, 81, 192, 0, 98, 176]
abbrev dktX1_wire_1 : List UInt8 := dkwX1_wire_1 ++ []
def dkwX1_wire_0 : List UInt8 := [42, 27, 182, 0, 153, 180, 0, 91, 78, 28, 3, 45, 182, 0, 70, 4, 100, 184, 0, 74, 154, 0, 11]
abbrev dktX1_wire_0 : List UInt8 := dkwX1_wire_0 ++ dktX1_wire_1
theorem dksX1_wire_0 : cX1_wire.data.toList.drop 0 = dktX1_wire_0 := by decide +kernel
theorem dksX1_wire_1 : cX1_wire.data.toList.drop 23 = dktX1_wire_1 := dk_seg dksX1_wire_0 23 rfl rfl
theorem dX1_wire_0 : decode cX1_wire 0 = .ok (.aload_n 0, 1) := dk_42 (dk_at dksX1_wire_0 0 rfl rfl)
theorem dX1_wire_1 : decode cX1_wire 1 = .ok (.iload_n 1, 1) := dk_27 (dk_at dksX1_wire_0 1 rfl rfl)
theorem dX1_wire_2 : decode cX1_wire 2 = .ok (.invokevirtual 153, 3) := dk_182 0 153 (dk_at dksX1_wire_0 2 rfl rfl)
theorem dX1_wire_5 : decode cX1_wire 5 = .ok (.getfield 91, 3) := dk_180 0 91 (dk_at dksX1_wire_0 5 rfl rfl)
theorem dX1_wire_8 : decode cX1_wire 8 = .ok (.astore_n 3, 1) := dk_78 (dk_at dksX1_wire_0 8 rfl rfl)
theorem dX1_wire_9 : decode cX1_wire 9 = .ok (.iload_n 2, 1) := dk_28 (dk_at dksX1_wire_0 9 rfl rfl)
theorem dX1_wire_10 : decode cX1_wire 10 = .ok (.iconst 0, 1) := dk_3 (dk_at dksX1_wire_0 10 rfl rfl)
theorem dX1_wire_11 : decode cX1_wire 11 = .ok (.aload_n 3, 1) := dk_45 (dk_at dksX1_wire_0 11 rfl rfl)
theorem dX1_wire_12 : decode cX1_wire 12 = .ok (.invokevirtual 70, 3) := dk_182 0 70 (dk_at dksX1_wire_0 12 rfl rfl)
theorem dX1_wire_15 : decode cX1_wire 15 = .ok (.iconst 1, 1) := dk_4 (dk_at dksX1_wire_0 15 rfl rfl)
theorem dX1_wire_16 : decode cX1_wire 16 = .ok (.isub, 1) := dk_100 (dk_at dksX1_wire_0 16 rfl rfl)
theorem dX1_wire_17 : decode cX1_wire 17 = .ok (.invokestatic 74, 3) := dk_184 0 74 (dk_at dksX1_wire_0 17 rfl rfl)
theorem dX1_wire_20 : decode cX1_wire 20 = .ok (.ifCond .ne 11, 3) := dk_154 0 11 (dk_at dksX1_wire_0 20 rfl rfl)
theorem dX1_wire_23 : decode cX1_wire 23 = .ok (.new 170, 3) := dk_187 0 170 (dk_at dksX1_wire_1 0 rfl rfl)
theorem dX1_wire_26 : decode cX1_wire 26 = .ok (.dup, 1) := dk_89 (dk_at dksX1_wire_1 3 rfl rfl)
theorem dX1_wire_27 : decode cX1_wire 27 = .ok (.invokespecial 172, 3) := dk_183 0 172 (dk_at dksX1_wire_1 4 rfl rfl)
theorem dX1_wire_30 : decode cX1_wire 30 = .ok (.athrow, 1) := dk_191 (dk_at dksX1_wire_1 7 rfl rfl)
theorem dX1_wire_31 : decode cX1_wire 31 = .ok (.aload_n 3, 1) := dk_45 (dk_at dksX1_wire_1 8 rfl rfl)
theorem dX1_wire_32 : decode cX1_wire 32 = .ok (.iload_n 2, 1) := dk_28 (dk_at dksX1_wire_1 9 rfl rfl)
theorem dX1_wire_33 : decode cX1_wire 33 = .ok (.invokevirtual 81, 3) := dk_182 0 81 (dk_at dksX1_wire_1 10 rfl rfl)
theorem dX1_wire_36 : decode cX1_wire 36 = .ok (.checkcast 98, 3) := dk_192 0 98 (dk_at dksX1_wire_1 13 rfl rfl)
theorem dX1_wire_39 : decode cX1_wire 39 = .ok (.areturn, 1) := dk_176 (dk_at dksX1_wire_1 16 rfl rfl)
abbrev cX1_wirePercent : ByteArray := prog_1_method_26_code
def yX1_wirePercent : MethodName := ⟨RX1, "wirePercent", "(II)I"⟩
def dkwX1_wirePercent_0 : List UInt8 := [42, 27, 28, 182, 0, 183, 180, 0, 176, 172]
abbrev dktX1_wirePercent_0 : List UInt8 := dkwX1_wirePercent_0 ++ []
theorem dksX1_wirePercent_0 : cX1_wirePercent.data.toList.drop 0 = dktX1_wirePercent_0 := by decide +kernel
theorem dX1_wirePercent_0 : decode cX1_wirePercent 0 = .ok (.aload_n 0, 1) := dk_42 (dk_at dksX1_wirePercent_0 0 rfl rfl)
theorem dX1_wirePercent_1 : decode cX1_wirePercent 1 = .ok (.iload_n 1, 1) := dk_27 (dk_at dksX1_wirePercent_0 1 rfl rfl)
theorem dX1_wirePercent_2 : decode cX1_wirePercent 2 = .ok (.iload_n 2, 1) := dk_28 (dk_at dksX1_wirePercent_0 2 rfl rfl)
theorem dX1_wirePercent_3 : decode cX1_wirePercent 3 = .ok (.invokevirtual 183, 3) := dk_182 0 183 (dk_at dksX1_wirePercent_0 3 rfl rfl)
theorem dX1_wirePercent_6 : decode cX1_wirePercent 6 = .ok (.getfield 176, 3) := dk_180 0 176 (dk_at dksX1_wirePercent_0 6 rfl rfl)
theorem dX1_wirePercent_9 : decode cX1_wirePercent 9 = .ok (.ireturn, 1) := dk_172 (dk_at dksX1_wirePercent_0 9 rfl rfl)
abbrev cX1_nodeAt : ByteArray := prog_1_method_27_code
def yX1_nodeAt : MethodName := ⟨RX1, "nodeAt", "(I)I"⟩
def dkwX1_nodeAt_1 : List UInt8 := [191, 42, 180, 0, 31, 27, 182, 0, 81, 192, 0, 85, 180, 0, 117, 172]
abbrev dktX1_nodeAt_1 : List UInt8 := dkwX1_nodeAt_1 ++ []
def dkwX1_nodeAt_0 : List UInt8 := [27, 3, 42, 180, 0, 31, 182, 0, 70, 4, 100, 184, 0, 74, 154, 0, 11, 187, 0, 78, 89, 183, 0, 80]
abbrev dktX1_nodeAt_0 : List UInt8 := dkwX1_nodeAt_0 ++ dktX1_nodeAt_1
theorem dksX1_nodeAt_0 : cX1_nodeAt.data.toList.drop 0 = dktX1_nodeAt_0 := by decide +kernel
theorem dksX1_nodeAt_1 : cX1_nodeAt.data.toList.drop 24 = dktX1_nodeAt_1 := dk_seg dksX1_nodeAt_0 24 rfl rfl
theorem dX1_nodeAt_0 : decode cX1_nodeAt 0 = .ok (.iload_n 1, 1) := dk_27 (dk_at dksX1_nodeAt_0 0 rfl rfl)
theorem dX1_nodeAt_1 : decode cX1_nodeAt 1 = .ok (.iconst 0, 1) := dk_3 (dk_at dksX1_nodeAt_0 1 rfl rfl)
theorem dX1_nodeAt_2 : decode cX1_nodeAt 2 = .ok (.aload_n 0, 1) := dk_42 (dk_at dksX1_nodeAt_0 2 rfl rfl)
theorem dX1_nodeAt_3 : decode cX1_nodeAt 3 = .ok (.getfield 31, 3) := dk_180 0 31 (dk_at dksX1_nodeAt_0 3 rfl rfl)
theorem dX1_nodeAt_6 : decode cX1_nodeAt 6 = .ok (.invokevirtual 70, 3) := dk_182 0 70 (dk_at dksX1_nodeAt_0 6 rfl rfl)
theorem dX1_nodeAt_9 : decode cX1_nodeAt 9 = .ok (.iconst 1, 1) := dk_4 (dk_at dksX1_nodeAt_0 9 rfl rfl)
theorem dX1_nodeAt_10 : decode cX1_nodeAt 10 = .ok (.isub, 1) := dk_100 (dk_at dksX1_nodeAt_0 10 rfl rfl)
theorem dX1_nodeAt_11 : decode cX1_nodeAt 11 = .ok (.invokestatic 74, 3) := dk_184 0 74 (dk_at dksX1_nodeAt_0 11 rfl rfl)
theorem dX1_nodeAt_14 : decode cX1_nodeAt 14 = .ok (.ifCond .ne 11, 3) := dk_154 0 11 (dk_at dksX1_nodeAt_0 14 rfl rfl)
theorem dX1_nodeAt_17 : decode cX1_nodeAt 17 = .ok (.new 78, 3) := dk_187 0 78 (dk_at dksX1_nodeAt_0 17 rfl rfl)
theorem dX1_nodeAt_20 : decode cX1_nodeAt 20 = .ok (.dup, 1) := dk_89 (dk_at dksX1_nodeAt_0 20 rfl rfl)
theorem dX1_nodeAt_21 : decode cX1_nodeAt 21 = .ok (.invokespecial 80, 3) := dk_183 0 80 (dk_at dksX1_nodeAt_0 21 rfl rfl)
theorem dX1_nodeAt_24 : decode cX1_nodeAt 24 = .ok (.athrow, 1) := dk_191 (dk_at dksX1_nodeAt_1 0 rfl rfl)
theorem dX1_nodeAt_25 : decode cX1_nodeAt 25 = .ok (.aload_n 0, 1) := dk_42 (dk_at dksX1_nodeAt_1 1 rfl rfl)
theorem dX1_nodeAt_26 : decode cX1_nodeAt 26 = .ok (.getfield 31, 3) := dk_180 0 31 (dk_at dksX1_nodeAt_1 2 rfl rfl)
theorem dX1_nodeAt_29 : decode cX1_nodeAt 29 = .ok (.iload_n 1, 1) := dk_27 (dk_at dksX1_nodeAt_1 5 rfl rfl)
theorem dX1_nodeAt_30 : decode cX1_nodeAt 30 = .ok (.invokevirtual 81, 3) := dk_182 0 81 (dk_at dksX1_nodeAt_1 6 rfl rfl)
theorem dX1_nodeAt_33 : decode cX1_nodeAt 33 = .ok (.checkcast 85, 3) := dk_192 0 85 (dk_at dksX1_nodeAt_1 9 rfl rfl)
theorem dX1_nodeAt_36 : decode cX1_nodeAt 36 = .ok (.getfield 117, 3) := dk_180 0 117 (dk_at dksX1_nodeAt_1 12 rfl rfl)
theorem dX1_nodeAt_39 : decode cX1_nodeAt 39 = .ok (.ireturn, 1) := dk_172 (dk_at dksX1_nodeAt_1 15 rfl rfl)
abbrev cX1_setWave : ByteArray := prog_1_method_29_code
def yX1_setWave : MethodName := ⟨RX1, "setWave", "(C)C"⟩
def dkwX1_setWave_1 : List UInt8 := [184, 0, 125, 42, 180, 0, 34, 61, 42, 27, 181, 0, 34, 28, 172]
abbrev dktX1_setWave_1 : List UInt8 := dkwX1_setWave_1 ++ []
def dkwX1_setWave_0 : List UInt8 := [27, 16, 115, 159, 0, 15, 27, 16, 113, 159, 0, 9, 27, 16, 116, 160, 0, 7, 4, 167, 0, 4, 3]
abbrev dktX1_setWave_0 : List UInt8 := dkwX1_setWave_0 ++ dktX1_setWave_1
theorem dksX1_setWave_0 : cX1_setWave.data.toList.drop 0 = dktX1_setWave_0 := by decide +kernel
theorem dksX1_setWave_1 : cX1_setWave.data.toList.drop 23 = dktX1_setWave_1 := dk_seg dksX1_setWave_0 23 rfl rfl
theorem dX1_setWave_0 : decode cX1_setWave 0 = .ok (.iload_n 1, 1) := dk_27 (dk_at dksX1_setWave_0 0 rfl rfl)
theorem dX1_setWave_1 : decode cX1_setWave 1 = .ok (.bipush 115, 2) := dk_16 115 (dk_at dksX1_setWave_0 1 rfl rfl)
theorem dX1_setWave_3 : decode cX1_setWave 3 = .ok (.if_icmp .eq 15, 3) := dk_159 0 15 (dk_at dksX1_setWave_0 3 rfl rfl)
theorem dX1_setWave_6 : decode cX1_setWave 6 = .ok (.iload_n 1, 1) := dk_27 (dk_at dksX1_setWave_0 6 rfl rfl)
theorem dX1_setWave_7 : decode cX1_setWave 7 = .ok (.bipush 113, 2) := dk_16 113 (dk_at dksX1_setWave_0 7 rfl rfl)
theorem dX1_setWave_9 : decode cX1_setWave 9 = .ok (.if_icmp .eq 9, 3) := dk_159 0 9 (dk_at dksX1_setWave_0 9 rfl rfl)
theorem dX1_setWave_12 : decode cX1_setWave 12 = .ok (.iload_n 1, 1) := dk_27 (dk_at dksX1_setWave_0 12 rfl rfl)
theorem dX1_setWave_13 : decode cX1_setWave 13 = .ok (.bipush 116, 2) := dk_16 116 (dk_at dksX1_setWave_0 13 rfl rfl)
theorem dX1_setWave_15 : decode cX1_setWave 15 = .ok (.if_icmp .ne 7, 3) := dk_160 0 7 (dk_at dksX1_setWave_0 15 rfl rfl)
theorem dX1_setWave_18 : decode cX1_setWave 18 = .ok (.iconst 1, 1) := dk_4 (dk_at dksX1_setWave_0 18 rfl rfl)
theorem dX1_setWave_19 : decode cX1_setWave 19 = .ok (.goto 4, 3) := dk_167 0 4 (dk_at dksX1_setWave_0 19 rfl rfl)
theorem dX1_setWave_22 : decode cX1_setWave 22 = .ok (.iconst 0, 1) := dk_3 (dk_at dksX1_setWave_0 22 rfl rfl)
theorem dX1_setWave_23 : decode cX1_setWave 23 = .ok (.invokestatic 125, 3) := dk_184 0 125 (dk_at dksX1_setWave_1 0 rfl rfl)
theorem dX1_setWave_26 : decode cX1_setWave 26 = .ok (.aload_n 0, 1) := dk_42 (dk_at dksX1_setWave_1 3 rfl rfl)
theorem dX1_setWave_27 : decode cX1_setWave 27 = .ok (.getfield 34, 3) := dk_180 0 34 (dk_at dksX1_setWave_1 4 rfl rfl)
theorem dX1_setWave_30 : decode cX1_setWave 30 = .ok (.istore_n 2, 1) := dk_61 (dk_at dksX1_setWave_1 7 rfl rfl)
theorem dX1_setWave_31 : decode cX1_setWave 31 = .ok (.aload_n 0, 1) := dk_42 (dk_at dksX1_setWave_1 8 rfl rfl)
theorem dX1_setWave_32 : decode cX1_setWave 32 = .ok (.iload_n 1, 1) := dk_27 (dk_at dksX1_setWave_1 9 rfl rfl)
theorem dX1_setWave_33 : decode cX1_setWave 33 = .ok (.putfield 34, 3) := dk_181 0 34 (dk_at dksX1_setWave_1 10 rfl rfl)
theorem dX1_setWave_36 : decode cX1_setWave 36 = .ok (.iload_n 2, 1) := dk_28 (dk_at dksX1_setWave_1 13 rfl rfl)
theorem dX1_setWave_37 : decode cX1_setWave 37 = .ok (.ireturn, 1) := dk_172 (dk_at dksX1_setWave_1 14 rfl rfl)
abbrev cX1_setEnvelope : ByteArray := prog_1_method_30_code
def yX1_setEnvelope : MethodName := ⟨RX1, "setEnvelope", "(IIII)I"⟩
def dkwX1_setEnvelope_4 : List UInt8 := [183, 0, 196, 181, 0, 41, 21, 5, 172]
abbrev dktX1_setEnvelope_4 : List UInt8 := dkwX1_setEnvelope_4 ++ []
def dkwX1_setEnvelope_3 : List UInt8 := [154, 0, 14, 187, 0, 38, 89, 29, 183, 0, 193, 167, 0, 15, 187, 0, 38, 89, 27, 28, 29, 21, 4]
abbrev dktX1_setEnvelope_3 : List UInt8 := dkwX1_setEnvelope_3 ++ dktX1_setEnvelope_4
def dkwX1_setEnvelope_2 : List UInt8 := [167, 0, 4, 3, 184, 0, 125, 42, 180, 0, 41, 180, 0, 190, 54, 5, 42, 27, 28, 96, 21, 4, 96]
abbrev dktX1_setEnvelope_2 : List UInt8 := dkwX1_setEnvelope_2 ++ dktX1_setEnvelope_3
def dkwX1_setEnvelope_1 : List UInt8 := [17, 3, 232, 184, 0, 74, 153, 0, 19, 21, 4, 3, 17, 0, 200, 184, 0, 74, 153, 0, 7, 4]
abbrev dktX1_setEnvelope_1 : List UInt8 := dkwX1_setEnvelope_1 ++ dktX1_setEnvelope_2
def dkwX1_setEnvelope_0 : List UInt8 := [27, 3, 17, 0, 200, 184, 0, 74, 153, 0, 41, 28, 3, 17, 0, 200, 184, 0, 74, 153, 0, 30, 29, 3]
abbrev dktX1_setEnvelope_0 : List UInt8 := dkwX1_setEnvelope_0 ++ dktX1_setEnvelope_1
theorem dksX1_setEnvelope_0 : cX1_setEnvelope.data.toList.drop 0 = dktX1_setEnvelope_0 := by decide +kernel
theorem dksX1_setEnvelope_1 : cX1_setEnvelope.data.toList.drop 24 = dktX1_setEnvelope_1 := dk_seg dksX1_setEnvelope_0 24 rfl rfl
theorem dksX1_setEnvelope_2 : cX1_setEnvelope.data.toList.drop 46 = dktX1_setEnvelope_2 := dk_seg dksX1_setEnvelope_1 22 rfl rfl
theorem dksX1_setEnvelope_3 : cX1_setEnvelope.data.toList.drop 69 = dktX1_setEnvelope_3 := dk_seg dksX1_setEnvelope_2 23 rfl rfl
theorem dksX1_setEnvelope_4 : cX1_setEnvelope.data.toList.drop 92 = dktX1_setEnvelope_4 := dk_seg dksX1_setEnvelope_3 23 rfl rfl
theorem dX1_setEnvelope_0 : decode cX1_setEnvelope 0 = .ok (.iload_n 1, 1) := dk_27 (dk_at dksX1_setEnvelope_0 0 rfl rfl)
theorem dX1_setEnvelope_1 : decode cX1_setEnvelope 1 = .ok (.iconst 0, 1) := dk_3 (dk_at dksX1_setEnvelope_0 1 rfl rfl)
theorem dX1_setEnvelope_2 : decode cX1_setEnvelope 2 = .ok (.sipush 200, 3) := dk_17 0 200 (dk_at dksX1_setEnvelope_0 2 rfl rfl)
theorem dX1_setEnvelope_5 : decode cX1_setEnvelope 5 = .ok (.invokestatic 74, 3) := dk_184 0 74 (dk_at dksX1_setEnvelope_0 5 rfl rfl)
theorem dX1_setEnvelope_8 : decode cX1_setEnvelope 8 = .ok (.ifCond .eq 41, 3) := dk_153 0 41 (dk_at dksX1_setEnvelope_0 8 rfl rfl)
theorem dX1_setEnvelope_11 : decode cX1_setEnvelope 11 = .ok (.iload_n 2, 1) := dk_28 (dk_at dksX1_setEnvelope_0 11 rfl rfl)
theorem dX1_setEnvelope_12 : decode cX1_setEnvelope 12 = .ok (.iconst 0, 1) := dk_3 (dk_at dksX1_setEnvelope_0 12 rfl rfl)
theorem dX1_setEnvelope_13 : decode cX1_setEnvelope 13 = .ok (.sipush 200, 3) := dk_17 0 200 (dk_at dksX1_setEnvelope_0 13 rfl rfl)
theorem dX1_setEnvelope_16 : decode cX1_setEnvelope 16 = .ok (.invokestatic 74, 3) := dk_184 0 74 (dk_at dksX1_setEnvelope_0 16 rfl rfl)
theorem dX1_setEnvelope_19 : decode cX1_setEnvelope 19 = .ok (.ifCond .eq 30, 3) := dk_153 0 30 (dk_at dksX1_setEnvelope_0 19 rfl rfl)
theorem dX1_setEnvelope_22 : decode cX1_setEnvelope 22 = .ok (.iload_n 3, 1) := dk_29 (dk_at dksX1_setEnvelope_0 22 rfl rfl)
theorem dX1_setEnvelope_23 : decode cX1_setEnvelope 23 = .ok (.iconst 0, 1) := dk_3 (dk_at dksX1_setEnvelope_0 23 rfl rfl)
theorem dX1_setEnvelope_24 : decode cX1_setEnvelope 24 = .ok (.sipush 1000, 3) := dk_17 3 232 (dk_at dksX1_setEnvelope_1 0 rfl rfl)
theorem dX1_setEnvelope_27 : decode cX1_setEnvelope 27 = .ok (.invokestatic 74, 3) := dk_184 0 74 (dk_at dksX1_setEnvelope_1 3 rfl rfl)
theorem dX1_setEnvelope_30 : decode cX1_setEnvelope 30 = .ok (.ifCond .eq 19, 3) := dk_153 0 19 (dk_at dksX1_setEnvelope_1 6 rfl rfl)
theorem dX1_setEnvelope_33 : decode cX1_setEnvelope 33 = .ok (.iload 4, 2) := dk_21 4 (dk_at dksX1_setEnvelope_1 9 rfl rfl)
theorem dX1_setEnvelope_35 : decode cX1_setEnvelope 35 = .ok (.iconst 0, 1) := dk_3 (dk_at dksX1_setEnvelope_1 11 rfl rfl)
theorem dX1_setEnvelope_36 : decode cX1_setEnvelope 36 = .ok (.sipush 200, 3) := dk_17 0 200 (dk_at dksX1_setEnvelope_1 12 rfl rfl)
theorem dX1_setEnvelope_39 : decode cX1_setEnvelope 39 = .ok (.invokestatic 74, 3) := dk_184 0 74 (dk_at dksX1_setEnvelope_1 15 rfl rfl)
theorem dX1_setEnvelope_42 : decode cX1_setEnvelope 42 = .ok (.ifCond .eq 7, 3) := dk_153 0 7 (dk_at dksX1_setEnvelope_1 18 rfl rfl)
theorem dX1_setEnvelope_45 : decode cX1_setEnvelope 45 = .ok (.iconst 1, 1) := dk_4 (dk_at dksX1_setEnvelope_1 21 rfl rfl)
theorem dX1_setEnvelope_46 : decode cX1_setEnvelope 46 = .ok (.goto 4, 3) := dk_167 0 4 (dk_at dksX1_setEnvelope_2 0 rfl rfl)
theorem dX1_setEnvelope_49 : decode cX1_setEnvelope 49 = .ok (.iconst 0, 1) := dk_3 (dk_at dksX1_setEnvelope_2 3 rfl rfl)
theorem dX1_setEnvelope_50 : decode cX1_setEnvelope 50 = .ok (.invokestatic 125, 3) := dk_184 0 125 (dk_at dksX1_setEnvelope_2 4 rfl rfl)
theorem dX1_setEnvelope_53 : decode cX1_setEnvelope 53 = .ok (.aload_n 0, 1) := dk_42 (dk_at dksX1_setEnvelope_2 7 rfl rfl)
theorem dX1_setEnvelope_54 : decode cX1_setEnvelope 54 = .ok (.getfield 41, 3) := dk_180 0 41 (dk_at dksX1_setEnvelope_2 8 rfl rfl)
theorem dX1_setEnvelope_57 : decode cX1_setEnvelope 57 = .ok (.getfield 190, 3) := dk_180 0 190 (dk_at dksX1_setEnvelope_2 11 rfl rfl)
theorem dX1_setEnvelope_60 : decode cX1_setEnvelope 60 = .ok (.istore 5, 2) := dk_54 5 (dk_at dksX1_setEnvelope_2 14 rfl rfl)
theorem dX1_setEnvelope_62 : decode cX1_setEnvelope 62 = .ok (.aload_n 0, 1) := dk_42 (dk_at dksX1_setEnvelope_2 16 rfl rfl)
theorem dX1_setEnvelope_63 : decode cX1_setEnvelope 63 = .ok (.iload_n 1, 1) := dk_27 (dk_at dksX1_setEnvelope_2 17 rfl rfl)
theorem dX1_setEnvelope_64 : decode cX1_setEnvelope 64 = .ok (.iload_n 2, 1) := dk_28 (dk_at dksX1_setEnvelope_2 18 rfl rfl)
theorem dX1_setEnvelope_65 : decode cX1_setEnvelope 65 = .ok (.iadd, 1) := dk_96 (dk_at dksX1_setEnvelope_2 19 rfl rfl)
theorem dX1_setEnvelope_66 : decode cX1_setEnvelope 66 = .ok (.iload 4, 2) := dk_21 4 (dk_at dksX1_setEnvelope_2 20 rfl rfl)
theorem dX1_setEnvelope_68 : decode cX1_setEnvelope 68 = .ok (.iadd, 1) := dk_96 (dk_at dksX1_setEnvelope_2 22 rfl rfl)
theorem dX1_setEnvelope_69 : decode cX1_setEnvelope 69 = .ok (.ifCond .ne 14, 3) := dk_154 0 14 (dk_at dksX1_setEnvelope_3 0 rfl rfl)
theorem dX1_setEnvelope_72 : decode cX1_setEnvelope 72 = .ok (.new 38, 3) := dk_187 0 38 (dk_at dksX1_setEnvelope_3 3 rfl rfl)
theorem dX1_setEnvelope_75 : decode cX1_setEnvelope 75 = .ok (.dup, 1) := dk_89 (dk_at dksX1_setEnvelope_3 6 rfl rfl)
theorem dX1_setEnvelope_76 : decode cX1_setEnvelope 76 = .ok (.iload_n 3, 1) := dk_29 (dk_at dksX1_setEnvelope_3 7 rfl rfl)
theorem dX1_setEnvelope_77 : decode cX1_setEnvelope 77 = .ok (.invokespecial 193, 3) := dk_183 0 193 (dk_at dksX1_setEnvelope_3 8 rfl rfl)
theorem dX1_setEnvelope_80 : decode cX1_setEnvelope 80 = .ok (.goto 15, 3) := dk_167 0 15 (dk_at dksX1_setEnvelope_3 11 rfl rfl)
theorem dX1_setEnvelope_83 : decode cX1_setEnvelope 83 = .ok (.new 38, 3) := dk_187 0 38 (dk_at dksX1_setEnvelope_3 14 rfl rfl)
theorem dX1_setEnvelope_86 : decode cX1_setEnvelope 86 = .ok (.dup, 1) := dk_89 (dk_at dksX1_setEnvelope_3 17 rfl rfl)
theorem dX1_setEnvelope_87 : decode cX1_setEnvelope 87 = .ok (.iload_n 1, 1) := dk_27 (dk_at dksX1_setEnvelope_3 18 rfl rfl)
theorem dX1_setEnvelope_88 : decode cX1_setEnvelope 88 = .ok (.iload_n 2, 1) := dk_28 (dk_at dksX1_setEnvelope_3 19 rfl rfl)
theorem dX1_setEnvelope_89 : decode cX1_setEnvelope 89 = .ok (.iload_n 3, 1) := dk_29 (dk_at dksX1_setEnvelope_3 20 rfl rfl)
theorem dX1_setEnvelope_90 : decode cX1_setEnvelope 90 = .ok (.iload 4, 2) := dk_21 4 (dk_at dksX1_setEnvelope_3 21 rfl rfl)
theorem dX1_setEnvelope_92 : decode cX1_setEnvelope 92 = .ok (.invokespecial 196, 3) := dk_183 0 196 (dk_at dksX1_setEnvelope_4 0 rfl rfl)
theorem dX1_setEnvelope_95 : decode cX1_setEnvelope 95 = .ok (.putfield 41, 3) := dk_181 0 41 (dk_at dksX1_setEnvelope_4 3 rfl rfl)
theorem dX1_setEnvelope_98 : decode cX1_setEnvelope 98 = .ok (.iload 5, 2) := dk_21 5 (dk_at dksX1_setEnvelope_4 6 rfl rfl)
theorem dX1_setEnvelope_100 : decode cX1_setEnvelope 100 = .ok (.ireturn, 1) := dk_172 (dk_at dksX1_setEnvelope_4 8 rfl rfl)
abbrev cX1_begin : ByteArray := prog_1_method_33_code
def yX1_begin : MethodName := ⟨RX1, "begin", "(II)I"⟩
def dkwX1_begin_2 : List UInt8 := [180, 0, 34, 184, 0, 232, 42, 180, 0, 41, 42, 180, 0, 229, 182, 0, 236, 45, 180, 0, 240, 172]
abbrev dktX1_begin_2 : List UInt8 := dkwX1_begin_2 ++ []
def dkwX1_begin_1 : List UInt8 := [3, 184, 0, 125, 42, 182, 0, 225, 78, 42, 89, 180, 0, 229, 10, 97, 181, 0, 229, 45, 27, 28, 42]
abbrev dktX1_begin_1 : List UInt8 := dkwX1_begin_1 ++ dktX1_begin_2
def dkwX1_begin_0 : List UInt8 := [27, 3, 16, 59, 184, 0, 74, 153, 0, 17, 28, 4, 16, 100, 184, 0, 74, 153, 0, 7, 4, 167, 0, 4]
abbrev dktX1_begin_0 : List UInt8 := dkwX1_begin_0 ++ dktX1_begin_1
theorem dksX1_begin_0 : cX1_begin.data.toList.drop 0 = dktX1_begin_0 := by decide +kernel
theorem dksX1_begin_1 : cX1_begin.data.toList.drop 24 = dktX1_begin_1 := dk_seg dksX1_begin_0 24 rfl rfl
theorem dksX1_begin_2 : cX1_begin.data.toList.drop 47 = dktX1_begin_2 := dk_seg dksX1_begin_1 23 rfl rfl
theorem dX1_begin_0 : decode cX1_begin 0 = .ok (.iload_n 1, 1) := dk_27 (dk_at dksX1_begin_0 0 rfl rfl)
theorem dX1_begin_1 : decode cX1_begin 1 = .ok (.iconst 0, 1) := dk_3 (dk_at dksX1_begin_0 1 rfl rfl)
theorem dX1_begin_2 : decode cX1_begin 2 = .ok (.bipush 59, 2) := dk_16 59 (dk_at dksX1_begin_0 2 rfl rfl)
theorem dX1_begin_4 : decode cX1_begin 4 = .ok (.invokestatic 74, 3) := dk_184 0 74 (dk_at dksX1_begin_0 4 rfl rfl)
theorem dX1_begin_7 : decode cX1_begin 7 = .ok (.ifCond .eq 17, 3) := dk_153 0 17 (dk_at dksX1_begin_0 7 rfl rfl)
theorem dX1_begin_10 : decode cX1_begin 10 = .ok (.iload_n 2, 1) := dk_28 (dk_at dksX1_begin_0 10 rfl rfl)
theorem dX1_begin_11 : decode cX1_begin 11 = .ok (.iconst 1, 1) := dk_4 (dk_at dksX1_begin_0 11 rfl rfl)
theorem dX1_begin_12 : decode cX1_begin 12 = .ok (.bipush 100, 2) := dk_16 100 (dk_at dksX1_begin_0 12 rfl rfl)
theorem dX1_begin_14 : decode cX1_begin 14 = .ok (.invokestatic 74, 3) := dk_184 0 74 (dk_at dksX1_begin_0 14 rfl rfl)
theorem dX1_begin_17 : decode cX1_begin 17 = .ok (.ifCond .eq 7, 3) := dk_153 0 7 (dk_at dksX1_begin_0 17 rfl rfl)
theorem dX1_begin_20 : decode cX1_begin 20 = .ok (.iconst 1, 1) := dk_4 (dk_at dksX1_begin_0 20 rfl rfl)
theorem dX1_begin_21 : decode cX1_begin 21 = .ok (.goto 4, 3) := dk_167 0 4 (dk_at dksX1_begin_0 21 rfl rfl)
theorem dX1_begin_24 : decode cX1_begin 24 = .ok (.iconst 0, 1) := dk_3 (dk_at dksX1_begin_1 0 rfl rfl)
theorem dX1_begin_25 : decode cX1_begin 25 = .ok (.invokestatic 125, 3) := dk_184 0 125 (dk_at dksX1_begin_1 1 rfl rfl)
theorem dX1_begin_28 : decode cX1_begin 28 = .ok (.aload_n 0, 1) := dk_42 (dk_at dksX1_begin_1 4 rfl rfl)
theorem dX1_begin_29 : decode cX1_begin 29 = .ok (.invokevirtual 225, 3) := dk_182 0 225 (dk_at dksX1_begin_1 5 rfl rfl)
theorem dX1_begin_32 : decode cX1_begin 32 = .ok (.astore_n 3, 1) := dk_78 (dk_at dksX1_begin_1 8 rfl rfl)
theorem dX1_begin_33 : decode cX1_begin 33 = .ok (.aload_n 0, 1) := dk_42 (dk_at dksX1_begin_1 9 rfl rfl)
theorem dX1_begin_34 : decode cX1_begin 34 = .ok (.dup, 1) := dk_89 (dk_at dksX1_begin_1 10 rfl rfl)
theorem dX1_begin_35 : decode cX1_begin 35 = .ok (.getfield 229, 3) := dk_180 0 229 (dk_at dksX1_begin_1 11 rfl rfl)
theorem dX1_begin_38 : decode cX1_begin 38 = .ok (.lconst 1, 1) := dk_10 (dk_at dksX1_begin_1 14 rfl rfl)
theorem dX1_begin_39 : decode cX1_begin 39 = .ok (.ladd, 1) := dk_97 (dk_at dksX1_begin_1 15 rfl rfl)
theorem dX1_begin_40 : decode cX1_begin 40 = .ok (.putfield 229, 3) := dk_181 0 229 (dk_at dksX1_begin_1 16 rfl rfl)
theorem dX1_begin_43 : decode cX1_begin 43 = .ok (.aload_n 3, 1) := dk_45 (dk_at dksX1_begin_1 19 rfl rfl)
theorem dX1_begin_44 : decode cX1_begin 44 = .ok (.iload_n 1, 1) := dk_27 (dk_at dksX1_begin_1 20 rfl rfl)
theorem dX1_begin_45 : decode cX1_begin 45 = .ok (.iload_n 2, 1) := dk_28 (dk_at dksX1_begin_1 21 rfl rfl)
theorem dX1_begin_46 : decode cX1_begin 46 = .ok (.aload_n 0, 1) := dk_42 (dk_at dksX1_begin_1 22 rfl rfl)
theorem dX1_begin_47 : decode cX1_begin 47 = .ok (.getfield 34, 3) := dk_180 0 34 (dk_at dksX1_begin_2 0 rfl rfl)
theorem dX1_begin_50 : decode cX1_begin 50 = .ok (.invokestatic 232, 3) := dk_184 0 232 (dk_at dksX1_begin_2 3 rfl rfl)
theorem dX1_begin_53 : decode cX1_begin 53 = .ok (.aload_n 0, 1) := dk_42 (dk_at dksX1_begin_2 6 rfl rfl)
theorem dX1_begin_54 : decode cX1_begin 54 = .ok (.getfield 41, 3) := dk_180 0 41 (dk_at dksX1_begin_2 7 rfl rfl)
theorem dX1_begin_57 : decode cX1_begin 57 = .ok (.aload_n 0, 1) := dk_42 (dk_at dksX1_begin_2 10 rfl rfl)
theorem dX1_begin_58 : decode cX1_begin 58 = .ok (.getfield 229, 3) := dk_180 0 229 (dk_at dksX1_begin_2 11 rfl rfl)
theorem dX1_begin_61 : decode cX1_begin 61 = .ok (.invokevirtual 236, 3) := dk_182 0 236 (dk_at dksX1_begin_2 14 rfl rfl)
theorem dX1_begin_64 : decode cX1_begin 64 = .ok (.aload_n 3, 1) := dk_45 (dk_at dksX1_begin_2 17 rfl rfl)
theorem dX1_begin_65 : decode cX1_begin 65 = .ok (.getfield 240, 3) := dk_180 0 240 (dk_at dksX1_begin_2 18 rfl rfl)
theorem dX1_begin_68 : decode cX1_begin 68 = .ok (.ireturn, 1) := dk_172 (dk_at dksX1_begin_2 21 rfl rfl)
abbrev cX1_voiceForNote : ByteArray := prog_1_method_32_code
def yX1_voiceForNote : MethodName := ⟨RX1, "voiceForNote", "()LToneGraph$Voice;"⟩
def dkwX1_voiceForNote_3 : List UInt8 := [186, 0, 224, 0, 0, 182, 0, 220, 176]
abbrev dktX1_voiceForNote_3 : List UInt8 := dkwX1_voiceForNote_3 ++ []
def dkwX1_voiceForNote_2 : List UInt8 := [181, 0, 214, 42, 186, 0, 217, 0, 0, 182, 0, 220, 76, 43, 198, 0, 7, 43, 167, 0, 12, 42]
abbrev dktX1_voiceForNote_2 : List UInt8 := dkwX1_voiceForNote_2 ++ dktX1_voiceForNote_3
def dkwX1_voiceForNote_1 : List UInt8 := [180, 0, 52, 180, 0, 87, 27, 50, 176, 132, 1, 1, 167, 255, 223, 42, 89, 180, 0, 214, 4, 96]
abbrev dktX1_voiceForNote_1 : List UInt8 := dkwX1_voiceForNote_1 ++ dktX1_voiceForNote_2
def dkwX1_voiceForNote_0 : List UInt8 := [3, 60, 27, 7, 162, 0, 34, 42, 180, 0, 52, 180, 0, 87, 27, 50, 180, 0, 211, 154, 0, 13, 42]
abbrev dktX1_voiceForNote_0 : List UInt8 := dkwX1_voiceForNote_0 ++ dktX1_voiceForNote_1
theorem dksX1_voiceForNote_0 : cX1_voiceForNote.data.toList.drop 0 = dktX1_voiceForNote_0 := by decide +kernel
theorem dksX1_voiceForNote_1 : cX1_voiceForNote.data.toList.drop 23 = dktX1_voiceForNote_1 := dk_seg dksX1_voiceForNote_0 23 rfl rfl
theorem dksX1_voiceForNote_2 : cX1_voiceForNote.data.toList.drop 45 = dktX1_voiceForNote_2 := dk_seg dksX1_voiceForNote_1 22 rfl rfl
theorem dksX1_voiceForNote_3 : cX1_voiceForNote.data.toList.drop 67 = dktX1_voiceForNote_3 := dk_seg dksX1_voiceForNote_2 22 rfl rfl
theorem dX1_voiceForNote_0 : decode cX1_voiceForNote 0 = .ok (.iconst 0, 1) := dk_3 (dk_at dksX1_voiceForNote_0 0 rfl rfl)
theorem dX1_voiceForNote_1 : decode cX1_voiceForNote 1 = .ok (.istore_n 1, 1) := dk_60 (dk_at dksX1_voiceForNote_0 1 rfl rfl)
theorem dX1_voiceForNote_2 : decode cX1_voiceForNote 2 = .ok (.iload_n 1, 1) := dk_27 (dk_at dksX1_voiceForNote_0 2 rfl rfl)
theorem dX1_voiceForNote_3 : decode cX1_voiceForNote 3 = .ok (.iconst 4, 1) := dk_7 (dk_at dksX1_voiceForNote_0 3 rfl rfl)
theorem dX1_voiceForNote_4 : decode cX1_voiceForNote 4 = .ok (.if_icmp .ge 34, 3) := dk_162 0 34 (dk_at dksX1_voiceForNote_0 4 rfl rfl)
theorem dX1_voiceForNote_7 : decode cX1_voiceForNote 7 = .ok (.aload_n 0, 1) := dk_42 (dk_at dksX1_voiceForNote_0 7 rfl rfl)
theorem dX1_voiceForNote_8 : decode cX1_voiceForNote 8 = .ok (.getfield 52, 3) := dk_180 0 52 (dk_at dksX1_voiceForNote_0 8 rfl rfl)
theorem dX1_voiceForNote_11 : decode cX1_voiceForNote 11 = .ok (.getfield 87, 3) := dk_180 0 87 (dk_at dksX1_voiceForNote_0 11 rfl rfl)
theorem dX1_voiceForNote_14 : decode cX1_voiceForNote 14 = .ok (.iload_n 1, 1) := dk_27 (dk_at dksX1_voiceForNote_0 14 rfl rfl)
theorem dX1_voiceForNote_15 : decode cX1_voiceForNote 15 = .ok (.aaload, 1) := dk_50 (dk_at dksX1_voiceForNote_0 15 rfl rfl)
theorem dX1_voiceForNote_16 : decode cX1_voiceForNote 16 = .ok (.getfield 211, 3) := dk_180 0 211 (dk_at dksX1_voiceForNote_0 16 rfl rfl)
theorem dX1_voiceForNote_19 : decode cX1_voiceForNote 19 = .ok (.ifCond .ne 13, 3) := dk_154 0 13 (dk_at dksX1_voiceForNote_0 19 rfl rfl)
theorem dX1_voiceForNote_22 : decode cX1_voiceForNote 22 = .ok (.aload_n 0, 1) := dk_42 (dk_at dksX1_voiceForNote_0 22 rfl rfl)
theorem dX1_voiceForNote_23 : decode cX1_voiceForNote 23 = .ok (.getfield 52, 3) := dk_180 0 52 (dk_at dksX1_voiceForNote_1 0 rfl rfl)
theorem dX1_voiceForNote_26 : decode cX1_voiceForNote 26 = .ok (.getfield 87, 3) := dk_180 0 87 (dk_at dksX1_voiceForNote_1 3 rfl rfl)
theorem dX1_voiceForNote_29 : decode cX1_voiceForNote 29 = .ok (.iload_n 1, 1) := dk_27 (dk_at dksX1_voiceForNote_1 6 rfl rfl)
theorem dX1_voiceForNote_30 : decode cX1_voiceForNote 30 = .ok (.aaload, 1) := dk_50 (dk_at dksX1_voiceForNote_1 7 rfl rfl)
theorem dX1_voiceForNote_31 : decode cX1_voiceForNote 31 = .ok (.areturn, 1) := dk_176 (dk_at dksX1_voiceForNote_1 8 rfl rfl)
theorem dX1_voiceForNote_32 : decode cX1_voiceForNote 32 = .ok (.iinc 1 1, 3) := dk_132 1 1 (dk_at dksX1_voiceForNote_1 9 rfl rfl)
theorem dX1_voiceForNote_35 : decode cX1_voiceForNote 35 = .ok (.goto (-33), 3) := dk_167 255 223 (dk_at dksX1_voiceForNote_1 12 rfl rfl)
theorem dX1_voiceForNote_38 : decode cX1_voiceForNote 38 = .ok (.aload_n 0, 1) := dk_42 (dk_at dksX1_voiceForNote_1 15 rfl rfl)
theorem dX1_voiceForNote_39 : decode cX1_voiceForNote 39 = .ok (.dup, 1) := dk_89 (dk_at dksX1_voiceForNote_1 16 rfl rfl)
theorem dX1_voiceForNote_40 : decode cX1_voiceForNote 40 = .ok (.getfield 214, 3) := dk_180 0 214 (dk_at dksX1_voiceForNote_1 17 rfl rfl)
theorem dX1_voiceForNote_43 : decode cX1_voiceForNote 43 = .ok (.iconst 1, 1) := dk_4 (dk_at dksX1_voiceForNote_1 20 rfl rfl)
theorem dX1_voiceForNote_44 : decode cX1_voiceForNote 44 = .ok (.iadd, 1) := dk_96 (dk_at dksX1_voiceForNote_1 21 rfl rfl)
theorem dX1_voiceForNote_45 : decode cX1_voiceForNote 45 = .ok (.putfield 214, 3) := dk_181 0 214 (dk_at dksX1_voiceForNote_2 0 rfl rfl)
theorem dX1_voiceForNote_48 : decode cX1_voiceForNote 48 = .ok (.aload_n 0, 1) := dk_42 (dk_at dksX1_voiceForNote_2 3 rfl rfl)
theorem dX1_voiceForNote_49 : decode cX1_voiceForNote 49 = .ok (.invokedynamic 217, 5) := by decide +kernel
theorem dX1_voiceForNote_54 : decode cX1_voiceForNote 54 = .ok (.invokevirtual 220, 3) := dk_182 0 220 (dk_at dksX1_voiceForNote_2 9 rfl rfl)
theorem dX1_voiceForNote_57 : decode cX1_voiceForNote 57 = .ok (.astore_n 1, 1) := dk_76 (dk_at dksX1_voiceForNote_2 12 rfl rfl)
theorem dX1_voiceForNote_58 : decode cX1_voiceForNote 58 = .ok (.aload_n 1, 1) := dk_43 (dk_at dksX1_voiceForNote_2 13 rfl rfl)
theorem dX1_voiceForNote_59 : decode cX1_voiceForNote 59 = .ok (.ifnull 7, 3) := dk_198 0 7 (dk_at dksX1_voiceForNote_2 14 rfl rfl)
theorem dX1_voiceForNote_62 : decode cX1_voiceForNote 62 = .ok (.aload_n 1, 1) := dk_43 (dk_at dksX1_voiceForNote_2 17 rfl rfl)
theorem dX1_voiceForNote_63 : decode cX1_voiceForNote 63 = .ok (.goto 12, 3) := dk_167 0 12 (dk_at dksX1_voiceForNote_2 18 rfl rfl)
theorem dX1_voiceForNote_66 : decode cX1_voiceForNote 66 = .ok (.aload_n 0, 1) := dk_42 (dk_at dksX1_voiceForNote_2 21 rfl rfl)
theorem dX1_voiceForNote_67 : decode cX1_voiceForNote 67 = .ok (.invokedynamic 224, 5) := by decide +kernel
theorem dX1_voiceForNote_72 : decode cX1_voiceForNote 72 = .ok (.invokevirtual 220, 3) := dk_182 0 220 (dk_at dksX1_voiceForNote_3 5 rfl rfl)
theorem dX1_voiceForNote_75 : decode cX1_voiceForNote 75 = .ok (.areturn, 1) := dk_176 (dk_at dksX1_voiceForNote_3 8 rfl rfl)
abbrev cX1_lambda_voiceForNote_3 : ByteArray := prog_1_method_64_code
def yX1_lambda_voiceForNote_3 : MethodName := ⟨RX1, "lambda$voiceForNote$3", "(LToneGraph$Voice;)Z"⟩
theorem dX1_lambda_voiceForNote_3_0 : decode cX1_lambda_voiceForNote_3 0 = .ok (.aload_n 0, 1) := by decide +kernel
theorem dX1_lambda_voiceForNote_3_1 : decode cX1_lambda_voiceForNote_3 1 = .ok (.getfield 248, 3) := by decide +kernel
theorem dX1_lambda_voiceForNote_3_4 : decode cX1_lambda_voiceForNote_3 4 = .ok (.ireturn, 1) := by decide +kernel
abbrev cX1_first : ByteArray := prog_1_method_31_code
def yX1_first : MethodName := ⟨RX1, "first", "(LToneGraph$Choice;)LToneGraph$Voice;"⟩
def dkwX1_first_2 : List UInt8 := [156, 0, 6, 25, 4, 77, 132, 3, 1, 167, 255, 206, 44, 176]
abbrev dktX1_first_2 : List UInt8 := dkwX1_first_2 ++ []
def dkwX1_first_1 : List UInt8 := [185, 0, 199, 2, 0, 153, 0, 23, 44, 198, 0, 16, 25, 4, 180, 0, 205, 44, 180, 0, 205, 148]
abbrev dktX1_first_1 : List UInt8 := dkwX1_first_1 ++ dktX1_first_2
def dkwX1_first_0 : List UInt8 := [1, 77, 3, 62, 29, 7, 162, 0, 51, 42, 180, 0, 52, 180, 0, 87, 29, 50, 58, 4, 43, 25, 4]
abbrev dktX1_first_0 : List UInt8 := dkwX1_first_0 ++ dktX1_first_1
theorem dksX1_first_0 : cX1_first.data.toList.drop 0 = dktX1_first_0 := by decide +kernel
theorem dksX1_first_1 : cX1_first.data.toList.drop 23 = dktX1_first_1 := dk_seg dksX1_first_0 23 rfl rfl
theorem dksX1_first_2 : cX1_first.data.toList.drop 45 = dktX1_first_2 := dk_seg dksX1_first_1 22 rfl rfl
theorem dX1_first_0 : decode cX1_first 0 = .ok (.aconst_null, 1) := dk_1 (dk_at dksX1_first_0 0 rfl rfl)
theorem dX1_first_1 : decode cX1_first 1 = .ok (.astore_n 2, 1) := dk_77 (dk_at dksX1_first_0 1 rfl rfl)
theorem dX1_first_2 : decode cX1_first 2 = .ok (.iconst 0, 1) := dk_3 (dk_at dksX1_first_0 2 rfl rfl)
theorem dX1_first_3 : decode cX1_first 3 = .ok (.istore_n 3, 1) := dk_62 (dk_at dksX1_first_0 3 rfl rfl)
theorem dX1_first_4 : decode cX1_first 4 = .ok (.iload_n 3, 1) := dk_29 (dk_at dksX1_first_0 4 rfl rfl)
theorem dX1_first_5 : decode cX1_first 5 = .ok (.iconst 4, 1) := dk_7 (dk_at dksX1_first_0 5 rfl rfl)
theorem dX1_first_6 : decode cX1_first 6 = .ok (.if_icmp .ge 51, 3) := dk_162 0 51 (dk_at dksX1_first_0 6 rfl rfl)
theorem dX1_first_9 : decode cX1_first 9 = .ok (.aload_n 0, 1) := dk_42 (dk_at dksX1_first_0 9 rfl rfl)
theorem dX1_first_10 : decode cX1_first 10 = .ok (.getfield 52, 3) := dk_180 0 52 (dk_at dksX1_first_0 10 rfl rfl)
theorem dX1_first_13 : decode cX1_first 13 = .ok (.getfield 87, 3) := dk_180 0 87 (dk_at dksX1_first_0 13 rfl rfl)
theorem dX1_first_16 : decode cX1_first 16 = .ok (.iload_n 3, 1) := dk_29 (dk_at dksX1_first_0 16 rfl rfl)
theorem dX1_first_17 : decode cX1_first 17 = .ok (.aaload, 1) := dk_50 (dk_at dksX1_first_0 17 rfl rfl)
theorem dX1_first_18 : decode cX1_first 18 = .ok (.astore 4, 2) := dk_58 4 (dk_at dksX1_first_0 18 rfl rfl)
theorem dX1_first_20 : decode cX1_first 20 = .ok (.aload_n 1, 1) := dk_43 (dk_at dksX1_first_0 20 rfl rfl)
theorem dX1_first_21 : decode cX1_first 21 = .ok (.aload 4, 2) := dk_25 4 (dk_at dksX1_first_0 21 rfl rfl)
theorem dX1_first_23 : decode cX1_first 23 = .ok (.invokeinterface 199 2, 5) := by decide +kernel
theorem dX1_first_28 : decode cX1_first 28 = .ok (.ifCond .eq 23, 3) := dk_153 0 23 (dk_at dksX1_first_1 5 rfl rfl)
theorem dX1_first_31 : decode cX1_first 31 = .ok (.aload_n 2, 1) := dk_44 (dk_at dksX1_first_1 8 rfl rfl)
theorem dX1_first_32 : decode cX1_first 32 = .ok (.ifnull 16, 3) := dk_198 0 16 (dk_at dksX1_first_1 9 rfl rfl)
theorem dX1_first_35 : decode cX1_first 35 = .ok (.aload 4, 2) := dk_25 4 (dk_at dksX1_first_1 12 rfl rfl)
theorem dX1_first_37 : decode cX1_first 37 = .ok (.getfield 205, 3) := dk_180 0 205 (dk_at dksX1_first_1 14 rfl rfl)
theorem dX1_first_40 : decode cX1_first 40 = .ok (.aload_n 2, 1) := dk_44 (dk_at dksX1_first_1 17 rfl rfl)
theorem dX1_first_41 : decode cX1_first 41 = .ok (.getfield 205, 3) := dk_180 0 205 (dk_at dksX1_first_1 18 rfl rfl)
theorem dX1_first_44 : decode cX1_first 44 = .ok (.lcmp, 1) := dk_148 (dk_at dksX1_first_1 21 rfl rfl)
theorem dX1_first_45 : decode cX1_first 45 = .ok (.ifCond .ge 6, 3) := dk_156 0 6 (dk_at dksX1_first_2 0 rfl rfl)
theorem dX1_first_48 : decode cX1_first 48 = .ok (.aload 4, 2) := dk_25 4 (dk_at dksX1_first_2 3 rfl rfl)
theorem dX1_first_50 : decode cX1_first 50 = .ok (.astore_n 2, 1) := dk_77 (dk_at dksX1_first_2 5 rfl rfl)
theorem dX1_first_51 : decode cX1_first 51 = .ok (.iinc 3 1, 3) := dk_132 3 1 (dk_at dksX1_first_2 6 rfl rfl)
theorem dX1_first_54 : decode cX1_first 54 = .ok (.goto (-50), 3) := dk_167 255 206 (dk_at dksX1_first_2 9 rfl rfl)
theorem dX1_first_57 : decode cX1_first 57 = .ok (.aload_n 2, 1) := dk_44 (dk_at dksX1_first_2 12 rfl rfl)
theorem dX1_first_58 : decode cX1_first 58 = .ok (.areturn, 1) := dk_176 (dk_at dksX1_first_2 13 rfl rfl)
abbrev cX1_lambda_voiceForNote_4 : ByteArray := prog_1_method_63_code
def yX1_lambda_voiceForNote_4 : MethodName := ⟨RX1, "lambda$voiceForNote$4", "(LToneGraph$Voice;)Z"⟩
theorem dX1_lambda_voiceForNote_4_0 : decode cX1_lambda_voiceForNote_4 0 = .ok (.iconst 1, 1) := by decide +kernel
theorem dX1_lambda_voiceForNote_4_1 : decode cX1_lambda_voiceForNote_4 1 = .ok (.ireturn, 1) := by decide +kernel
abbrev cX1_waveOf : ByteArray := prog_1_method_3_code
def yX1_waveOf : MethodName := ⟨RX1, "waveOf", "(C)LToneGraph$Wave;"⟩
def dkwX1_waveOf_1 : List UInt8 := [186, 0, 17, 0, 0, 176]
abbrev dktX1_waveOf_1 : List UInt8 := dkwX1_waveOf_1 ++ []
def dkwX1_waveOf_0 : List UInt8 := [26, 16, 113, 160, 0, 9, 186, 0, 12, 0, 0, 176, 26, 16, 116, 160, 0, 9, 186, 0, 16, 0, 0, 176]
abbrev dktX1_waveOf_0 : List UInt8 := dkwX1_waveOf_0 ++ dktX1_waveOf_1
theorem dksX1_waveOf_0 : cX1_waveOf.data.toList.drop 0 = dktX1_waveOf_0 := by decide +kernel
theorem dksX1_waveOf_1 : cX1_waveOf.data.toList.drop 24 = dktX1_waveOf_1 := dk_seg dksX1_waveOf_0 24 rfl rfl
theorem dX1_waveOf_0 : decode cX1_waveOf 0 = .ok (.iload_n 0, 1) := dk_26 (dk_at dksX1_waveOf_0 0 rfl rfl)
theorem dX1_waveOf_1 : decode cX1_waveOf 1 = .ok (.bipush 113, 2) := dk_16 113 (dk_at dksX1_waveOf_0 1 rfl rfl)
theorem dX1_waveOf_3 : decode cX1_waveOf 3 = .ok (.if_icmp .ne 9, 3) := dk_160 0 9 (dk_at dksX1_waveOf_0 3 rfl rfl)
theorem dX1_waveOf_6 : decode cX1_waveOf 6 = .ok (.invokedynamic 12, 5) := by decide +kernel
theorem dX1_waveOf_11 : decode cX1_waveOf 11 = .ok (.areturn, 1) := dk_176 (dk_at dksX1_waveOf_0 11 rfl rfl)
theorem dX1_waveOf_12 : decode cX1_waveOf 12 = .ok (.iload_n 0, 1) := dk_26 (dk_at dksX1_waveOf_0 12 rfl rfl)
theorem dX1_waveOf_13 : decode cX1_waveOf 13 = .ok (.bipush 116, 2) := dk_16 116 (dk_at dksX1_waveOf_0 13 rfl rfl)
theorem dX1_waveOf_15 : decode cX1_waveOf 15 = .ok (.if_icmp .ne 9, 3) := dk_160 0 9 (dk_at dksX1_waveOf_0 15 rfl rfl)
theorem dX1_waveOf_18 : decode cX1_waveOf 18 = .ok (.invokedynamic 16, 5) := by decide +kernel
theorem dX1_waveOf_23 : decode cX1_waveOf 23 = .ok (.areturn, 1) := dk_176 (dk_at dksX1_waveOf_0 23 rfl rfl)
theorem dX1_waveOf_24 : decode cX1_waveOf 24 = .ok (.invokedynamic 17, 5) := by decide +kernel
theorem dX1_waveOf_29 : decode cX1_waveOf 29 = .ok (.areturn, 1) := dk_176 (dk_at dksX1_waveOf_1 5 rfl rfl)
abbrev cX1_lambda_waveOf_0 : ByteArray := prog_1_method_67_code
def yX1_lambda_waveOf_0 : MethodName := ⟨RX1, "lambda$waveOf$0", "(I)I"⟩
def dkwX1_lambda_waveOf_0_0 : List UInt8 := [26, 19, 1, 79, 162, 0, 9, 17, 3, 232, 167, 0, 6, 17, 252, 24, 172]
abbrev dktX1_lambda_waveOf_0_0 : List UInt8 := dkwX1_lambda_waveOf_0_0 ++ []
theorem dksX1_lambda_waveOf_0_0 : cX1_lambda_waveOf_0.data.toList.drop 0 = dktX1_lambda_waveOf_0_0 := by decide +kernel
theorem dX1_lambda_waveOf_0_0 : decode cX1_lambda_waveOf_0 0 = .ok (.iload_n 0, 1) := dk_26 (dk_at dksX1_lambda_waveOf_0_0 0 rfl rfl)
theorem dX1_lambda_waveOf_0_1 : decode cX1_lambda_waveOf_0 1 = .ok (.ldc_w 335, 3) := dk_19 1 79 (dk_at dksX1_lambda_waveOf_0_0 1 rfl rfl)
theorem dX1_lambda_waveOf_0_4 : decode cX1_lambda_waveOf_0 4 = .ok (.if_icmp .ge 9, 3) := dk_162 0 9 (dk_at dksX1_lambda_waveOf_0_0 4 rfl rfl)
theorem dX1_lambda_waveOf_0_7 : decode cX1_lambda_waveOf_0 7 = .ok (.sipush 1000, 3) := dk_17 3 232 (dk_at dksX1_lambda_waveOf_0_0 7 rfl rfl)
theorem dX1_lambda_waveOf_0_10 : decode cX1_lambda_waveOf_0 10 = .ok (.goto 6, 3) := dk_167 0 6 (dk_at dksX1_lambda_waveOf_0_0 10 rfl rfl)
theorem dX1_lambda_waveOf_0_13 : decode cX1_lambda_waveOf_0 13 = .ok (.sipush (-1000), 3) := dk_17 252 24 (dk_at dksX1_lambda_waveOf_0_0 13 rfl rfl)
theorem dX1_lambda_waveOf_0_16 : decode cX1_lambda_waveOf_0 16 = .ok (.ireturn, 1) := dk_172 (dk_at dksX1_lambda_waveOf_0_0 16 rfl rfl)
abbrev cX1_lambda_waveOf_1 : ByteArray := prog_1_method_66_code
def yX1_lambda_waveOf_1 : MethodName := ⟨RX1, "lambda$waveOf$1", "(I)I"⟩
def dkwX1_lambda_waveOf_1_0 : List UInt8 := [26, 19, 1, 79, 162, 0, 7, 26, 167, 0, 8, 19, 1, 80, 26, 100, 16, 16, 108, 17, 4, 0, 100, 172]
abbrev dktX1_lambda_waveOf_1_0 : List UInt8 := dkwX1_lambda_waveOf_1_0 ++ []
theorem dksX1_lambda_waveOf_1_0 : cX1_lambda_waveOf_1.data.toList.drop 0 = dktX1_lambda_waveOf_1_0 := by decide +kernel
theorem dX1_lambda_waveOf_1_0 : decode cX1_lambda_waveOf_1 0 = .ok (.iload_n 0, 1) := dk_26 (dk_at dksX1_lambda_waveOf_1_0 0 rfl rfl)
theorem dX1_lambda_waveOf_1_1 : decode cX1_lambda_waveOf_1 1 = .ok (.ldc_w 335, 3) := dk_19 1 79 (dk_at dksX1_lambda_waveOf_1_0 1 rfl rfl)
theorem dX1_lambda_waveOf_1_4 : decode cX1_lambda_waveOf_1 4 = .ok (.if_icmp .ge 7, 3) := dk_162 0 7 (dk_at dksX1_lambda_waveOf_1_0 4 rfl rfl)
theorem dX1_lambda_waveOf_1_7 : decode cX1_lambda_waveOf_1 7 = .ok (.iload_n 0, 1) := dk_26 (dk_at dksX1_lambda_waveOf_1_0 7 rfl rfl)
theorem dX1_lambda_waveOf_1_8 : decode cX1_lambda_waveOf_1 8 = .ok (.goto 8, 3) := dk_167 0 8 (dk_at dksX1_lambda_waveOf_1_0 8 rfl rfl)
theorem dX1_lambda_waveOf_1_11 : decode cX1_lambda_waveOf_1 11 = .ok (.ldc_w 336, 3) := dk_19 1 80 (dk_at dksX1_lambda_waveOf_1_0 11 rfl rfl)
theorem dX1_lambda_waveOf_1_14 : decode cX1_lambda_waveOf_1 14 = .ok (.iload_n 0, 1) := dk_26 (dk_at dksX1_lambda_waveOf_1_0 14 rfl rfl)
theorem dX1_lambda_waveOf_1_15 : decode cX1_lambda_waveOf_1 15 = .ok (.isub, 1) := dk_100 (dk_at dksX1_lambda_waveOf_1_0 15 rfl rfl)
theorem dX1_lambda_waveOf_1_16 : decode cX1_lambda_waveOf_1 16 = .ok (.bipush 16, 2) := dk_16 16 (dk_at dksX1_lambda_waveOf_1_0 16 rfl rfl)
theorem dX1_lambda_waveOf_1_18 : decode cX1_lambda_waveOf_1 18 = .ok (.idiv, 1) := dk_108 (dk_at dksX1_lambda_waveOf_1_0 18 rfl rfl)
theorem dX1_lambda_waveOf_1_19 : decode cX1_lambda_waveOf_1 19 = .ok (.sipush 1024, 3) := dk_17 4 0 (dk_at dksX1_lambda_waveOf_1_0 19 rfl rfl)
theorem dX1_lambda_waveOf_1_22 : decode cX1_lambda_waveOf_1 22 = .ok (.isub, 1) := dk_100 (dk_at dksX1_lambda_waveOf_1_0 22 rfl rfl)
theorem dX1_lambda_waveOf_1_23 : decode cX1_lambda_waveOf_1 23 = .ok (.ireturn, 1) := dk_172 (dk_at dksX1_lambda_waveOf_1_0 23 rfl rfl)
abbrev cX1_lambda_waveOf_2 : ByteArray := prog_1_method_65_code
def yX1_lambda_waveOf_2 : MethodName := ⟨RX1, "lambda$waveOf$2", "(I)I"⟩
def dkwX1_lambda_waveOf_2_0 : List UInt8 := [26, 16, 32, 108, 17, 4, 0, 100, 172]
abbrev dktX1_lambda_waveOf_2_0 : List UInt8 := dkwX1_lambda_waveOf_2_0 ++ []
theorem dksX1_lambda_waveOf_2_0 : cX1_lambda_waveOf_2.data.toList.drop 0 = dktX1_lambda_waveOf_2_0 := by decide +kernel
theorem dX1_lambda_waveOf_2_0 : decode cX1_lambda_waveOf_2 0 = .ok (.iload_n 0, 1) := dk_26 (dk_at dksX1_lambda_waveOf_2_0 0 rfl rfl)
theorem dX1_lambda_waveOf_2_1 : decode cX1_lambda_waveOf_2 1 = .ok (.bipush 32, 2) := dk_16 32 (dk_at dksX1_lambda_waveOf_2_0 1 rfl rfl)
theorem dX1_lambda_waveOf_2_3 : decode cX1_lambda_waveOf_2 3 = .ok (.idiv, 1) := dk_108 (dk_at dksX1_lambda_waveOf_2_0 3 rfl rfl)
theorem dX1_lambda_waveOf_2_4 : decode cX1_lambda_waveOf_2 4 = .ok (.sipush 1024, 3) := dk_17 4 0 (dk_at dksX1_lambda_waveOf_2_0 4 rfl rfl)
theorem dX1_lambda_waveOf_2_7 : decode cX1_lambda_waveOf_2 7 = .ok (.isub, 1) := dk_100 (dk_at dksX1_lambda_waveOf_2_0 7 rfl rfl)
theorem dX1_lambda_waveOf_2_8 : decode cX1_lambda_waveOf_2 8 = .ok (.ireturn, 1) := dk_172 (dk_at dksX1_lambda_waveOf_2_0 8 rfl rfl)
abbrev cX1_end : ByteArray := prog_1_method_34_code
def yX1_end : MethodName := ⟨RX1, "end", "(I)I"⟩
def dkwX1_end_2 : List UInt8 := [180, 0, 229, 182, 0, 244, 44, 180, 0, 240, 172]
abbrev dktX1_end_2 : List UInt8 := dkwX1_end_2 ++ []
def dkwX1_end_1 : List UInt8 := [199, 0, 11, 187, 0, 170, 89, 183, 0, 172, 191, 42, 89, 180, 0, 229, 10, 97, 181, 0, 229, 44, 42]
abbrev dktX1_end_1 : List UInt8 := dkwX1_end_1 ++ dktX1_end_2
def dkwX1_end_0 : List UInt8 := [27, 3, 16, 59, 184, 0, 74, 184, 0, 125, 42, 27, 186, 0, 241, 0, 0, 182, 0, 220, 77, 44]
abbrev dktX1_end_0 : List UInt8 := dkwX1_end_0 ++ dktX1_end_1
theorem dksX1_end_0 : cX1_end.data.toList.drop 0 = dktX1_end_0 := by decide +kernel
theorem dksX1_end_1 : cX1_end.data.toList.drop 22 = dktX1_end_1 := dk_seg dksX1_end_0 22 rfl rfl
theorem dksX1_end_2 : cX1_end.data.toList.drop 45 = dktX1_end_2 := dk_seg dksX1_end_1 23 rfl rfl
theorem dX1_end_0 : decode cX1_end 0 = .ok (.iload_n 1, 1) := dk_27 (dk_at dksX1_end_0 0 rfl rfl)
theorem dX1_end_1 : decode cX1_end 1 = .ok (.iconst 0, 1) := dk_3 (dk_at dksX1_end_0 1 rfl rfl)
theorem dX1_end_2 : decode cX1_end 2 = .ok (.bipush 59, 2) := dk_16 59 (dk_at dksX1_end_0 2 rfl rfl)
theorem dX1_end_4 : decode cX1_end 4 = .ok (.invokestatic 74, 3) := dk_184 0 74 (dk_at dksX1_end_0 4 rfl rfl)
theorem dX1_end_7 : decode cX1_end 7 = .ok (.invokestatic 125, 3) := dk_184 0 125 (dk_at dksX1_end_0 7 rfl rfl)
theorem dX1_end_10 : decode cX1_end 10 = .ok (.aload_n 0, 1) := dk_42 (dk_at dksX1_end_0 10 rfl rfl)
theorem dX1_end_11 : decode cX1_end 11 = .ok (.iload_n 1, 1) := dk_27 (dk_at dksX1_end_0 11 rfl rfl)
theorem dX1_end_12 : decode cX1_end 12 = .ok (.invokedynamic 241, 5) := by decide +kernel
theorem dX1_end_17 : decode cX1_end 17 = .ok (.invokevirtual 220, 3) := dk_182 0 220 (dk_at dksX1_end_0 17 rfl rfl)
theorem dX1_end_20 : decode cX1_end 20 = .ok (.astore_n 2, 1) := dk_77 (dk_at dksX1_end_0 20 rfl rfl)
theorem dX1_end_21 : decode cX1_end 21 = .ok (.aload_n 2, 1) := dk_44 (dk_at dksX1_end_0 21 rfl rfl)
theorem dX1_end_22 : decode cX1_end 22 = .ok (.ifnonnull 11, 3) := dk_199 0 11 (dk_at dksX1_end_1 0 rfl rfl)
theorem dX1_end_25 : decode cX1_end 25 = .ok (.new 170, 3) := dk_187 0 170 (dk_at dksX1_end_1 3 rfl rfl)
theorem dX1_end_28 : decode cX1_end 28 = .ok (.dup, 1) := dk_89 (dk_at dksX1_end_1 6 rfl rfl)
theorem dX1_end_29 : decode cX1_end 29 = .ok (.invokespecial 172, 3) := dk_183 0 172 (dk_at dksX1_end_1 7 rfl rfl)
theorem dX1_end_32 : decode cX1_end 32 = .ok (.athrow, 1) := dk_191 (dk_at dksX1_end_1 10 rfl rfl)
theorem dX1_end_33 : decode cX1_end 33 = .ok (.aload_n 0, 1) := dk_42 (dk_at dksX1_end_1 11 rfl rfl)
theorem dX1_end_34 : decode cX1_end 34 = .ok (.dup, 1) := dk_89 (dk_at dksX1_end_1 12 rfl rfl)
theorem dX1_end_35 : decode cX1_end 35 = .ok (.getfield 229, 3) := dk_180 0 229 (dk_at dksX1_end_1 13 rfl rfl)
theorem dX1_end_38 : decode cX1_end 38 = .ok (.lconst 1, 1) := dk_10 (dk_at dksX1_end_1 16 rfl rfl)
theorem dX1_end_39 : decode cX1_end 39 = .ok (.ladd, 1) := dk_97 (dk_at dksX1_end_1 17 rfl rfl)
theorem dX1_end_40 : decode cX1_end 40 = .ok (.putfield 229, 3) := dk_181 0 229 (dk_at dksX1_end_1 18 rfl rfl)
theorem dX1_end_43 : decode cX1_end 43 = .ok (.aload_n 2, 1) := dk_44 (dk_at dksX1_end_1 21 rfl rfl)
theorem dX1_end_44 : decode cX1_end 44 = .ok (.aload_n 0, 1) := dk_42 (dk_at dksX1_end_1 22 rfl rfl)
theorem dX1_end_45 : decode cX1_end 45 = .ok (.getfield 229, 3) := dk_180 0 229 (dk_at dksX1_end_2 0 rfl rfl)
theorem dX1_end_48 : decode cX1_end 48 = .ok (.invokevirtual 244, 3) := dk_182 0 244 (dk_at dksX1_end_2 3 rfl rfl)
theorem dX1_end_51 : decode cX1_end 51 = .ok (.aload_n 2, 1) := dk_44 (dk_at dksX1_end_2 6 rfl rfl)
theorem dX1_end_52 : decode cX1_end 52 = .ok (.getfield 240, 3) := dk_180 0 240 (dk_at dksX1_end_2 7 rfl rfl)
theorem dX1_end_55 : decode cX1_end 55 = .ok (.ireturn, 1) := dk_172 (dk_at dksX1_end_2 10 rfl rfl)
abbrev cX1_lambda_end_5 : ByteArray := prog_1_method_62_code
def yX1_lambda_end_5 : MethodName := ⟨RX1, "lambda$end$5", "(ILToneGraph$Voice;)Z"⟩
def dkwX1_lambda_end_5_1 : List UInt8 := [167, 0, 4, 3, 172]
abbrev dktX1_lambda_end_5_1 : List UInt8 := dkwX1_lambda_end_5_1 ++ []
def dkwX1_lambda_end_5_0 : List UInt8 := [43, 180, 0, 211, 153, 0, 22, 43, 180, 0, 248, 154, 0, 15, 43, 180, 1, 5, 26, 160, 0, 7, 4]
abbrev dktX1_lambda_end_5_0 : List UInt8 := dkwX1_lambda_end_5_0 ++ dktX1_lambda_end_5_1
theorem dksX1_lambda_end_5_0 : cX1_lambda_end_5.data.toList.drop 0 = dktX1_lambda_end_5_0 := by decide +kernel
theorem dksX1_lambda_end_5_1 : cX1_lambda_end_5.data.toList.drop 23 = dktX1_lambda_end_5_1 := dk_seg dksX1_lambda_end_5_0 23 rfl rfl
theorem dX1_lambda_end_5_0 : decode cX1_lambda_end_5 0 = .ok (.aload_n 1, 1) := dk_43 (dk_at dksX1_lambda_end_5_0 0 rfl rfl)
theorem dX1_lambda_end_5_1 : decode cX1_lambda_end_5 1 = .ok (.getfield 211, 3) := dk_180 0 211 (dk_at dksX1_lambda_end_5_0 1 rfl rfl)
theorem dX1_lambda_end_5_4 : decode cX1_lambda_end_5 4 = .ok (.ifCond .eq 22, 3) := dk_153 0 22 (dk_at dksX1_lambda_end_5_0 4 rfl rfl)
theorem dX1_lambda_end_5_7 : decode cX1_lambda_end_5 7 = .ok (.aload_n 1, 1) := dk_43 (dk_at dksX1_lambda_end_5_0 7 rfl rfl)
theorem dX1_lambda_end_5_8 : decode cX1_lambda_end_5 8 = .ok (.getfield 248, 3) := dk_180 0 248 (dk_at dksX1_lambda_end_5_0 8 rfl rfl)
theorem dX1_lambda_end_5_11 : decode cX1_lambda_end_5 11 = .ok (.ifCond .ne 15, 3) := dk_154 0 15 (dk_at dksX1_lambda_end_5_0 11 rfl rfl)
theorem dX1_lambda_end_5_14 : decode cX1_lambda_end_5 14 = .ok (.aload_n 1, 1) := dk_43 (dk_at dksX1_lambda_end_5_0 14 rfl rfl)
theorem dX1_lambda_end_5_15 : decode cX1_lambda_end_5 15 = .ok (.getfield 261, 3) := dk_180 1 5 (dk_at dksX1_lambda_end_5_0 15 rfl rfl)
theorem dX1_lambda_end_5_18 : decode cX1_lambda_end_5 18 = .ok (.iload_n 0, 1) := dk_26 (dk_at dksX1_lambda_end_5_0 18 rfl rfl)
theorem dX1_lambda_end_5_19 : decode cX1_lambda_end_5 19 = .ok (.if_icmp .ne 7, 3) := dk_160 0 7 (dk_at dksX1_lambda_end_5_0 19 rfl rfl)
theorem dX1_lambda_end_5_22 : decode cX1_lambda_end_5 22 = .ok (.iconst 1, 1) := dk_4 (dk_at dksX1_lambda_end_5_0 22 rfl rfl)
theorem dX1_lambda_end_5_23 : decode cX1_lambda_end_5 23 = .ok (.goto 4, 3) := dk_167 0 4 (dk_at dksX1_lambda_end_5_1 0 rfl rfl)
theorem dX1_lambda_end_5_26 : decode cX1_lambda_end_5 26 = .ok (.iconst 0, 1) := dk_3 (dk_at dksX1_lambda_end_5_1 3 rfl rfl)
theorem dX1_lambda_end_5_27 : decode cX1_lambda_end_5 27 = .ok (.ireturn, 1) := dk_172 (dk_at dksX1_lambda_end_5_1 4 rfl rfl)
abbrev cX1_stateOf : ByteArray := prog_1_method_37_code
def yX1_stateOf : MethodName := ⟨RX1, "stateOf", "(I)C"⟩
def dkwX1_stateOf_0 : List UInt8 := [42, 27, 182, 0, 251, 182, 0, 255, 172]
abbrev dktX1_stateOf_0 : List UInt8 := dkwX1_stateOf_0 ++ []
theorem dksX1_stateOf_0 : cX1_stateOf.data.toList.drop 0 = dktX1_stateOf_0 := by decide +kernel
theorem dX1_stateOf_0 : decode cX1_stateOf 0 = .ok (.aload_n 0, 1) := dk_42 (dk_at dksX1_stateOf_0 0 rfl rfl)
theorem dX1_stateOf_1 : decode cX1_stateOf 1 = .ok (.iload_n 1, 1) := dk_27 (dk_at dksX1_stateOf_0 1 rfl rfl)
theorem dX1_stateOf_2 : decode cX1_stateOf 2 = .ok (.invokevirtual 251, 3) := dk_182 0 251 (dk_at dksX1_stateOf_0 2 rfl rfl)
theorem dX1_stateOf_5 : decode cX1_stateOf 5 = .ok (.invokevirtual 255, 3) := dk_182 0 255 (dk_at dksX1_stateOf_0 5 rfl rfl)
theorem dX1_stateOf_8 : decode cX1_stateOf 8 = .ok (.ireturn, 1) := dk_172 (dk_at dksX1_stateOf_0 8 rfl rfl)
abbrev cX1_voice : ByteArray := prog_1_method_8_code
def yX1_voice : MethodName := ⟨RX1, "voice", "(I)LToneGraph$Voice;"⟩
def dkwX1_voice_1 : List UInt8 := [27, 50, 176]
abbrev dktX1_voice_1 : List UInt8 := dkwX1_voice_1 ++ []
def dkwX1_voice_0 : List UInt8 := [27, 3, 6, 184, 0, 74, 154, 0, 11, 187, 0, 78, 89, 183, 0, 80, 191, 42, 180, 0, 52, 180, 0, 87]
abbrev dktX1_voice_0 : List UInt8 := dkwX1_voice_0 ++ dktX1_voice_1
theorem dksX1_voice_0 : cX1_voice.data.toList.drop 0 = dktX1_voice_0 := by decide +kernel
theorem dksX1_voice_1 : cX1_voice.data.toList.drop 24 = dktX1_voice_1 := dk_seg dksX1_voice_0 24 rfl rfl
theorem dX1_voice_0 : decode cX1_voice 0 = .ok (.iload_n 1, 1) := dk_27 (dk_at dksX1_voice_0 0 rfl rfl)
theorem dX1_voice_1 : decode cX1_voice 1 = .ok (.iconst 0, 1) := dk_3 (dk_at dksX1_voice_0 1 rfl rfl)
theorem dX1_voice_2 : decode cX1_voice 2 = .ok (.iconst 3, 1) := dk_6 (dk_at dksX1_voice_0 2 rfl rfl)
theorem dX1_voice_3 : decode cX1_voice 3 = .ok (.invokestatic 74, 3) := dk_184 0 74 (dk_at dksX1_voice_0 3 rfl rfl)
theorem dX1_voice_6 : decode cX1_voice 6 = .ok (.ifCond .ne 11, 3) := dk_154 0 11 (dk_at dksX1_voice_0 6 rfl rfl)
theorem dX1_voice_9 : decode cX1_voice 9 = .ok (.new 78, 3) := dk_187 0 78 (dk_at dksX1_voice_0 9 rfl rfl)
theorem dX1_voice_12 : decode cX1_voice 12 = .ok (.dup, 1) := dk_89 (dk_at dksX1_voice_0 12 rfl rfl)
theorem dX1_voice_13 : decode cX1_voice 13 = .ok (.invokespecial 80, 3) := dk_183 0 80 (dk_at dksX1_voice_0 13 rfl rfl)
theorem dX1_voice_16 : decode cX1_voice 16 = .ok (.athrow, 1) := dk_191 (dk_at dksX1_voice_0 16 rfl rfl)
theorem dX1_voice_17 : decode cX1_voice 17 = .ok (.aload_n 0, 1) := dk_42 (dk_at dksX1_voice_0 17 rfl rfl)
theorem dX1_voice_18 : decode cX1_voice 18 = .ok (.getfield 52, 3) := dk_180 0 52 (dk_at dksX1_voice_0 18 rfl rfl)
theorem dX1_voice_21 : decode cX1_voice 21 = .ok (.getfield 87, 3) := dk_180 0 87 (dk_at dksX1_voice_0 21 rfl rfl)
theorem dX1_voice_24 : decode cX1_voice 24 = .ok (.iload_n 1, 1) := dk_27 (dk_at dksX1_voice_1 0 rfl rfl)
theorem dX1_voice_25 : decode cX1_voice 25 = .ok (.aaload, 1) := dk_50 (dk_at dksX1_voice_1 1 rfl rfl)
theorem dX1_voice_26 : decode cX1_voice 26 = .ok (.areturn, 1) := dk_176 (dk_at dksX1_voice_1 2 rfl rfl)
abbrev cX1_keyOf : ByteArray := prog_1_method_39_code
def yX1_keyOf : MethodName := ⟨RX1, "keyOf", "(I)I"⟩
def dkwX1_keyOf_0 : List UInt8 := [42, 27, 182, 1, 3, 180, 1, 5, 172]
abbrev dktX1_keyOf_0 : List UInt8 := dkwX1_keyOf_0 ++ []
theorem dksX1_keyOf_0 : cX1_keyOf.data.toList.drop 0 = dktX1_keyOf_0 := by decide +kernel
theorem dX1_keyOf_0 : decode cX1_keyOf 0 = .ok (.aload_n 0, 1) := dk_42 (dk_at dksX1_keyOf_0 0 rfl rfl)
theorem dX1_keyOf_1 : decode cX1_keyOf 1 = .ok (.iload_n 1, 1) := dk_27 (dk_at dksX1_keyOf_0 1 rfl rfl)
theorem dX1_keyOf_2 : decode cX1_keyOf 2 = .ok (.invokevirtual 259, 3) := dk_182 1 3 (dk_at dksX1_keyOf_0 2 rfl rfl)
theorem dX1_keyOf_5 : decode cX1_keyOf 5 = .ok (.getfield 261, 3) := dk_180 1 5 (dk_at dksX1_keyOf_0 5 rfl rfl)
theorem dX1_keyOf_8 : decode cX1_keyOf 8 = .ok (.ireturn, 1) := dk_172 (dk_at dksX1_keyOf_0 8 rfl rfl)
abbrev cX1_playing : ByteArray := prog_1_method_38_code
def yX1_playing : MethodName := ⟨RX1, "playing", "(I)LToneGraph$Voice;"⟩
def dkwX1_playing_0 : List UInt8 := [42, 27, 182, 0, 251, 77, 44, 180, 0, 211, 184, 0, 121, 44, 176]
abbrev dktX1_playing_0 : List UInt8 := dkwX1_playing_0 ++ []
theorem dksX1_playing_0 : cX1_playing.data.toList.drop 0 = dktX1_playing_0 := by decide +kernel
theorem dX1_playing_0 : decode cX1_playing 0 = .ok (.aload_n 0, 1) := dk_42 (dk_at dksX1_playing_0 0 rfl rfl)
theorem dX1_playing_1 : decode cX1_playing 1 = .ok (.iload_n 1, 1) := dk_27 (dk_at dksX1_playing_0 1 rfl rfl)
theorem dX1_playing_2 : decode cX1_playing 2 = .ok (.invokevirtual 251, 3) := dk_182 0 251 (dk_at dksX1_playing_0 2 rfl rfl)
theorem dX1_playing_5 : decode cX1_playing 5 = .ok (.astore_n 2, 1) := dk_77 (dk_at dksX1_playing_0 5 rfl rfl)
theorem dX1_playing_6 : decode cX1_playing 6 = .ok (.aload_n 2, 1) := dk_44 (dk_at dksX1_playing_0 6 rfl rfl)
theorem dX1_playing_7 : decode cX1_playing 7 = .ok (.getfield 211, 3) := dk_180 0 211 (dk_at dksX1_playing_0 7 rfl rfl)
theorem dX1_playing_10 : decode cX1_playing 10 = .ok (.invokestatic 121, 3) := dk_184 0 121 (dk_at dksX1_playing_0 10 rfl rfl)
theorem dX1_playing_13 : decode cX1_playing 13 = .ok (.aload_n 2, 1) := dk_44 (dk_at dksX1_playing_0 13 rfl rfl)
theorem dX1_playing_14 : decode cX1_playing 14 = .ok (.areturn, 1) := dk_176 (dk_at dksX1_playing_0 14 rfl rfl)
abbrev cX1_levelOf : ByteArray := prog_1_method_40_code
def yX1_levelOf : MethodName := ⟨RX1, "levelOf", "(I)I"⟩
def dkwX1_levelOf_0 : List UInt8 := [42, 27, 182, 0, 251, 182, 1, 8, 172]
abbrev dktX1_levelOf_0 : List UInt8 := dkwX1_levelOf_0 ++ []
theorem dksX1_levelOf_0 : cX1_levelOf.data.toList.drop 0 = dktX1_levelOf_0 := by decide +kernel
theorem dX1_levelOf_0 : decode cX1_levelOf 0 = .ok (.aload_n 0, 1) := dk_42 (dk_at dksX1_levelOf_0 0 rfl rfl)
theorem dX1_levelOf_1 : decode cX1_levelOf 1 = .ok (.iload_n 1, 1) := dk_27 (dk_at dksX1_levelOf_0 1 rfl rfl)
theorem dX1_levelOf_2 : decode cX1_levelOf 2 = .ok (.invokevirtual 251, 3) := dk_182 0 251 (dk_at dksX1_levelOf_0 2 rfl rfl)
theorem dX1_levelOf_5 : decode cX1_levelOf 5 = .ok (.invokevirtual 264, 3) := dk_182 1 8 (dk_at dksX1_levelOf_0 5 rfl rfl)
theorem dX1_levelOf_8 : decode cX1_levelOf 8 = .ok (.ireturn, 1) := dk_172 (dk_at dksX1_levelOf_0 8 rfl rfl)
abbrev cX1_phaseOf : ByteArray := prog_1_method_41_code
def yX1_phaseOf : MethodName := ⟨RX1, "phaseOf", "(I)I"⟩
def dkwX1_phaseOf_0 : List UInt8 := [42, 27, 182, 1, 3, 180, 1, 11, 172]
abbrev dktX1_phaseOf_0 : List UInt8 := dkwX1_phaseOf_0 ++ []
theorem dksX1_phaseOf_0 : cX1_phaseOf.data.toList.drop 0 = dktX1_phaseOf_0 := by decide +kernel
theorem dX1_phaseOf_0 : decode cX1_phaseOf 0 = .ok (.aload_n 0, 1) := dk_42 (dk_at dksX1_phaseOf_0 0 rfl rfl)
theorem dX1_phaseOf_1 : decode cX1_phaseOf 1 = .ok (.iload_n 1, 1) := dk_27 (dk_at dksX1_phaseOf_0 1 rfl rfl)
theorem dX1_phaseOf_2 : decode cX1_phaseOf 2 = .ok (.invokevirtual 259, 3) := dk_182 1 3 (dk_at dksX1_phaseOf_0 2 rfl rfl)
theorem dX1_phaseOf_5 : decode cX1_phaseOf 5 = .ok (.getfield 267, 3) := dk_180 1 11 (dk_at dksX1_phaseOf_0 5 rfl rfl)
theorem dX1_phaseOf_8 : decode cX1_phaseOf 8 = .ok (.ireturn, 1) := dk_172 (dk_at dksX1_phaseOf_0 8 rfl rfl)
abbrev cX1_play : ByteArray := prog_1_method_46_code
def yX1_play : MethodName := ⟨RX1, "play", "(I)I"⟩
def dkwX1_play_3 : List UInt8 := [167, 255, 204, 42, 180, 0, 60, 180, 1, 51, 172]
abbrev dktX1_play_3 : List UInt8 := dkwX1_play_3 ++ []
def dkwX1_play_2 : List UInt8 := [180, 0, 60, 180, 1, 45, 21, 5, 46, 182, 1, 48, 132, 5, 1, 167, 255, 232, 29, 21, 4, 100, 62]
abbrev dktX1_play_2 : List UInt8 := dkwX1_play_2 ++ dktX1_play_3
def dkwX1_play_1 : List UInt8 := [184, 0, 3, 54, 4, 42, 21, 4, 182, 1, 44, 3, 54, 5, 21, 5, 21, 4, 162, 0, 23, 42, 42]
abbrev dktX1_play_1 : List UInt8 := dkwX1_play_1 ++ dktX1_play_2
def dkwX1_play_0 : List UInt8 := [27, 4, 16, 64, 184, 0, 74, 184, 0, 125, 42, 182, 1, 41, 61, 27, 62, 29, 158, 0, 54, 29, 28]
abbrev dktX1_play_0 : List UInt8 := dkwX1_play_0 ++ dktX1_play_1
theorem dksX1_play_0 : cX1_play.data.toList.drop 0 = dktX1_play_0 := by decide +kernel
theorem dksX1_play_1 : cX1_play.data.toList.drop 23 = dktX1_play_1 := dk_seg dksX1_play_0 23 rfl rfl
theorem dksX1_play_2 : cX1_play.data.toList.drop 46 = dktX1_play_2 := dk_seg dksX1_play_1 23 rfl rfl
theorem dksX1_play_3 : cX1_play.data.toList.drop 69 = dktX1_play_3 := dk_seg dksX1_play_2 23 rfl rfl
theorem dX1_play_0 : decode cX1_play 0 = .ok (.iload_n 1, 1) := dk_27 (dk_at dksX1_play_0 0 rfl rfl)
theorem dX1_play_1 : decode cX1_play 1 = .ok (.iconst 1, 1) := dk_4 (dk_at dksX1_play_0 1 rfl rfl)
theorem dX1_play_2 : decode cX1_play 2 = .ok (.bipush 64, 2) := dk_16 64 (dk_at dksX1_play_0 2 rfl rfl)
theorem dX1_play_4 : decode cX1_play 4 = .ok (.invokestatic 74, 3) := dk_184 0 74 (dk_at dksX1_play_0 4 rfl rfl)
theorem dX1_play_7 : decode cX1_play 7 = .ok (.invokestatic 125, 3) := dk_184 0 125 (dk_at dksX1_play_0 7 rfl rfl)
theorem dX1_play_10 : decode cX1_play 10 = .ok (.aload_n 0, 1) := dk_42 (dk_at dksX1_play_0 10 rfl rfl)
theorem dX1_play_11 : decode cX1_play 11 = .ok (.invokevirtual 297, 3) := dk_182 1 41 (dk_at dksX1_play_0 11 rfl rfl)
theorem dX1_play_14 : decode cX1_play 14 = .ok (.istore_n 2, 1) := dk_61 (dk_at dksX1_play_0 14 rfl rfl)
theorem dX1_play_15 : decode cX1_play 15 = .ok (.iload_n 1, 1) := dk_27 (dk_at dksX1_play_0 15 rfl rfl)
theorem dX1_play_16 : decode cX1_play 16 = .ok (.istore_n 3, 1) := dk_62 (dk_at dksX1_play_0 16 rfl rfl)
theorem dX1_play_17 : decode cX1_play 17 = .ok (.iload_n 3, 1) := dk_29 (dk_at dksX1_play_0 17 rfl rfl)
theorem dX1_play_18 : decode cX1_play 18 = .ok (.ifCond .le 54, 3) := dk_158 0 54 (dk_at dksX1_play_0 18 rfl rfl)
theorem dX1_play_21 : decode cX1_play 21 = .ok (.iload_n 3, 1) := dk_29 (dk_at dksX1_play_0 21 rfl rfl)
theorem dX1_play_22 : decode cX1_play 22 = .ok (.iload_n 2, 1) := dk_28 (dk_at dksX1_play_0 22 rfl rfl)
theorem dX1_play_23 : decode cX1_play 23 = .ok (.invokestatic 3, 3) := dk_184 0 3 (dk_at dksX1_play_1 0 rfl rfl)
theorem dX1_play_26 : decode cX1_play 26 = .ok (.istore 4, 2) := dk_54 4 (dk_at dksX1_play_1 3 rfl rfl)
theorem dX1_play_28 : decode cX1_play 28 = .ok (.aload_n 0, 1) := dk_42 (dk_at dksX1_play_1 5 rfl rfl)
theorem dX1_play_29 : decode cX1_play 29 = .ok (.iload 4, 2) := dk_21 4 (dk_at dksX1_play_1 6 rfl rfl)
theorem dX1_play_31 : decode cX1_play 31 = .ok (.invokevirtual 300, 3) := dk_182 1 44 (dk_at dksX1_play_1 8 rfl rfl)
theorem dX1_play_34 : decode cX1_play 34 = .ok (.iconst 0, 1) := dk_3 (dk_at dksX1_play_1 11 rfl rfl)
theorem dX1_play_35 : decode cX1_play 35 = .ok (.istore 5, 2) := dk_54 5 (dk_at dksX1_play_1 12 rfl rfl)
theorem dX1_play_37 : decode cX1_play 37 = .ok (.iload 5, 2) := dk_21 5 (dk_at dksX1_play_1 14 rfl rfl)
theorem dX1_play_39 : decode cX1_play 39 = .ok (.iload 4, 2) := dk_21 4 (dk_at dksX1_play_1 16 rfl rfl)
theorem dX1_play_41 : decode cX1_play 41 = .ok (.if_icmp .ge 23, 3) := dk_162 0 23 (dk_at dksX1_play_1 18 rfl rfl)
theorem dX1_play_44 : decode cX1_play 44 = .ok (.aload_n 0, 1) := dk_42 (dk_at dksX1_play_1 21 rfl rfl)
theorem dX1_play_45 : decode cX1_play 45 = .ok (.aload_n 0, 1) := dk_42 (dk_at dksX1_play_1 22 rfl rfl)
theorem dX1_play_46 : decode cX1_play 46 = .ok (.getfield 60, 3) := dk_180 0 60 (dk_at dksX1_play_2 0 rfl rfl)
theorem dX1_play_49 : decode cX1_play 49 = .ok (.getfield 301, 3) := dk_180 1 45 (dk_at dksX1_play_2 3 rfl rfl)
theorem dX1_play_52 : decode cX1_play 52 = .ok (.iload 5, 2) := dk_21 5 (dk_at dksX1_play_2 6 rfl rfl)
theorem dX1_play_54 : decode cX1_play 54 = .ok (.iaload, 1) := dk_46 (dk_at dksX1_play_2 8 rfl rfl)
theorem dX1_play_55 : decode cX1_play 55 = .ok (.invokevirtual 304, 3) := dk_182 1 48 (dk_at dksX1_play_2 9 rfl rfl)
theorem dX1_play_58 : decode cX1_play 58 = .ok (.iinc 5 1, 3) := dk_132 5 1 (dk_at dksX1_play_2 12 rfl rfl)
theorem dX1_play_61 : decode cX1_play 61 = .ok (.goto (-24), 3) := dk_167 255 232 (dk_at dksX1_play_2 15 rfl rfl)
theorem dX1_play_64 : decode cX1_play 64 = .ok (.iload_n 3, 1) := dk_29 (dk_at dksX1_play_2 18 rfl rfl)
theorem dX1_play_65 : decode cX1_play 65 = .ok (.iload 4, 2) := dk_21 4 (dk_at dksX1_play_2 19 rfl rfl)
theorem dX1_play_67 : decode cX1_play 67 = .ok (.isub, 1) := dk_100 (dk_at dksX1_play_2 21 rfl rfl)
theorem dX1_play_68 : decode cX1_play 68 = .ok (.istore_n 3, 1) := dk_62 (dk_at dksX1_play_2 22 rfl rfl)
theorem dX1_play_69 : decode cX1_play 69 = .ok (.goto (-52), 3) := dk_167 255 204 (dk_at dksX1_play_3 0 rfl rfl)
theorem dX1_play_72 : decode cX1_play 72 = .ok (.aload_n 0, 1) := dk_42 (dk_at dksX1_play_3 3 rfl rfl)
theorem dX1_play_73 : decode cX1_play 73 = .ok (.getfield 60, 3) := dk_180 0 60 (dk_at dksX1_play_3 4 rfl rfl)
theorem dX1_play_76 : decode cX1_play 76 = .ok (.getfield 307, 3) := dk_180 1 51 (dk_at dksX1_play_3 7 rfl rfl)
theorem dX1_play_79 : decode cX1_play 79 = .ok (.ireturn, 1) := dk_172 (dk_at dksX1_play_3 10 rfl rfl)
abbrev cX1_heard : ByteArray := prog_1_method_52_code
def yX1_heard : MethodName := ⟨RX1, "heard", "(I)I"⟩
def dkwX1_heard_1 : List UInt8 := [183, 0, 172, 191, 42, 180, 0, 45, 42, 180, 1, 25, 4, 100, 27, 100, 16, 64, 112, 46, 172]
abbrev dktX1_heard_1 : List UInt8 := dkwX1_heard_1 ++ []
def dkwX1_heard_0 : List UInt8 := [27, 3, 16, 63, 184, 0, 74, 184, 0, 125, 27, 42, 180, 1, 25, 161, 0, 11, 187, 0, 170, 89]
abbrev dktX1_heard_0 : List UInt8 := dkwX1_heard_0 ++ dktX1_heard_1
theorem dksX1_heard_0 : cX1_heard.data.toList.drop 0 = dktX1_heard_0 := by decide +kernel
theorem dksX1_heard_1 : cX1_heard.data.toList.drop 22 = dktX1_heard_1 := dk_seg dksX1_heard_0 22 rfl rfl
theorem dX1_heard_0 : decode cX1_heard 0 = .ok (.iload_n 1, 1) := dk_27 (dk_at dksX1_heard_0 0 rfl rfl)
theorem dX1_heard_1 : decode cX1_heard 1 = .ok (.iconst 0, 1) := dk_3 (dk_at dksX1_heard_0 1 rfl rfl)
theorem dX1_heard_2 : decode cX1_heard 2 = .ok (.bipush 63, 2) := dk_16 63 (dk_at dksX1_heard_0 2 rfl rfl)
theorem dX1_heard_4 : decode cX1_heard 4 = .ok (.invokestatic 74, 3) := dk_184 0 74 (dk_at dksX1_heard_0 4 rfl rfl)
theorem dX1_heard_7 : decode cX1_heard 7 = .ok (.invokestatic 125, 3) := dk_184 0 125 (dk_at dksX1_heard_0 7 rfl rfl)
theorem dX1_heard_10 : decode cX1_heard 10 = .ok (.iload_n 1, 1) := dk_27 (dk_at dksX1_heard_0 10 rfl rfl)
theorem dX1_heard_11 : decode cX1_heard 11 = .ok (.aload_n 0, 1) := dk_42 (dk_at dksX1_heard_0 11 rfl rfl)
theorem dX1_heard_12 : decode cX1_heard 12 = .ok (.getfield 281, 3) := dk_180 1 25 (dk_at dksX1_heard_0 12 rfl rfl)
theorem dX1_heard_15 : decode cX1_heard 15 = .ok (.if_icmp .lt 11, 3) := dk_161 0 11 (dk_at dksX1_heard_0 15 rfl rfl)
theorem dX1_heard_18 : decode cX1_heard 18 = .ok (.new 170, 3) := dk_187 0 170 (dk_at dksX1_heard_0 18 rfl rfl)
theorem dX1_heard_21 : decode cX1_heard 21 = .ok (.dup, 1) := dk_89 (dk_at dksX1_heard_0 21 rfl rfl)
theorem dX1_heard_22 : decode cX1_heard 22 = .ok (.invokespecial 172, 3) := dk_183 0 172 (dk_at dksX1_heard_1 0 rfl rfl)
theorem dX1_heard_25 : decode cX1_heard 25 = .ok (.athrow, 1) := dk_191 (dk_at dksX1_heard_1 3 rfl rfl)
theorem dX1_heard_26 : decode cX1_heard 26 = .ok (.aload_n 0, 1) := dk_42 (dk_at dksX1_heard_1 4 rfl rfl)
theorem dX1_heard_27 : decode cX1_heard 27 = .ok (.getfield 45, 3) := dk_180 0 45 (dk_at dksX1_heard_1 5 rfl rfl)
theorem dX1_heard_30 : decode cX1_heard 30 = .ok (.aload_n 0, 1) := dk_42 (dk_at dksX1_heard_1 8 rfl rfl)
theorem dX1_heard_31 : decode cX1_heard 31 = .ok (.getfield 281, 3) := dk_180 1 25 (dk_at dksX1_heard_1 9 rfl rfl)
theorem dX1_heard_34 : decode cX1_heard 34 = .ok (.iconst 1, 1) := dk_4 (dk_at dksX1_heard_1 12 rfl rfl)
theorem dX1_heard_35 : decode cX1_heard 35 = .ok (.isub, 1) := dk_100 (dk_at dksX1_heard_1 13 rfl rfl)
theorem dX1_heard_36 : decode cX1_heard 36 = .ok (.iload_n 1, 1) := dk_27 (dk_at dksX1_heard_1 14 rfl rfl)
theorem dX1_heard_37 : decode cX1_heard 37 = .ok (.isub, 1) := dk_100 (dk_at dksX1_heard_1 15 rfl rfl)
theorem dX1_heard_38 : decode cX1_heard 38 = .ok (.bipush 64, 2) := dk_16 64 (dk_at dksX1_heard_1 16 rfl rfl)
theorem dX1_heard_40 : decode cX1_heard 40 = .ok (.irem, 1) := dk_112 (dk_at dksX1_heard_1 18 rfl rfl)
theorem dX1_heard_41 : decode cX1_heard 41 = .ok (.iaload, 1) := dk_46 (dk_at dksX1_heard_1 19 rfl rfl)
theorem dX1_heard_42 : decode cX1_heard 42 = .ok (.ireturn, 1) := dk_172 (dk_at dksX1_heard_1 20 rfl rfl)
abbrev cX1_outputOf : ByteArray := prog_1_method_53_code
def yX1_outputOf : MethodName := ⟨RX1, "outputOf", "(I)I"⟩
def dkwX1_outputOf_0 : List UInt8 := [42, 27, 182, 0, 153, 180, 1, 51, 172]
abbrev dktX1_outputOf_0 : List UInt8 := dkwX1_outputOf_0 ++ []
theorem dksX1_outputOf_0 : cX1_outputOf.data.toList.drop 0 = dktX1_outputOf_0 := by decide +kernel
theorem dX1_outputOf_0 : decode cX1_outputOf 0 = .ok (.aload_n 0, 1) := dk_42 (dk_at dksX1_outputOf_0 0 rfl rfl)
theorem dX1_outputOf_1 : decode cX1_outputOf 1 = .ok (.iload_n 1, 1) := dk_27 (dk_at dksX1_outputOf_0 1 rfl rfl)
theorem dX1_outputOf_2 : decode cX1_outputOf 2 = .ok (.invokevirtual 153, 3) := dk_182 0 153 (dk_at dksX1_outputOf_0 2 rfl rfl)
theorem dX1_outputOf_5 : decode cX1_outputOf 5 = .ok (.getfield 307, 3) := dk_180 1 51 (dk_at dksX1_outputOf_0 5 rfl rfl)
theorem dX1_outputOf_8 : decode cX1_outputOf 8 = .ok (.ireturn, 1) := dk_172 (dk_at dksX1_outputOf_0 8 rfl rfl)
abbrev cX1_meanEnergy : ByteArray := prog_1_method_58_code
def yX1_meanEnergy : MethodName := ⟨RX1, "meanEnergy", "()D"⟩
def dkwX1_meanEnergy_0 : List UInt8 := [42, 182, 1, 66, 42, 180, 1, 38, 138, 42, 180, 1, 25, 135, 111, 175]
abbrev dktX1_meanEnergy_0 : List UInt8 := dkwX1_meanEnergy_0 ++ []
theorem dksX1_meanEnergy_0 : cX1_meanEnergy.data.toList.drop 0 = dktX1_meanEnergy_0 := by decide +kernel
theorem dX1_meanEnergy_0 : decode cX1_meanEnergy 0 = .ok (.aload_n 0, 1) := dk_42 (dk_at dksX1_meanEnergy_0 0 rfl rfl)
theorem dX1_meanEnergy_1 : decode cX1_meanEnergy 1 = .ok (.invokevirtual 322, 3) := dk_182 1 66 (dk_at dksX1_meanEnergy_0 1 rfl rfl)
theorem dX1_meanEnergy_4 : decode cX1_meanEnergy 4 = .ok (.aload_n 0, 1) := dk_42 (dk_at dksX1_meanEnergy_0 4 rfl rfl)
theorem dX1_meanEnergy_5 : decode cX1_meanEnergy 5 = .ok (.getfield 294, 3) := dk_180 1 38 (dk_at dksX1_meanEnergy_0 5 rfl rfl)
theorem dX1_meanEnergy_8 : decode cX1_meanEnergy 8 = .ok (.l2d, 1) := dk_138 (dk_at dksX1_meanEnergy_0 8 rfl rfl)
theorem dX1_meanEnergy_9 : decode cX1_meanEnergy 9 = .ok (.aload_n 0, 1) := dk_42 (dk_at dksX1_meanEnergy_0 9 rfl rfl)
theorem dX1_meanEnergy_10 : decode cX1_meanEnergy 10 = .ok (.getfield 281, 3) := dk_180 1 25 (dk_at dksX1_meanEnergy_0 10 rfl rfl)
theorem dX1_meanEnergy_13 : decode cX1_meanEnergy 13 = .ok (.i2d, 1) := dk_135 (dk_at dksX1_meanEnergy_0 13 rfl rfl)
theorem dX1_meanEnergy_14 : decode cX1_meanEnergy 14 = .ok (.ddiv, 1) := dk_111 (dk_at dksX1_meanEnergy_0 14 rfl rfl)
theorem dX1_meanEnergy_15 : decode cX1_meanEnergy 15 = .ok (.dreturn, 1) := dk_175 (dk_at dksX1_meanEnergy_0 15 rfl rfl)
abbrev cX1_checkAny : ByteArray := prog_1_method_57_code
def yX1_checkAny : MethodName := ⟨RX1, "checkAny", "()V"⟩
def dkwX1_checkAny_0 : List UInt8 := [42, 180, 1, 25, 154, 0, 11, 187, 1, 63, 89, 183, 1, 65, 191, 177]
abbrev dktX1_checkAny_0 : List UInt8 := dkwX1_checkAny_0 ++ []
theorem dksX1_checkAny_0 : cX1_checkAny.data.toList.drop 0 = dktX1_checkAny_0 := by decide +kernel
theorem dX1_checkAny_0 : decode cX1_checkAny 0 = .ok (.aload_n 0, 1) := dk_42 (dk_at dksX1_checkAny_0 0 rfl rfl)
theorem dX1_checkAny_1 : decode cX1_checkAny 1 = .ok (.getfield 281, 3) := dk_180 1 25 (dk_at dksX1_checkAny_0 1 rfl rfl)
theorem dX1_checkAny_4 : decode cX1_checkAny 4 = .ok (.ifCond .ne 11, 3) := dk_154 0 11 (dk_at dksX1_checkAny_0 4 rfl rfl)
theorem dX1_checkAny_7 : decode cX1_checkAny 7 = .ok (.new 319, 3) := dk_187 1 63 (dk_at dksX1_checkAny_0 7 rfl rfl)
theorem dX1_checkAny_10 : decode cX1_checkAny 10 = .ok (.dup, 1) := dk_89 (dk_at dksX1_checkAny_0 10 rfl rfl)
theorem dX1_checkAny_11 : decode cX1_checkAny 11 = .ok (.invokespecial 321, 3) := dk_183 1 65 (dk_at dksX1_checkAny_0 11 rfl rfl)
theorem dX1_checkAny_14 : decode cX1_checkAny 14 = .ok (.athrow, 1) := dk_191 (dk_at dksX1_checkAny_0 14 rfl rfl)
theorem dX1_checkAny_15 : decode cX1_checkAny 15 = .ok (.return_, 1) := dk_177 (dk_at dksX1_checkAny_0 15 rfl rfl)
abbrev cX1_quietShare : ByteArray := prog_1_method_59_code
def yX1_quietShare : MethodName := ⟨RX1, "quietShare", "()F"⟩
def dkwX1_quietShare_0 : List UInt8 := [42, 182, 1, 66, 42, 180, 1, 35, 134, 42, 180, 1, 25, 134, 110, 174]
abbrev dktX1_quietShare_0 : List UInt8 := dkwX1_quietShare_0 ++ []
theorem dksX1_quietShare_0 : cX1_quietShare.data.toList.drop 0 = dktX1_quietShare_0 := by decide +kernel
theorem dX1_quietShare_0 : decode cX1_quietShare 0 = .ok (.aload_n 0, 1) := dk_42 (dk_at dksX1_quietShare_0 0 rfl rfl)
theorem dX1_quietShare_1 : decode cX1_quietShare 1 = .ok (.invokevirtual 322, 3) := dk_182 1 66 (dk_at dksX1_quietShare_0 1 rfl rfl)
theorem dX1_quietShare_4 : decode cX1_quietShare 4 = .ok (.aload_n 0, 1) := dk_42 (dk_at dksX1_quietShare_0 4 rfl rfl)
theorem dX1_quietShare_5 : decode cX1_quietShare 5 = .ok (.getfield 291, 3) := dk_180 1 35 (dk_at dksX1_quietShare_0 5 rfl rfl)
theorem dX1_quietShare_8 : decode cX1_quietShare 8 = .ok (.i2f, 1) := dk_134 (dk_at dksX1_quietShare_0 8 rfl rfl)
theorem dX1_quietShare_9 : decode cX1_quietShare 9 = .ok (.aload_n 0, 1) := dk_42 (dk_at dksX1_quietShare_0 9 rfl rfl)
theorem dX1_quietShare_10 : decode cX1_quietShare 10 = .ok (.getfield 281, 3) := dk_180 1 25 (dk_at dksX1_quietShare_0 10 rfl rfl)
theorem dX1_quietShare_13 : decode cX1_quietShare 13 = .ok (.i2f, 1) := dk_134 (dk_at dksX1_quietShare_0 13 rfl rfl)
theorem dX1_quietShare_14 : decode cX1_quietShare 14 = .ok (.fdiv, 1) := dk_110 (dk_at dksX1_quietShare_0 14 rfl rfl)
theorem dX1_quietShare_15 : decode cX1_quietShare 15 = .ok (.freturn, 1) := dk_174 (dk_at dksX1_quietShare_0 15 rfl rfl)
theorem q53 : (Jvm.Cond.initialized "ToneGraph") ∈ lw_all := lw_g (lw_at lw_m1 1 rfl) rfl
theorem q85 : (Jvm.Cond.instantiable "ToneGraph" (13 : Nat)) ∈ lw_all := lw_g (lw_at lw_m1 33 rfl) rfl
theorem q87 : (Jvm.Cond.instanceMethod ({ cls := "ToneGraph", name := "<init>", desc := "()V" } : Jvm.MethodName)) ∈ lw_all := lw_g (lw_at lw_m1 35 rfl) rfl
theorem q88 : (Jvm.Cond.code ({ cls := "ToneGraph", name := "<init>", desc := "()V" } : Jvm.MethodName) prog_1_method_4_code (1 : Nat) (Option.none : Option Jvm.ClassFile.FieldType)) ∈ lw_all := lw_g (lw_at lw_m1 36 rfl) rfl
theorem q89 : (Jvm.Cond.methodLink "ToneGraph" (18 : Nat) ({ cls := "java/lang/Object", name := "<init>", desc := "()V" } : Jvm.MethodName)) ∈ lw_all := lw_g (lw_at lw_m1 37 rfl) rfl
theorem q92 : (Jvm.Cond.classLink "ToneGraph" (24 : Nat) "java/util/ArrayList") ∈ lw_all := lw_g (lw_at lw_m1 40 rfl) rfl
theorem q94 : (Jvm.Cond.methodLink "ToneGraph" (26 : Nat) ({ cls := "java/util/ArrayList", name := "<init>", desc := "()V" } : Jvm.MethodName)) ∈ lw_all := lw_g (lw_at lw_m1 42 rfl) rfl
theorem q118 : (Jvm.Cond.classLink "ToneGraph" (38 : Nat) "ToneGraph$Envelope") ∈ lw_all := lw_g (lw_at lw_m1 66 rfl) rfl
theorem q120 : (Jvm.Cond.methodLink "ToneGraph" (40 : Nat) ({ cls := "ToneGraph$Envelope", name := "<init>", desc := "()V" } : Jvm.MethodName)) ∈ lw_all := lw_g (lw_at lw_m1 68 rfl) rfl
theorem q134 : (Jvm.Cond.fieldLinkNest "ToneGraph" (190 : Nat) "ToneGraph$Envelope" "sustain" "I" "ToneGraph") ∈ lw_tbl := lw_at lw_m1 82 rfl
theorem q146 : (Jvm.Cond.classLink "ToneGraph" (49 : Nat) "ToneGraph$Chorus") ∈ lw_all := lw_g (lw_at lw_m1 94 rfl) rfl
theorem q148 : (Jvm.Cond.methodLink "ToneGraph" (51 : Nat) ({ cls := "ToneGraph$Chorus", name := "<init>", desc := "()V" } : Jvm.MethodName)) ∈ lw_all := lw_g (lw_at lw_m1 96 rfl) rfl
theorem q165 : (Jvm.Cond.fieldLinkNest "ToneGraph" (240 : Nat) "ToneGraph$Voice" "number" "I" "ToneGraph") ∈ lw_tbl := lw_at lw_m1 113 rfl
theorem q167 : (Jvm.Cond.fieldLinkNest "ToneGraph" (211 : Nat) "ToneGraph$Voice" "playing" "Z" "ToneGraph") ∈ lw_tbl := lw_at lw_m1 115 rfl
theorem q169 : (Jvm.Cond.fieldLinkNest "ToneGraph" (248 : Nat) "ToneGraph$Voice" "released" "Z" "ToneGraph") ∈ lw_tbl := lw_at lw_m1 117 rfl
theorem q173 : (Jvm.Cond.fieldLinkNest "ToneGraph" (261 : Nat) "ToneGraph$Voice" "key" "I" "ToneGraph") ∈ lw_tbl := lw_at lw_m1 121 rfl
theorem q176 : (Jvm.Cond.fieldLinkNest "ToneGraph" (267 : Nat) "ToneGraph$Voice" "phase" "I" "ToneGraph") ∈ lw_tbl := lw_at lw_m1 124 rfl
theorem q180 : (Jvm.Cond.fieldLinkNest "ToneGraph" (205 : Nat) "ToneGraph$Voice" "turn" "J" "ToneGraph") ∈ lw_tbl := lw_at lw_m1 128 rfl
theorem q209 : (Jvm.Cond.fieldLinkNest "ToneGraph" (87 : Nat) "ToneGraph$Chorus" "voices" "[LToneGraph$Voice;" "ToneGraph") ∈ lw_tbl := lw_at lw_m1 157 rfl
theorem q211 : (Jvm.Cond.fieldLinkNest "ToneGraph" (117 : Nat) "ToneGraph$Node" "number" "I" "ToneGraph") ∈ lw_tbl := lw_at lw_m1 159 rfl
theorem q213 : (Jvm.Cond.fieldLinkNest "ToneGraph" (180 : Nat) "ToneGraph$Node" "kind" "C" "ToneGraph") ∈ lw_tbl := lw_at lw_m1 161 rfl
theorem q215 : (Jvm.Cond.fieldLinkNest "ToneGraph" (91 : Nat) "ToneGraph$Node" "wires" "Ljava/util/ArrayList;" "ToneGraph") ∈ lw_tbl := lw_at lw_m1 163 rfl
theorem q219 : (Jvm.Cond.fieldLinkNest "ToneGraph" (301 : Nat) "ToneGraph$Node" "row" "[I" "ToneGraph") ∈ lw_tbl := lw_at lw_m1 167 rfl
theorem q223 : (Jvm.Cond.fieldLinkNest "ToneGraph" (307 : Nat) "ToneGraph$Node" "now" "I" "ToneGraph") ∈ lw_tbl := lw_at lw_m1 171 rfl
theorem q229 : (Jvm.Cond.fieldLinkNest "ToneGraph" (103 : Nat) "ToneGraph$Node" "placed" "Z" "ToneGraph") ∈ lw_tbl := lw_at lw_m1 177 rfl
theorem q251 : (Jvm.Cond.methodLink "ToneGraph" (56 : Nat) ({ cls := "java/util/ArrayList", name := "add", desc := "(Ljava/lang/Object;)Z" } : Jvm.MethodName)) ∈ lw_all := lw_g (lw_at lw_m1 199 rfl) rfl
theorem q283 : (Jvm.Cond.selects "ToneGraph" ({ cls := "java/lang/Object", name := "getClass", desc := "()Ljava/lang/Class;" } : Jvm.MethodName) ({ cls := "java/lang/Object", name := "getClass", desc := "()Ljava/lang/Class;" } : Jvm.MethodName)) ∈ lw_all := lw_g (lw_at lw_m1 231 rfl) rfl
theorem q316 : (Jvm.Cond.fieldLink "ToneGraph" (52 : Nat) "ToneGraph" "chorus" "LToneGraph$Chorus;") ∈ lw_all := lw_g (lw_at lw_m2 24 rfl) rfl
theorem q317 : (Jvm.Cond.fieldLink "ToneGraph" (27 : Nat) "ToneGraph" "nodes" "Ljava/util/ArrayList;") ∈ lw_all := lw_g (lw_at lw_m2 25 rfl) rfl
theorem q318 : (Jvm.Cond.fieldLink "ToneGraph" (31 : Nat) "ToneGraph" "order" "Ljava/util/ArrayList;") ∈ lw_all := lw_g (lw_at lw_m2 26 rfl) rfl
theorem q319 : (Jvm.Cond.fieldLink "ToneGraph" (60 : Nat) "ToneGraph" "output" "LToneGraph$Node;") ∈ lw_all := lw_g (lw_at lw_m2 27 rfl) rfl
theorem q320 : (Jvm.Cond.fieldLink "ToneGraph" (34 : Nat) "ToneGraph" "wave" "C") ∈ lw_all := lw_g (lw_at lw_m2 28 rfl) rfl
theorem q321 : (Jvm.Cond.fieldLink "ToneGraph" (41 : Nat) "ToneGraph" "envelope" "LToneGraph$Envelope;") ∈ lw_all := lw_g (lw_at lw_m2 29 rfl) rfl
theorem q322 : (Jvm.Cond.fieldLink "ToneGraph" (45 : Nat) "ToneGraph" "heard" "[I") ∈ lw_all := lw_g (lw_at lw_m2 30 rfl) rfl
theorem q323 : (Jvm.Cond.fieldLink "ToneGraph" (281 : Nat) "ToneGraph" "time" "I") ∈ lw_all := lw_g (lw_at lw_m2 31 rfl) rfl
theorem q324 : (Jvm.Cond.fieldLink "ToneGraph" (284 : Nat) "ToneGraph" "greatest" "I") ∈ lw_all := lw_g (lw_at lw_m2 32 rfl) rfl
theorem q325 : (Jvm.Cond.fieldLink "ToneGraph" (291 : Nat) "ToneGraph" "quiet" "I") ∈ lw_all := lw_g (lw_at lw_m2 33 rfl) rfl
theorem q326 : (Jvm.Cond.fieldLink "ToneGraph" (294 : Nat) "ToneGraph" "energy" "J") ∈ lw_all := lw_g (lw_at lw_m2 34 rfl) rfl
theorem q327 : (Jvm.Cond.fieldLink "ToneGraph" (229 : Nat) "ToneGraph" "turns" "J") ∈ lw_all := lw_g (lw_at lw_m2 35 rfl) rfl
theorem q328 : (Jvm.Cond.fieldLink "ToneGraph" (214 : Nat) "ToneGraph" "stolen" "I") ∈ lw_all := lw_g (lw_at lw_m2 36 rfl) rfl
theorem q329 : (Jvm.Cond.laysFinal "ToneGraph" "ToneGraph" "chorus" "LToneGraph$Chorus;") ∈ lw_all := lw_g (lw_at lw_m2 37 rfl) rfl
theorem q330 : (Jvm.Cond.soleField "ToneGraph" "chorus") ∈ lw_all := lw_g (lw_at lw_m2 38 rfl) rfl
theorem q331 : (Jvm.Cond.laysFinal "ToneGraph" "ToneGraph" "nodes" "Ljava/util/ArrayList;") ∈ lw_all := lw_g (lw_at lw_m2 39 rfl) rfl
theorem q332 : (Jvm.Cond.soleField "ToneGraph" "nodes") ∈ lw_all := lw_g (lw_at lw_m2 40 rfl) rfl
theorem q333 : (Jvm.Cond.laysFinal "ToneGraph" "ToneGraph" "order" "Ljava/util/ArrayList;") ∈ lw_all := lw_g (lw_at lw_m2 41 rfl) rfl
theorem q334 : (Jvm.Cond.soleField "ToneGraph" "order") ∈ lw_all := lw_g (lw_at lw_m2 42 rfl) rfl
theorem q335 : (Jvm.Cond.lays "ToneGraph" "ToneGraph" "output" "LToneGraph$Node;") ∈ lw_all := lw_g (lw_at lw_m2 43 rfl) rfl
theorem q336 : (Jvm.Cond.soleField "ToneGraph" "output") ∈ lw_all := lw_g (lw_at lw_m2 44 rfl) rfl
theorem q337 : (Jvm.Cond.lays "ToneGraph" "ToneGraph" "wave" "C") ∈ lw_all := lw_g (lw_at lw_m2 45 rfl) rfl
theorem q338 : (Jvm.Cond.soleField "ToneGraph" "wave") ∈ lw_all := lw_g (lw_at lw_m2 46 rfl) rfl
theorem q339 : (Jvm.Cond.lays "ToneGraph" "ToneGraph" "envelope" "LToneGraph$Envelope;") ∈ lw_all := lw_g (lw_at lw_m2 47 rfl) rfl
theorem q340 : (Jvm.Cond.soleField "ToneGraph" "envelope") ∈ lw_all := lw_g (lw_at lw_m2 48 rfl) rfl
theorem q341 : (Jvm.Cond.laysFinal "ToneGraph" "ToneGraph" "heard" "[I") ∈ lw_all := lw_g (lw_at lw_m2 49 rfl) rfl
theorem q342 : (Jvm.Cond.soleField "ToneGraph" "heard") ∈ lw_all := lw_g (lw_at lw_m2 50 rfl) rfl
theorem q343 : (Jvm.Cond.lays "ToneGraph" "ToneGraph" "time" "I") ∈ lw_all := lw_g (lw_at lw_m2 51 rfl) rfl
theorem q344 : (Jvm.Cond.soleField "ToneGraph" "time") ∈ lw_all := lw_g (lw_at lw_m2 52 rfl) rfl
theorem q345 : (Jvm.Cond.lays "ToneGraph" "ToneGraph" "greatest" "I") ∈ lw_all := lw_g (lw_at lw_m2 53 rfl) rfl
theorem q346 : (Jvm.Cond.soleField "ToneGraph" "greatest") ∈ lw_all := lw_g (lw_at lw_m2 54 rfl) rfl
theorem q347 : (Jvm.Cond.lays "ToneGraph" "ToneGraph" "quiet" "I") ∈ lw_all := lw_g (lw_at lw_m2 55 rfl) rfl
theorem q348 : (Jvm.Cond.soleField "ToneGraph" "quiet") ∈ lw_all := lw_g (lw_at lw_m2 56 rfl) rfl
theorem q349 : (Jvm.Cond.lays "ToneGraph" "ToneGraph" "energy" "J") ∈ lw_all := lw_g (lw_at lw_m2 57 rfl) rfl
theorem q350 : (Jvm.Cond.soleField "ToneGraph" "energy") ∈ lw_all := lw_g (lw_at lw_m2 58 rfl) rfl
theorem q351 : (Jvm.Cond.lays "ToneGraph" "ToneGraph" "turns" "J") ∈ lw_all := lw_g (lw_at lw_m2 59 rfl) rfl
theorem q352 : (Jvm.Cond.soleField "ToneGraph" "turns") ∈ lw_all := lw_g (lw_at lw_m2 60 rfl) rfl
theorem q353 : (Jvm.Cond.lays "ToneGraph" "ToneGraph" "stolen" "I") ∈ lw_all := lw_g (lw_at lw_m2 61 rfl) rfl
theorem q354 : (Jvm.Cond.soleField "ToneGraph" "stolen") ∈ lw_all := lw_g (lw_at lw_m2 62 rfl) rfl
theorem q355 : (Jvm.Cond.superclass "ToneGraph" "java/lang/Object") ∈ lw_all := lw_g (lw_at lw_m2 63 rfl) rfl
theorem q357 : (Jvm.Cond.instanceMethod ({ cls := "ToneGraph", name := "nodes", desc := "()I" } : Jvm.MethodName)) ∈ lw_all := lw_g (lw_at lw_m2 65 rfl) rfl
theorem q358 : (Jvm.Cond.selects "ToneGraph" ({ cls := "ToneGraph", name := "nodes", desc := "()I" } : Jvm.MethodName) ({ cls := "ToneGraph", name := "nodes", desc := "()I" } : Jvm.MethodName)) ∈ lw_all := lw_g (lw_at lw_m2 66 rfl) rfl
theorem q359 : (Jvm.Cond.code ({ cls := "ToneGraph", name := "nodes", desc := "()I" } : Jvm.MethodName) prog_1_method_21_code (1 : Nat) (Option.some Jvm.ClassFile.FieldType.int)) ∈ lw_all := lw_g (lw_at lw_m2 67 rfl) rfl
theorem q360 : (Jvm.Cond.methodLink "ToneGraph" (70 : Nat) ({ cls := "java/util/ArrayList", name := "size", desc := "()I" } : Jvm.MethodName)) ∈ lw_all := lw_g (lw_at lw_m2 68 rfl) rfl
theorem q365 : (Jvm.Cond.instanceMethod ({ cls := "ToneGraph", name := "longestBlock", desc := "()I" } : Jvm.MethodName)) ∈ lw_all := lw_g (lw_at lw_m2 73 rfl) rfl
theorem q366 : (Jvm.Cond.selects "ToneGraph" ({ cls := "ToneGraph", name := "longestBlock", desc := "()I" } : Jvm.MethodName) ({ cls := "ToneGraph", name := "longestBlock", desc := "()I" } : Jvm.MethodName)) ∈ lw_all := lw_g (lw_at lw_m2 74 rfl) rfl
theorem q367 : (Jvm.Cond.code ({ cls := "ToneGraph", name := "longestBlock", desc := "()I" } : Jvm.MethodName) prog_1_method_28_code (4 : Nat) (Option.some Jvm.ClassFile.FieldType.int)) ∈ lw_all := lw_g (lw_at lw_m2 75 rfl) rfl
theorem q368 : (Jvm.Cond.methodLink "ToneGraph" (81 : Nat) ({ cls := "java/util/ArrayList", name := "get", desc := "(I)Ljava/lang/Object;" } : Jvm.MethodName)) ∈ lw_all := lw_g (lw_at lw_m2 76 rfl) rfl
theorem q382 : (Jvm.Cond.classLink "ToneGraph" (85 : Nat) "ToneGraph$Node") ∈ lw_all := lw_g (lw_at lw_m2 90 rfl) rfl
theorem q383 : (Jvm.Cond.methodLink "ToneGraph" (94 : Nat) ({ cls := "ToneGraph$Node", name := "isDelay", desc := "()Z" } : Jvm.MethodName)) ∈ lw_all := lw_g (lw_at lw_m2 91 rfl) rfl
theorem q394 : (Jvm.Cond.classLink "ToneGraph" (140 : Nat) "ToneGraph$Delay") ∈ lw_all := lw_g (lw_at lw_m2 102 rfl) rfl
theorem q395 : (Jvm.Cond.methodLink "ToneGraph" (3 : Nat) ({ cls := "java/lang/Math", name := "min", desc := "(II)I" } : Jvm.MethodName)) ∈ lw_all := lw_g (lw_at lw_m2 103 rfl) rfl
theorem q397 : (Jvm.Cond.instanceMethod ({ cls := "ToneGraph", name := "endAll", desc := "()I" } : Jvm.MethodName)) ∈ lw_all := lw_g (lw_at lw_m2 105 rfl) rfl
theorem q398 : (Jvm.Cond.selects "ToneGraph" ({ cls := "ToneGraph", name := "endAll", desc := "()I" } : Jvm.MethodName) ({ cls := "ToneGraph", name := "endAll", desc := "()I" } : Jvm.MethodName)) ∈ lw_all := lw_g (lw_at lw_m2 106 rfl) rfl
theorem q399 : (Jvm.Cond.code ({ cls := "ToneGraph", name := "endAll", desc := "()I" } : Jvm.MethodName) prog_1_method_35_code (4 : Nat) (Option.some Jvm.ClassFile.FieldType.int)) ∈ lw_all := lw_g (lw_at lw_m2 107 rfl) rfl
theorem q400 : (Jvm.Cond.methodLink "ToneGraph" (244 : Nat) ({ cls := "ToneGraph$Voice", name := "release", desc := "(J)V" } : Jvm.MethodName)) ∈ lw_all := lw_g (lw_at lw_m2 108 rfl) rfl
theorem q409 : (Jvm.Cond.instanceMethod ({ cls := "ToneGraph", name := "sounding", desc := "()I" } : Jvm.MethodName)) ∈ lw_all := lw_g (lw_at lw_m2 117 rfl) rfl
theorem q410 : (Jvm.Cond.selects "ToneGraph" ({ cls := "ToneGraph", name := "sounding", desc := "()I" } : Jvm.MethodName) ({ cls := "ToneGraph", name := "sounding", desc := "()I" } : Jvm.MethodName)) ∈ lw_all := lw_g (lw_at lw_m2 118 rfl) rfl
theorem q411 : (Jvm.Cond.code ({ cls := "ToneGraph", name := "sounding", desc := "()I" } : Jvm.MethodName) prog_1_method_36_code (3 : Nat) (Option.some Jvm.ClassFile.FieldType.int)) ∈ lw_all := lw_g (lw_at lw_m2 119 rfl) rfl
theorem q413 : (Jvm.Cond.instanceMethod ({ cls := "ToneGraph", name := "stolen", desc := "()I" } : Jvm.MethodName)) ∈ lw_all := lw_g (lw_at lw_m2 121 rfl) rfl
theorem q414 : (Jvm.Cond.selects "ToneGraph" ({ cls := "ToneGraph", name := "stolen", desc := "()I" } : Jvm.MethodName) ({ cls := "ToneGraph", name := "stolen", desc := "()I" } : Jvm.MethodName)) ∈ lw_all := lw_g (lw_at lw_m2 122 rfl) rfl
theorem q415 : (Jvm.Cond.code ({ cls := "ToneGraph", name := "stolen", desc := "()I" } : Jvm.MethodName) prog_1_method_42_code (1 : Nat) (Option.some Jvm.ClassFile.FieldType.int)) ∈ lw_all := lw_g (lw_at lw_m2 123 rfl) rfl
theorem q417 : (Jvm.Cond.instanceMethod ({ cls := "ToneGraph", name := "step", desc := "()I" } : Jvm.MethodName)) ∈ lw_all := lw_g (lw_at lw_m2 125 rfl) rfl
theorem q418 : (Jvm.Cond.selects "ToneGraph" ({ cls := "ToneGraph", name := "step", desc := "()I" } : Jvm.MethodName) ({ cls := "ToneGraph", name := "step", desc := "()I" } : Jvm.MethodName)) ∈ lw_all := lw_g (lw_at lw_m2 126 rfl) rfl
theorem q419 : (Jvm.Cond.code ({ cls := "ToneGraph", name := "step", desc := "()I" } : Jvm.MethodName) prog_1_method_47_code (1 : Nat) (Option.some Jvm.ClassFile.FieldType.int)) ∈ lw_all := lw_g (lw_at lw_m2 127 rfl) rfl
theorem q420 : (Jvm.Cond.methodLink "ToneGraph" (310 : Nat) ({ cls := "ToneGraph", name := "tick", desc := "()V" } : Jvm.MethodName)) ∈ lw_all := lw_g (lw_at lw_m2 128 rfl) rfl
theorem q421 : (Jvm.Cond.privateMethod ({ cls := "ToneGraph", name := "tick", desc := "()V" } : Jvm.MethodName)) ∈ lw_tbl := lw_at lw_m2 129 rfl
theorem q422 : (Jvm.Cond.instanceMethod ({ cls := "ToneGraph", name := "tick", desc := "()V" } : Jvm.MethodName)) ∈ lw_all := lw_g (lw_at lw_m2 130 rfl) rfl
theorem q423 : (Jvm.Cond.code ({ cls := "ToneGraph", name := "tick", desc := "()V" } : Jvm.MethodName) prog_1_method_43_code (2 : Nat) (Option.none : Option Jvm.ClassFile.FieldType)) ∈ lw_all := lw_g (lw_at lw_m2 131 rfl) rfl
theorem q424 : (Jvm.Cond.methodLink "ToneGraph" (270 : Nat) ({ cls := "ToneGraph$Node", name := "tick", desc := "()V" } : Jvm.MethodName)) ∈ lw_all := lw_g (lw_at lw_m2 132 rfl) rfl
theorem q478 : (Jvm.Cond.laysStatic "ToneGraph" "STEPS" "[I") ∈ lw_tbl := lw_at lw_m2 186 rfl
theorem q487 : (Jvm.Cond.static ({ cls := "ToneGraph", name := "cut", desc := "(I)I" } : Jvm.MethodName)) ∈ lw_all := lw_g (lw_at lw_m2 195 rfl) rfl
theorem q488 : (Jvm.Cond.code ({ cls := "ToneGraph", name := "cut", desc := "(I)I" } : Jvm.MethodName) prog_1_method_2_code (1 : Nat) (Option.some Jvm.ClassFile.FieldType.int)) ∈ lw_all := lw_g (lw_at lw_m2 196 rfl) rfl
theorem q489 : (Jvm.Cond.methodLink "ToneGraph" (9 : Nat) ({ cls := "java/lang/Math", name := "max", desc := "(II)I" } : Jvm.MethodName)) ∈ lw_all := lw_g (lw_at lw_m2 197 rfl) rfl
theorem q494 : (Jvm.Cond.methodLink "ToneGraph" (273 : Nat) ({ cls := "ToneGraph$Node", name := "takeIn", desc := "()V" } : Jvm.MethodName)) ∈ lw_all := lw_g (lw_at lw_m2 202 rfl) rfl
theorem q515 : (Jvm.Cond.methodLink "ToneGraph" (304 : Nat) ({ cls := "ToneGraph", name := "hear", desc := "(I)V" } : Jvm.MethodName)) ∈ lw_all := lw_g (lw_at lw_m2 223 rfl) rfl
theorem q516 : (Jvm.Cond.privateMethod ({ cls := "ToneGraph", name := "hear", desc := "(I)V" } : Jvm.MethodName)) ∈ lw_tbl := lw_at lw_m2 224 rfl
theorem q517 : (Jvm.Cond.instanceMethod ({ cls := "ToneGraph", name := "hear", desc := "(I)V" } : Jvm.MethodName)) ∈ lw_all := lw_g (lw_at lw_m2 225 rfl) rfl
theorem q518 : (Jvm.Cond.code ({ cls := "ToneGraph", name := "hear", desc := "(I)V" } : Jvm.MethodName) prog_1_method_45_code (2 : Nat) (Option.none : Option Jvm.ClassFile.FieldType)) ∈ lw_all := lw_g (lw_at lw_m2 226 rfl) rfl
theorem q519 : (Jvm.Cond.methodLink "ToneGraph" (287 : Nat) ({ cls := "java/lang/Math", name := "abs", desc := "(I)I" } : Jvm.MethodName)) ∈ lw_all := lw_g (lw_at lw_m2 227 rfl) rfl
theorem q521 : (Jvm.Cond.instanceMethod ({ cls := "ToneGraph", name := "time", desc := "()I" } : Jvm.MethodName)) ∈ lw_all := lw_g (lw_at lw_m2 229 rfl) rfl
theorem q522 : (Jvm.Cond.selects "ToneGraph" ({ cls := "ToneGraph", name := "time", desc := "()I" } : Jvm.MethodName) ({ cls := "ToneGraph", name := "time", desc := "()I" } : Jvm.MethodName)) ∈ lw_all := lw_g (lw_at lw_m2 230 rfl) rfl
theorem q523 : (Jvm.Cond.code ({ cls := "ToneGraph", name := "time", desc := "()I" } : Jvm.MethodName) prog_1_method_54_code (1 : Nat) (Option.some Jvm.ClassFile.FieldType.int)) ∈ lw_all := lw_g (lw_at lw_m2 231 rfl) rfl
theorem q525 : (Jvm.Cond.instanceMethod ({ cls := "ToneGraph", name := "greatest", desc := "()I" } : Jvm.MethodName)) ∈ lw_all := lw_g (lw_at lw_m2 233 rfl) rfl
theorem q526 : (Jvm.Cond.selects "ToneGraph" ({ cls := "ToneGraph", name := "greatest", desc := "()I" } : Jvm.MethodName) ({ cls := "ToneGraph", name := "greatest", desc := "()I" } : Jvm.MethodName)) ∈ lw_all := lw_g (lw_at lw_m2 234 rfl) rfl
theorem q527 : (Jvm.Cond.code ({ cls := "ToneGraph", name := "greatest", desc := "()I" } : Jvm.MethodName) prog_1_method_55_code (1 : Nat) (Option.some Jvm.ClassFile.FieldType.int)) ∈ lw_all := lw_g (lw_at lw_m2 235 rfl) rfl
theorem q529 : (Jvm.Cond.instanceMethod ({ cls := "ToneGraph", name := "energy", desc := "()J" } : Jvm.MethodName)) ∈ lw_all := lw_g (lw_at lw_m2 237 rfl) rfl
theorem q530 : (Jvm.Cond.selects "ToneGraph" ({ cls := "ToneGraph", name := "energy", desc := "()J" } : Jvm.MethodName) ({ cls := "ToneGraph", name := "energy", desc := "()J" } : Jvm.MethodName)) ∈ lw_all := lw_g (lw_at lw_m2 238 rfl) rfl
theorem q531 : (Jvm.Cond.code ({ cls := "ToneGraph", name := "energy", desc := "()J" } : Jvm.MethodName) prog_1_method_56_code (1 : Nat) (Option.some Jvm.ClassFile.FieldType.long)) ∈ lw_all := lw_g (lw_at lw_m2 239 rfl) rfl
theorem q533 : (Jvm.Cond.instanceMethod ({ cls := "ToneGraph", name := "isConsistent", desc := "()Z" } : Jvm.MethodName)) ∈ lw_all := lw_g (lw_at lw_m3 1 rfl) rfl
theorem q534 : (Jvm.Cond.selects "ToneGraph" ({ cls := "ToneGraph", name := "isConsistent", desc := "()Z" } : Jvm.MethodName) ({ cls := "ToneGraph", name := "isConsistent", desc := "()Z" } : Jvm.MethodName)) ∈ lw_all := lw_g (lw_at lw_m3 2 rfl) rfl
theorem q535 : (Jvm.Cond.code ({ cls := "ToneGraph", name := "isConsistent", desc := "()Z" } : Jvm.MethodName) prog_1_method_61_code (3 : Nat) (Option.some Jvm.ClassFile.FieldType.boolean)) ∈ lw_all := lw_g (lw_at lw_m3 3 rfl) rfl
theorem q536 : (Jvm.Cond.methodLink "ToneGraph" (325 : Nat) ({ cls := "ToneGraph", name := "isBehind", desc := "(I)Z" } : Jvm.MethodName)) ∈ lw_all := lw_g (lw_at lw_m3 4 rfl) rfl
theorem q537 : (Jvm.Cond.privateMethod ({ cls := "ToneGraph", name := "isBehind", desc := "(I)Z" } : Jvm.MethodName)) ∈ lw_tbl := lw_at lw_m3 5 rfl
theorem q538 : (Jvm.Cond.instanceMethod ({ cls := "ToneGraph", name := "isBehind", desc := "(I)Z" } : Jvm.MethodName)) ∈ lw_all := lw_g (lw_at lw_m3 6 rfl) rfl
theorem q539 : (Jvm.Cond.code ({ cls := "ToneGraph", name := "isBehind", desc := "(I)Z" } : Jvm.MethodName) prog_1_method_60_code (5 : Nat) (Option.some Jvm.ClassFile.FieldType.boolean)) ∈ lw_all := lw_g (lw_at lw_m3 7 rfl) rfl
theorem q540 : (Jvm.Cond.classLink "ToneGraph" (98 : Nat) "ToneGraph$Wire") ∈ lw_all := lw_g (lw_at lw_m3 8 rfl) rfl
theorem q541 : (Jvm.Cond.methodLink "ToneGraph" (264 : Nat) ({ cls := "ToneGraph$Voice", name := "level", desc := "()I" } : Jvm.MethodName)) ∈ lw_all := lw_g (lw_at lw_m3 9 rfl) rfl
theorem q542 : (Jvm.Cond.methodLink "ToneGraph" (74 : Nat) ({ cls := "ToneGraph", name := "inRange", desc := "(III)Z" } : Jvm.MethodName)) ∈ lw_all := lw_g (lw_at lw_m3 10 rfl) rfl
theorem q543 : (Jvm.Cond.static ({ cls := "ToneGraph", name := "inRange", desc := "(III)Z" } : Jvm.MethodName)) ∈ lw_all := lw_g (lw_at lw_m3 11 rfl) rfl
theorem q544 : (Jvm.Cond.code ({ cls := "ToneGraph", name := "inRange", desc := "(III)Z" } : Jvm.MethodName) prog_1_method_1_code (3 : Nat) (Option.some Jvm.ClassFile.FieldType.boolean)) ∈ lw_all := lw_g (lw_at lw_m3 12 rfl) rfl
theorem q545 : (Jvm.Cond.methodLink "ToneGraph" (329 : Nat) ({ cls := "ToneGraph", name := "ahead", desc := "(I)I" } : Jvm.MethodName)) ∈ lw_all := lw_g (lw_at lw_m3 13 rfl) rfl
theorem q546 : (Jvm.Cond.instanceMethod ({ cls := "ToneGraph", name := "ahead", desc := "(I)I" } : Jvm.MethodName)) ∈ lw_all := lw_g (lw_at lw_m3 14 rfl) rfl
theorem q547 : (Jvm.Cond.selects "ToneGraph" ({ cls := "ToneGraph", name := "ahead", desc := "(I)I" } : Jvm.MethodName) ({ cls := "ToneGraph", name := "ahead", desc := "(I)I" } : Jvm.MethodName)) ∈ lw_all := lw_g (lw_at lw_m3 15 rfl) rfl
theorem q548 : (Jvm.Cond.code ({ cls := "ToneGraph", name := "ahead", desc := "(I)I" } : Jvm.MethodName) prog_1_method_50_code (3 : Nat) (Option.some Jvm.ClassFile.FieldType.int)) ∈ lw_all := lw_g (lw_at lw_m3 16 rfl) rfl
theorem q549 : (Jvm.Cond.methodLink "ToneGraph" (125 : Nat) ({ cls := "ToneGraph", name := "checkArgument", desc := "(Z)V" } : Jvm.MethodName)) ∈ lw_all := lw_g (lw_at lw_m3 17 rfl) rfl
theorem q550 : (Jvm.Cond.static ({ cls := "ToneGraph", name := "checkArgument", desc := "(Z)V" } : Jvm.MethodName)) ∈ lw_all := lw_g (lw_at lw_m3 18 rfl) rfl
theorem q551 : (Jvm.Cond.code ({ cls := "ToneGraph", name := "checkArgument", desc := "(Z)V" } : Jvm.MethodName) prog_1_method_5_code (1 : Nat) (Option.none : Option Jvm.ClassFile.FieldType)) ∈ lw_all := lw_g (lw_at lw_m3 19 rfl) rfl
theorem q552 : (Jvm.Cond.classLink "ToneGraph" (64 : Nat) "java/lang/IllegalArgumentException") ∈ lw_all := lw_g (lw_at lw_m3 20 rfl) rfl
theorem q597 : (Jvm.Cond.methodLink "ToneGraph" (66 : Nat) ({ cls := "java/lang/IllegalArgumentException", name := "<init>", desc := "()V" } : Jvm.MethodName)) ∈ lw_all := lw_g (lw_at lw_m3 65 rfl) rfl
theorem q620 : (Jvm.Cond.methodLink "ToneGraph" (317 : Nat) ({ cls := "ToneGraph", name := "keep", desc := "()V" } : Jvm.MethodName)) ∈ lw_all := lw_g (lw_at lw_m3 88 rfl) rfl
theorem q621 : (Jvm.Cond.privateMethod ({ cls := "ToneGraph", name := "keep", desc := "()V" } : Jvm.MethodName)) ∈ lw_tbl := lw_at lw_m3 89 rfl
theorem q622 : (Jvm.Cond.instanceMethod ({ cls := "ToneGraph", name := "keep", desc := "()V" } : Jvm.MethodName)) ∈ lw_all := lw_g (lw_at lw_m3 90 rfl) rfl
theorem q623 : (Jvm.Cond.code ({ cls := "ToneGraph", name := "keep", desc := "()V" } : Jvm.MethodName) prog_1_method_48_code (2 : Nat) (Option.none : Option Jvm.ClassFile.FieldType)) ∈ lw_all := lw_g (lw_at lw_m3 91 rfl) rfl
theorem q624 : (Jvm.Cond.methodLink "ToneGraph" (311 : Nat) ({ cls := "ToneGraph$Node", name := "keep", desc := "()V" } : Jvm.MethodName)) ∈ lw_all := lw_g (lw_at lw_m3 92 rfl) rfl
theorem q641 : (Jvm.Cond.methodLink "ToneGraph" (318 : Nat) ({ cls := "ToneGraph", name := "takeBack", desc := "()V" } : Jvm.MethodName)) ∈ lw_all := lw_g (lw_at lw_m3 109 rfl) rfl
theorem q642 : (Jvm.Cond.privateMethod ({ cls := "ToneGraph", name := "takeBack", desc := "()V" } : Jvm.MethodName)) ∈ lw_tbl := lw_at lw_m3 110 rfl
theorem q643 : (Jvm.Cond.instanceMethod ({ cls := "ToneGraph", name := "takeBack", desc := "()V" } : Jvm.MethodName)) ∈ lw_all := lw_g (lw_at lw_m3 111 rfl) rfl
theorem q644 : (Jvm.Cond.code ({ cls := "ToneGraph", name := "takeBack", desc := "()V" } : Jvm.MethodName) prog_1_method_49_code (2 : Nat) (Option.none : Option Jvm.ClassFile.FieldType)) ∈ lw_all := lw_g (lw_at lw_m3 112 rfl) rfl
theorem q645 : (Jvm.Cond.methodLink "ToneGraph" (314 : Nat) ({ cls := "ToneGraph$Node", name := "takeBack", desc := "()V" } : Jvm.MethodName)) ∈ lw_all := lw_g (lw_at lw_m3 113 rfl) rfl
theorem q661 : (Jvm.Cond.methodLink "ToneGraph" (332 : Nat) ({ cls := "ToneGraph", name := "aheadByBlocks", desc := "(II)I" } : Jvm.MethodName)) ∈ lw_all := lw_g (lw_at lw_m3 129 rfl) rfl
theorem q662 : (Jvm.Cond.instanceMethod ({ cls := "ToneGraph", name := "aheadByBlocks", desc := "(II)I" } : Jvm.MethodName)) ∈ lw_all := lw_g (lw_at lw_m3 130 rfl) rfl
theorem q663 : (Jvm.Cond.selects "ToneGraph" ({ cls := "ToneGraph", name := "aheadByBlocks", desc := "(II)I" } : Jvm.MethodName) ({ cls := "ToneGraph", name := "aheadByBlocks", desc := "(II)I" } : Jvm.MethodName)) ∈ lw_all := lw_g (lw_at lw_m3 131 rfl) rfl
theorem q664 : (Jvm.Cond.code ({ cls := "ToneGraph", name := "aheadByBlocks", desc := "(II)I" } : Jvm.MethodName) prog_1_method_51_code (6 : Nat) (Option.some Jvm.ClassFile.FieldType.int)) ∈ lw_all := lw_g (lw_at lw_m3 132 rfl) rfl
theorem q665 : (Jvm.Cond.methodLink "ToneGraph" (297 : Nat) ({ cls := "ToneGraph", name := "longestBlock", desc := "()I" } : Jvm.MethodName)) ∈ lw_all := lw_g (lw_at lw_m3 133 rfl) rfl
theorem q666 : (Jvm.Cond.methodLink "ToneGraph" (300 : Nat) ({ cls := "ToneGraph", name := "fill", desc := "(I)V" } : Jvm.MethodName)) ∈ lw_all := lw_g (lw_at lw_m3 134 rfl) rfl
theorem q667 : (Jvm.Cond.privateMethod ({ cls := "ToneGraph", name := "fill", desc := "(I)V" } : Jvm.MethodName)) ∈ lw_tbl := lw_at lw_m3 135 rfl
theorem q668 : (Jvm.Cond.instanceMethod ({ cls := "ToneGraph", name := "fill", desc := "(I)V" } : Jvm.MethodName)) ∈ lw_all := lw_g (lw_at lw_m3 136 rfl) rfl
theorem q669 : (Jvm.Cond.code ({ cls := "ToneGraph", name := "fill", desc := "(I)V" } : Jvm.MethodName) prog_1_method_44_code (3 : Nat) (Option.none : Option Jvm.ClassFile.FieldType)) ∈ lw_all := lw_g (lw_at lw_m3 137 rfl) rfl
theorem q670 : (Jvm.Cond.methodLink "ToneGraph" (276 : Nat) ({ cls := "ToneGraph$Node", name := "fill", desc := "(I)V" } : Jvm.MethodName)) ∈ lw_all := lw_g (lw_at lw_m3 138 rfl) rfl
theorem q704 : (Jvm.Cond.methodLink "ToneGraph" (279 : Nat) ({ cls := "ToneGraph$Node", name := "takeIn", desc := "(I)V" } : Jvm.MethodName)) ∈ lw_all := lw_g (lw_at lw_m3 172 rfl) rfl
theorem q725 : (Jvm.Cond.instanceMethod ({ cls := "ToneGraph", name := "addGain", desc := "(I)I" } : Jvm.MethodName)) ∈ lw_all := lw_g (lw_at lw_m3 193 rfl) rfl
theorem q726 : (Jvm.Cond.selects "ToneGraph" ({ cls := "ToneGraph", name := "addGain", desc := "(I)I" } : Jvm.MethodName) ({ cls := "ToneGraph", name := "addGain", desc := "(I)I" } : Jvm.MethodName)) ∈ lw_all := lw_g (lw_at lw_m3 194 rfl) rfl
theorem q727 : (Jvm.Cond.code ({ cls := "ToneGraph", name := "addGain", desc := "(I)I" } : Jvm.MethodName) prog_1_method_13_code (2 : Nat) (Option.some Jvm.ClassFile.FieldType.int)) ∈ lw_all := lw_g (lw_at lw_m3 195 rfl) rfl
theorem q728 : (Jvm.Cond.methodLink "ToneGraph" (128 : Nat) ({ cls := "ToneGraph", name := "checkRoom", desc := "()V" } : Jvm.MethodName)) ∈ lw_all := lw_g (lw_at lw_m3 196 rfl) rfl
theorem q729 : (Jvm.Cond.privateMethod ({ cls := "ToneGraph", name := "checkRoom", desc := "()V" } : Jvm.MethodName)) ∈ lw_tbl := lw_at lw_m3 197 rfl
theorem q730 : (Jvm.Cond.instanceMethod ({ cls := "ToneGraph", name := "checkRoom", desc := "()V" } : Jvm.MethodName)) ∈ lw_all := lw_g (lw_at lw_m3 198 rfl) rfl
theorem q731 : (Jvm.Cond.code ({ cls := "ToneGraph", name := "checkRoom", desc := "()V" } : Jvm.MethodName) prog_1_method_12_code (1 : Nat) (Option.none : Option Jvm.ClassFile.FieldType)) ∈ lw_all := lw_g (lw_at lw_m3 199 rfl) rfl
theorem q732 : (Jvm.Cond.methodLink "ToneGraph" (121 : Nat) ({ cls := "ToneGraph", name := "checkState", desc := "(Z)V" } : Jvm.MethodName)) ∈ lw_all := lw_g (lw_at lw_m3 200 rfl) rfl
theorem q733 : (Jvm.Cond.static ({ cls := "ToneGraph", name := "checkState", desc := "(Z)V" } : Jvm.MethodName)) ∈ lw_all := lw_g (lw_at lw_m3 201 rfl) rfl
theorem q734 : (Jvm.Cond.code ({ cls := "ToneGraph", name := "checkState", desc := "(Z)V" } : Jvm.MethodName) prog_1_method_6_code (1 : Nat) (Option.none : Option Jvm.ClassFile.FieldType)) ∈ lw_all := lw_g (lw_at lw_m3 202 rfl) rfl
theorem q735 : (Jvm.Cond.classLink "ToneGraph" (67 : Nat) "java/lang/IllegalStateException") ∈ lw_all := lw_g (lw_at lw_m3 203 rfl) rfl
theorem q744 : (Jvm.Cond.methodLink "ToneGraph" (69 : Nat) ({ cls := "java/lang/IllegalStateException", name := "<init>", desc := "()V" } : Jvm.MethodName)) ∈ lw_all := lw_g (lw_at lw_m3 212 rfl) rfl
theorem q750 : (Jvm.Cond.classLink "ToneGraph" (131 : Nat) "ToneGraph$Gain") ∈ lw_all := lw_g (lw_at lw_m3 218 rfl) rfl
theorem q752 : (Jvm.Cond.methodLink "ToneGraph" (133 : Nat) ({ cls := "ToneGraph$Gain", name := "<init>", desc := "(II)V" } : Jvm.MethodName)) ∈ lw_all := lw_g (lw_at lw_m3 220 rfl) rfl
theorem q757 : (Jvm.Cond.fieldLinkNest "ToneGraph" (179 : Nat) "ToneGraph$Gain" "percent" "I" "ToneGraph") ∈ lw_tbl := lw_at lw_m3 225 rfl
theorem q770 : (Jvm.Cond.methodLink "ToneGraph" (136 : Nat) ({ cls := "ToneGraph", name := "added", desc := "(LToneGraph$Node;)I" } : Jvm.MethodName)) ∈ lw_all := lw_g (lw_at lw_m3 238 rfl) rfl
theorem q771 : (Jvm.Cond.privateMethod ({ cls := "ToneGraph", name := "added", desc := "(LToneGraph$Node;)I" } : Jvm.MethodName)) ∈ lw_tbl := lw_at lw_m3 239 rfl
theorem q772 : (Jvm.Cond.instanceMethod ({ cls := "ToneGraph", name := "added", desc := "(LToneGraph$Node;)I" } : Jvm.MethodName)) ∈ lw_all := lw_g (lw_at lw_m4 0 rfl) rfl
theorem q773 : (Jvm.Cond.code ({ cls := "ToneGraph", name := "added", desc := "(LToneGraph$Node;)I" } : Jvm.MethodName) prog_1_method_11_code (2 : Nat) (Option.some Jvm.ClassFile.FieldType.int)) ∈ lw_all := lw_g (lw_at lw_m4 1 rfl) rfl
theorem q774 : (Jvm.Cond.methodLink "ToneGraph" (114 : Nat) ({ cls := "ToneGraph", name := "sort", desc := "()V" } : Jvm.MethodName)) ∈ lw_all := lw_g (lw_at lw_m4 2 rfl) rfl
theorem q775 : (Jvm.Cond.privateMethod ({ cls := "ToneGraph", name := "sort", desc := "()V" } : Jvm.MethodName)) ∈ lw_tbl := lw_at lw_m4 3 rfl
theorem q776 : (Jvm.Cond.instanceMethod ({ cls := "ToneGraph", name := "sort", desc := "()V" } : Jvm.MethodName)) ∈ lw_all := lw_g (lw_at lw_m4 4 rfl) rfl
theorem q777 : (Jvm.Cond.code ({ cls := "ToneGraph", name := "sort", desc := "()V" } : Jvm.MethodName) prog_1_method_10_code (2 : Nat) (Option.none : Option Jvm.ClassFile.FieldType)) ∈ lw_all := lw_g (lw_at lw_m4 5 rfl) rfl
theorem q778 : (Jvm.Cond.methodLink "ToneGraph" (107 : Nat) ({ cls := "java/util/ArrayList", name := "clear", desc := "()V" } : Jvm.MethodName)) ∈ lw_all := lw_g (lw_at lw_m4 6 rfl) rfl
theorem q782 : (Jvm.Cond.methodLink "ToneGraph" (110 : Nat) ({ cls := "ToneGraph", name := "isReady", desc := "(LToneGraph$Node;)Z" } : Jvm.MethodName)) ∈ lw_all := lw_g (lw_at lw_m4 10 rfl) rfl
theorem q783 : (Jvm.Cond.static ({ cls := "ToneGraph", name := "isReady", desc := "(LToneGraph$Node;)Z" } : Jvm.MethodName)) ∈ lw_all := lw_g (lw_at lw_m4 11 rfl) rfl
theorem q784 : (Jvm.Cond.code ({ cls := "ToneGraph", name := "isReady", desc := "(LToneGraph$Node;)Z" } : Jvm.MethodName) prog_1_method_9_code (2 : Nat) (Option.some Jvm.ClassFile.FieldType.boolean)) ∈ lw_all := lw_g (lw_at lw_m4 12 rfl) rfl
theorem q789 : (Jvm.Cond.instanceMethod ({ cls := "ToneGraph", name := "addDelay", desc := "(II)I" } : Jvm.MethodName)) ∈ lw_all := lw_g (lw_at lw_m4 17 rfl) rfl
theorem q790 : (Jvm.Cond.selects "ToneGraph" ({ cls := "ToneGraph", name := "addDelay", desc := "(II)I" } : Jvm.MethodName) ({ cls := "ToneGraph", name := "addDelay", desc := "(II)I" } : Jvm.MethodName)) ∈ lw_all := lw_g (lw_at lw_m4 18 rfl) rfl
theorem q791 : (Jvm.Cond.code ({ cls := "ToneGraph", name := "addDelay", desc := "(II)I" } : Jvm.MethodName) prog_1_method_14_code (3 : Nat) (Option.some Jvm.ClassFile.FieldType.int)) ∈ lw_all := lw_g (lw_at lw_m4 19 rfl) rfl
theorem q792 : (Jvm.Cond.methodLink "ToneGraph" (142 : Nat) ({ cls := "ToneGraph$Delay", name := "<init>", desc := "(III)V" } : Jvm.MethodName)) ∈ lw_all := lw_g (lw_at lw_m4 20 rfl) rfl
theorem q797 : (Jvm.Cond.fieldLinkNest "ToneGraph" (187 : Nat) "ToneGraph$Delay" "length" "I" "ToneGraph") ∈ lw_tbl := lw_at lw_m4 25 rfl
theorem q817 : (Jvm.Cond.instanceMethod ({ cls := "ToneGraph", name := "addFilter", desc := "(III)I" } : Jvm.MethodName)) ∈ lw_all := lw_g (lw_at lw_m4 45 rfl) rfl
theorem q818 : (Jvm.Cond.selects "ToneGraph" ({ cls := "ToneGraph", name := "addFilter", desc := "(III)I" } : Jvm.MethodName) ({ cls := "ToneGraph", name := "addFilter", desc := "(III)I" } : Jvm.MethodName)) ∈ lw_all := lw_g (lw_at lw_m4 46 rfl) rfl
theorem q819 : (Jvm.Cond.code ({ cls := "ToneGraph", name := "addFilter", desc := "(III)I" } : Jvm.MethodName) prog_1_method_15_code (4 : Nat) (Option.some Jvm.ClassFile.FieldType.int)) ∈ lw_all := lw_g (lw_at lw_m4 47 rfl) rfl
theorem q820 : (Jvm.Cond.classLink "ToneGraph" (145 : Nat) "ToneGraph$Filter") ∈ lw_all := lw_g (lw_at lw_m4 48 rfl) rfl
theorem q822 : (Jvm.Cond.methodLink "ToneGraph" (147 : Nat) ({ cls := "ToneGraph$Filter", name := "<init>", desc := "(I[I)V" } : Jvm.MethodName)) ∈ lw_all := lw_g (lw_at lw_m4 50 rfl) rfl
theorem q843 : (Jvm.Cond.instanceMethod ({ cls := "ToneGraph", name := "addBus", desc := "(I)I" } : Jvm.MethodName)) ∈ lw_all := lw_g (lw_at lw_m4 71 rfl) rfl
theorem q844 : (Jvm.Cond.selects "ToneGraph" ({ cls := "ToneGraph", name := "addBus", desc := "(I)I" } : Jvm.MethodName) ({ cls := "ToneGraph", name := "addBus", desc := "(I)I" } : Jvm.MethodName)) ∈ lw_all := lw_g (lw_at lw_m4 72 rfl) rfl
theorem q845 : (Jvm.Cond.code ({ cls := "ToneGraph", name := "addBus", desc := "(I)I" } : Jvm.MethodName) prog_1_method_16_code (2 : Nat) (Option.some Jvm.ClassFile.FieldType.int)) ∈ lw_all := lw_g (lw_at lw_m4 73 rfl) rfl
theorem q846 : (Jvm.Cond.classLink "ToneGraph" (150 : Nat) "ToneGraph$Bus") ∈ lw_all := lw_g (lw_at lw_m4 74 rfl) rfl
theorem q848 : (Jvm.Cond.methodLink "ToneGraph" (152 : Nat) ({ cls := "ToneGraph$Bus", name := "<init>", desc := "(II)V" } : Jvm.MethodName)) ∈ lw_all := lw_g (lw_at lw_m4 76 rfl) rfl
theorem q903 : (Jvm.Cond.instanceMethod ({ cls := "ToneGraph", name := "connect", desc := "(III)I" } : Jvm.MethodName)) ∈ lw_all := lw_g (lw_at lw_m4 131 rfl) rfl
theorem q904 : (Jvm.Cond.selects "ToneGraph" ({ cls := "ToneGraph", name := "connect", desc := "(III)I" } : Jvm.MethodName) ({ cls := "ToneGraph", name := "connect", desc := "(III)I" } : Jvm.MethodName)) ∈ lw_all := lw_g (lw_at lw_m4 132 rfl) rfl
theorem q905 : (Jvm.Cond.code ({ cls := "ToneGraph", name := "connect", desc := "(III)I" } : Jvm.MethodName) prog_1_method_17_code (6 : Nat) (Option.some Jvm.ClassFile.FieldType.int)) ∈ lw_all := lw_g (lw_at lw_m4 133 rfl) rfl
theorem q906 : (Jvm.Cond.methodLink "ToneGraph" (153 : Nat) ({ cls := "ToneGraph", name := "node", desc := "(I)LToneGraph$Node;" } : Jvm.MethodName)) ∈ lw_all := lw_g (lw_at lw_m4 134 rfl) rfl
theorem q907 : (Jvm.Cond.privateMethod ({ cls := "ToneGraph", name := "node", desc := "(I)LToneGraph$Node;" } : Jvm.MethodName)) ∈ lw_tbl := lw_at lw_m4 135 rfl
theorem q908 : (Jvm.Cond.instanceMethod ({ cls := "ToneGraph", name := "node", desc := "(I)LToneGraph$Node;" } : Jvm.MethodName)) ∈ lw_all := lw_g (lw_at lw_m4 136 rfl) rfl
theorem q909 : (Jvm.Cond.code ({ cls := "ToneGraph", name := "node", desc := "(I)LToneGraph$Node;" } : Jvm.MethodName) prog_1_method_7_code (2 : Nat) (Option.some (Jvm.ClassFile.FieldType.object "ToneGraph$Node"))) ∈ lw_all := lw_g (lw_at lw_m4 137 rfl) rfl
theorem q910 : (Jvm.Cond.classLink "ToneGraph" (78 : Nat) "java/lang/IndexOutOfBoundsException") ∈ lw_all := lw_g (lw_at lw_m4 138 rfl) rfl
theorem q919 : (Jvm.Cond.methodLink "ToneGraph" (80 : Nat) ({ cls := "java/lang/IndexOutOfBoundsException", name := "<init>", desc := "()V" } : Jvm.MethodName)) ∈ lw_all := lw_g (lw_at lw_m4 147 rfl) rfl
theorem q925 : (Jvm.Cond.methodLink "ToneGraph" (157 : Nat) ({ cls := "ToneGraph$Node", name := "wireFrom", desc := "(LToneGraph$Node;)LToneGraph$Wire;" } : Jvm.MethodName)) ∈ lw_all := lw_g (lw_at lw_m4 153 rfl) rfl
theorem q934 : (Jvm.Cond.methodLink "ToneGraph" (161 : Nat) ({ cls := "ToneGraph$Node", name := "follows", desc := "(LToneGraph$Node;)Z" } : Jvm.MethodName)) ∈ lw_all := lw_g (lw_at lw_m4 162 rfl) rfl
theorem q945 : (Jvm.Cond.classLink "ToneGraph" (164 : Nat) "java/lang/UnsupportedOperationException") ∈ lw_all := lw_g (lw_at lw_m4 173 rfl) rfl
theorem q954 : (Jvm.Cond.methodLink "ToneGraph" (166 : Nat) ({ cls := "java/lang/UnsupportedOperationException", name := "<init>", desc := "()V" } : Jvm.MethodName)) ∈ lw_all := lw_g (lw_at lw_m4 182 rfl) rfl
theorem q961 : (Jvm.Cond.methodLink "ToneGraph" (167 : Nat) ({ cls := "ToneGraph$Wire", name := "<init>", desc := "(LToneGraph$Node;I)V" } : Jvm.MethodName)) ∈ lw_all := lw_g (lw_at lw_m4 189 rfl) rfl
theorem q967 : (Jvm.Cond.fieldLinkNest "ToneGraph" (100 : Nat) "ToneGraph$Wire" "from" "LToneGraph$Node;" "ToneGraph") ∈ lw_tbl := lw_at lw_m4 195 rfl
theorem q970 : (Jvm.Cond.fieldLinkNest "ToneGraph" (176 : Nat) "ToneGraph$Wire" "percent" "I" "ToneGraph") ∈ lw_tbl := lw_at lw_m4 198 rfl
theorem q981 : (Jvm.Cond.instanceMethod ({ cls := "ToneGraph", name := "disconnect", desc := "(II)I" } : Jvm.MethodName)) ∈ lw_all := lw_g (lw_at lw_m4 209 rfl) rfl
theorem q982 : (Jvm.Cond.selects "ToneGraph" ({ cls := "ToneGraph", name := "disconnect", desc := "(II)I" } : Jvm.MethodName) ({ cls := "ToneGraph", name := "disconnect", desc := "(II)I" } : Jvm.MethodName)) ∈ lw_all := lw_g (lw_at lw_m4 210 rfl) rfl
theorem q983 : (Jvm.Cond.code ({ cls := "ToneGraph", name := "disconnect", desc := "(II)I" } : Jvm.MethodName) prog_1_method_18_code (7 : Nat) (Option.some Jvm.ClassFile.FieldType.int)) ∈ lw_all := lw_g (lw_at lw_m4 211 rfl) rfl
theorem q984 : (Jvm.Cond.classLink "ToneGraph" (170 : Nat) "java/util/NoSuchElementException") ∈ lw_all := lw_g (lw_at lw_m4 212 rfl) rfl
theorem q993 : (Jvm.Cond.methodLink "ToneGraph" (172 : Nat) ({ cls := "java/util/NoSuchElementException", name := "<init>", desc := "()V" } : Jvm.MethodName)) ∈ lw_all := lw_g (lw_at lw_m4 221 rfl) rfl
theorem q999 : (Jvm.Cond.methodLink "ToneGraph" (173 : Nat) ({ cls := "java/util/ArrayList", name := "remove", desc := "(I)Ljava/lang/Object;" } : Jvm.MethodName)) ∈ lw_all := lw_g (lw_at lw_m4 227 rfl) rfl
theorem q1012 : (Jvm.Cond.instanceMethod ({ cls := "ToneGraph", name := "setGain", desc := "(II)I" } : Jvm.MethodName)) ∈ lw_all := lw_g (lw_at lw_m5 0 rfl) rfl
theorem q1013 : (Jvm.Cond.selects "ToneGraph" ({ cls := "ToneGraph", name := "setGain", desc := "(II)I" } : Jvm.MethodName) ({ cls := "ToneGraph", name := "setGain", desc := "(II)I" } : Jvm.MethodName)) ∈ lw_all := lw_g (lw_at lw_m5 1 rfl) rfl
theorem q1014 : (Jvm.Cond.code ({ cls := "ToneGraph", name := "setGain", desc := "(II)I" } : Jvm.MethodName) prog_1_method_19_code (6 : Nat) (Option.some Jvm.ClassFile.FieldType.int)) ∈ lw_all := lw_g (lw_at lw_m5 2 rfl) rfl
theorem q1019 : (Jvm.Cond.instanceMethod ({ cls := "ToneGraph", name := "setOutput", desc := "(I)I" } : Jvm.MethodName)) ∈ lw_all := lw_g (lw_at lw_m5 7 rfl) rfl
theorem q1020 : (Jvm.Cond.selects "ToneGraph" ({ cls := "ToneGraph", name := "setOutput", desc := "(I)I" } : Jvm.MethodName) ({ cls := "ToneGraph", name := "setOutput", desc := "(I)I" } : Jvm.MethodName)) ∈ lw_all := lw_g (lw_at lw_m5 8 rfl) rfl
theorem q1021 : (Jvm.Cond.code ({ cls := "ToneGraph", name := "setOutput", desc := "(I)I" } : Jvm.MethodName) prog_1_method_20_code (4 : Nat) (Option.some Jvm.ClassFile.FieldType.int)) ∈ lw_all := lw_g (lw_at lw_m5 9 rfl) rfl
theorem q1026 : (Jvm.Cond.instanceMethod ({ cls := "ToneGraph", name := "kindOf", desc := "(I)C" } : Jvm.MethodName)) ∈ lw_all := lw_g (lw_at lw_m5 14 rfl) rfl
theorem q1027 : (Jvm.Cond.selects "ToneGraph" ({ cls := "ToneGraph", name := "kindOf", desc := "(I)C" } : Jvm.MethodName) ({ cls := "ToneGraph", name := "kindOf", desc := "(I)C" } : Jvm.MethodName)) ∈ lw_all := lw_g (lw_at lw_m5 15 rfl) rfl
theorem q1028 : (Jvm.Cond.code ({ cls := "ToneGraph", name := "kindOf", desc := "(I)C" } : Jvm.MethodName) prog_1_method_22_code (2 : Nat) (Option.some Jvm.ClassFile.FieldType.char)) ∈ lw_all := lw_g (lw_at lw_m5 16 rfl) rfl
theorem q1033 : (Jvm.Cond.instanceMethod ({ cls := "ToneGraph", name := "wires", desc := "(I)I" } : Jvm.MethodName)) ∈ lw_all := lw_g (lw_at lw_m5 21 rfl) rfl
theorem q1034 : (Jvm.Cond.selects "ToneGraph" ({ cls := "ToneGraph", name := "wires", desc := "(I)I" } : Jvm.MethodName) ({ cls := "ToneGraph", name := "wires", desc := "(I)I" } : Jvm.MethodName)) ∈ lw_all := lw_g (lw_at lw_m5 22 rfl) rfl
theorem q1035 : (Jvm.Cond.code ({ cls := "ToneGraph", name := "wires", desc := "(I)I" } : Jvm.MethodName) prog_1_method_23_code (2 : Nat) (Option.some Jvm.ClassFile.FieldType.int)) ∈ lw_all := lw_g (lw_at lw_m5 23 rfl) rfl
theorem q1040 : (Jvm.Cond.instanceMethod ({ cls := "ToneGraph", name := "wireFrom", desc := "(II)I" } : Jvm.MethodName)) ∈ lw_all := lw_g (lw_at lw_m5 28 rfl) rfl
theorem q1041 : (Jvm.Cond.selects "ToneGraph" ({ cls := "ToneGraph", name := "wireFrom", desc := "(II)I" } : Jvm.MethodName) ({ cls := "ToneGraph", name := "wireFrom", desc := "(II)I" } : Jvm.MethodName)) ∈ lw_all := lw_g (lw_at lw_m5 29 rfl) rfl
theorem q1042 : (Jvm.Cond.code ({ cls := "ToneGraph", name := "wireFrom", desc := "(II)I" } : Jvm.MethodName) prog_1_method_25_code (3 : Nat) (Option.some Jvm.ClassFile.FieldType.int)) ∈ lw_all := lw_g (lw_at lw_m5 30 rfl) rfl
theorem q1043 : (Jvm.Cond.methodLink "ToneGraph" (183 : Nat) ({ cls := "ToneGraph", name := "wire", desc := "(II)LToneGraph$Wire;" } : Jvm.MethodName)) ∈ lw_all := lw_g (lw_at lw_m5 31 rfl) rfl
theorem q1044 : (Jvm.Cond.privateMethod ({ cls := "ToneGraph", name := "wire", desc := "(II)LToneGraph$Wire;" } : Jvm.MethodName)) ∈ lw_tbl := lw_at lw_m5 32 rfl
theorem q1045 : (Jvm.Cond.instanceMethod ({ cls := "ToneGraph", name := "wire", desc := "(II)LToneGraph$Wire;" } : Jvm.MethodName)) ∈ lw_all := lw_g (lw_at lw_m5 33 rfl) rfl
theorem q1046 : (Jvm.Cond.code ({ cls := "ToneGraph", name := "wire", desc := "(II)LToneGraph$Wire;" } : Jvm.MethodName) prog_1_method_24_code (4 : Nat) (Option.some (Jvm.ClassFile.FieldType.object "ToneGraph$Wire"))) ∈ lw_all := lw_g (lw_at lw_m5 34 rfl) rfl
theorem q1051 : (Jvm.Cond.instanceMethod ({ cls := "ToneGraph", name := "wirePercent", desc := "(II)I" } : Jvm.MethodName)) ∈ lw_all := lw_g (lw_at lw_m5 39 rfl) rfl
theorem q1052 : (Jvm.Cond.selects "ToneGraph" ({ cls := "ToneGraph", name := "wirePercent", desc := "(II)I" } : Jvm.MethodName) ({ cls := "ToneGraph", name := "wirePercent", desc := "(II)I" } : Jvm.MethodName)) ∈ lw_all := lw_g (lw_at lw_m5 40 rfl) rfl
theorem q1053 : (Jvm.Cond.code ({ cls := "ToneGraph", name := "wirePercent", desc := "(II)I" } : Jvm.MethodName) prog_1_method_26_code (3 : Nat) (Option.some Jvm.ClassFile.FieldType.int)) ∈ lw_all := lw_g (lw_at lw_m5 41 rfl) rfl
theorem q1058 : (Jvm.Cond.instanceMethod ({ cls := "ToneGraph", name := "nodeAt", desc := "(I)I" } : Jvm.MethodName)) ∈ lw_all := lw_g (lw_at lw_m5 46 rfl) rfl
theorem q1059 : (Jvm.Cond.selects "ToneGraph" ({ cls := "ToneGraph", name := "nodeAt", desc := "(I)I" } : Jvm.MethodName) ({ cls := "ToneGraph", name := "nodeAt", desc := "(I)I" } : Jvm.MethodName)) ∈ lw_all := lw_g (lw_at lw_m5 47 rfl) rfl
theorem q1060 : (Jvm.Cond.code ({ cls := "ToneGraph", name := "nodeAt", desc := "(I)I" } : Jvm.MethodName) prog_1_method_27_code (2 : Nat) (Option.some Jvm.ClassFile.FieldType.int)) ∈ lw_all := lw_g (lw_at lw_m5 48 rfl) rfl
theorem q1065 : (Jvm.Cond.instanceMethod ({ cls := "ToneGraph", name := "setWave", desc := "(C)C" } : Jvm.MethodName)) ∈ lw_all := lw_g (lw_at lw_m5 53 rfl) rfl
theorem q1066 : (Jvm.Cond.selects "ToneGraph" ({ cls := "ToneGraph", name := "setWave", desc := "(C)C" } : Jvm.MethodName) ({ cls := "ToneGraph", name := "setWave", desc := "(C)C" } : Jvm.MethodName)) ∈ lw_all := lw_g (lw_at lw_m5 54 rfl) rfl
theorem q1067 : (Jvm.Cond.code ({ cls := "ToneGraph", name := "setWave", desc := "(C)C" } : Jvm.MethodName) prog_1_method_29_code (3 : Nat) (Option.some Jvm.ClassFile.FieldType.char)) ∈ lw_all := lw_g (lw_at lw_m5 55 rfl) rfl
theorem q1072 : (Jvm.Cond.instanceMethod ({ cls := "ToneGraph", name := "setEnvelope", desc := "(IIII)I" } : Jvm.MethodName)) ∈ lw_all := lw_g (lw_at lw_m5 60 rfl) rfl
theorem q1073 : (Jvm.Cond.selects "ToneGraph" ({ cls := "ToneGraph", name := "setEnvelope", desc := "(IIII)I" } : Jvm.MethodName) ({ cls := "ToneGraph", name := "setEnvelope", desc := "(IIII)I" } : Jvm.MethodName)) ∈ lw_all := lw_g (lw_at lw_m5 61 rfl) rfl
theorem q1074 : (Jvm.Cond.code ({ cls := "ToneGraph", name := "setEnvelope", desc := "(IIII)I" } : Jvm.MethodName) prog_1_method_30_code (6 : Nat) (Option.some Jvm.ClassFile.FieldType.int)) ∈ lw_all := lw_g (lw_at lw_m5 62 rfl) rfl
theorem q1075 : (Jvm.Cond.methodLink "ToneGraph" (193 : Nat) ({ cls := "ToneGraph$Envelope", name := "<init>", desc := "(I)V" } : Jvm.MethodName)) ∈ lw_all := lw_g (lw_at lw_m5 63 rfl) rfl
theorem q1076 : (Jvm.Cond.methodLink "ToneGraph" (196 : Nat) ({ cls := "ToneGraph$Envelope", name := "<init>", desc := "(IIII)V" } : Jvm.MethodName)) ∈ lw_all := lw_g (lw_at lw_m5 64 rfl) rfl
theorem q1081 : (Jvm.Cond.instanceMethod ({ cls := "ToneGraph", name := "begin", desc := "(II)I" } : Jvm.MethodName)) ∈ lw_all := lw_g (lw_at lw_m5 69 rfl) rfl
theorem q1082 : (Jvm.Cond.selects "ToneGraph" ({ cls := "ToneGraph", name := "begin", desc := "(II)I" } : Jvm.MethodName) ({ cls := "ToneGraph", name := "begin", desc := "(II)I" } : Jvm.MethodName)) ∈ lw_all := lw_g (lw_at lw_m5 70 rfl) rfl
theorem q1083 : (Jvm.Cond.code ({ cls := "ToneGraph", name := "begin", desc := "(II)I" } : Jvm.MethodName) prog_1_method_33_code (4 : Nat) (Option.some Jvm.ClassFile.FieldType.int)) ∈ lw_all := lw_g (lw_at lw_m5 71 rfl) rfl
theorem q1084 : (Jvm.Cond.methodLink "ToneGraph" (225 : Nat) ({ cls := "ToneGraph", name := "voiceForNote", desc := "()LToneGraph$Voice;" } : Jvm.MethodName)) ∈ lw_all := lw_g (lw_at lw_m5 72 rfl) rfl
theorem q1085 : (Jvm.Cond.privateMethod ({ cls := "ToneGraph", name := "voiceForNote", desc := "()LToneGraph$Voice;" } : Jvm.MethodName)) ∈ lw_tbl := lw_at lw_m5 73 rfl
theorem q1086 : (Jvm.Cond.instanceMethod ({ cls := "ToneGraph", name := "voiceForNote", desc := "()LToneGraph$Voice;" } : Jvm.MethodName)) ∈ lw_all := lw_g (lw_at lw_m5 74 rfl) rfl
theorem q1087 : (Jvm.Cond.code ({ cls := "ToneGraph", name := "voiceForNote", desc := "()LToneGraph$Voice;" } : Jvm.MethodName) prog_1_method_32_code (2 : Nat) (Option.some (Jvm.ClassFile.FieldType.object "ToneGraph$Voice"))) ∈ lw_all := lw_g (lw_at lw_m5 75 rfl) rfl
theorem q1088 : (Jvm.Cond.static ({ cls := "ToneGraph", name := "lambda$voiceForNote$3", desc := "(LToneGraph$Voice;)Z" } : Jvm.MethodName)) ∈ lw_all := lw_g (lw_at lw_m5 76 rfl) rfl
theorem q1089 : (Jvm.Cond.code ({ cls := "ToneGraph", name := "lambda$voiceForNote$3", desc := "(LToneGraph$Voice;)Z" } : Jvm.MethodName) prog_1_method_64_code (1 : Nat) (Option.some Jvm.ClassFile.FieldType.boolean)) ∈ lw_all := lw_g (lw_at lw_m5 77 rfl) rfl
theorem q1090 : (Jvm.Cond.methodLink "ToneGraph" (220 : Nat) ({ cls := "ToneGraph", name := "first", desc := "(LToneGraph$Choice;)LToneGraph$Voice;" } : Jvm.MethodName)) ∈ lw_all := lw_g (lw_at lw_m5 78 rfl) rfl
theorem q1091 : (Jvm.Cond.privateMethod ({ cls := "ToneGraph", name := "first", desc := "(LToneGraph$Choice;)LToneGraph$Voice;" } : Jvm.MethodName)) ∈ lw_tbl := lw_at lw_m5 79 rfl
theorem q1092 : (Jvm.Cond.instanceMethod ({ cls := "ToneGraph", name := "first", desc := "(LToneGraph$Choice;)LToneGraph$Voice;" } : Jvm.MethodName)) ∈ lw_all := lw_g (lw_at lw_m5 80 rfl) rfl
theorem q1093 : (Jvm.Cond.code ({ cls := "ToneGraph", name := "first", desc := "(LToneGraph$Choice;)LToneGraph$Voice;" } : Jvm.MethodName) prog_1_method_31_code (5 : Nat) (Option.some (Jvm.ClassFile.FieldType.object "ToneGraph$Voice"))) ∈ lw_all := lw_g (lw_at lw_m5 81 rfl) rfl
theorem q1094 : (Jvm.Cond.interfaceEntry "ToneGraph" (199 : Nat)) ∈ lw_tbl := lw_at lw_m5 82 rfl
theorem q1095 : (Jvm.Cond.methodLink "ToneGraph" (199 : Nat) ({ cls := "ToneGraph$Choice", name := "means", desc := "(LToneGraph$Voice;)Z" } : Jvm.MethodName)) ∈ lw_all := lw_g (lw_at lw_m5 83 rfl) rfl
theorem q1098 : (Jvm.Cond.static ({ cls := "ToneGraph", name := "lambda$voiceForNote$4", desc := "(LToneGraph$Voice;)Z" } : Jvm.MethodName)) ∈ lw_all := lw_g (lw_at lw_m5 86 rfl) rfl
theorem q1099 : (Jvm.Cond.code ({ cls := "ToneGraph", name := "lambda$voiceForNote$4", desc := "(LToneGraph$Voice;)Z" } : Jvm.MethodName) prog_1_method_63_code (1 : Nat) (Option.some Jvm.ClassFile.FieldType.boolean)) ∈ lw_all := lw_g (lw_at lw_m5 87 rfl) rfl
theorem q1100 : (Jvm.Cond.methodLink "ToneGraph" (232 : Nat) ({ cls := "ToneGraph", name := "waveOf", desc := "(C)LToneGraph$Wave;" } : Jvm.MethodName)) ∈ lw_all := lw_g (lw_at lw_m5 88 rfl) rfl
theorem q1101 : (Jvm.Cond.static ({ cls := "ToneGraph", name := "waveOf", desc := "(C)LToneGraph$Wave;" } : Jvm.MethodName)) ∈ lw_all := lw_g (lw_at lw_m5 89 rfl) rfl
theorem q1102 : (Jvm.Cond.code ({ cls := "ToneGraph", name := "waveOf", desc := "(C)LToneGraph$Wave;" } : Jvm.MethodName) prog_1_method_3_code (1 : Nat) (Option.some (Jvm.ClassFile.FieldType.object "ToneGraph$Wave"))) ∈ lw_all := lw_g (lw_at lw_m5 90 rfl) rfl
theorem q1103 : (Jvm.Cond.static ({ cls := "ToneGraph", name := "lambda$waveOf$0", desc := "(I)I" } : Jvm.MethodName)) ∈ lw_all := lw_g (lw_at lw_m5 91 rfl) rfl
theorem q1104 : (Jvm.Cond.code ({ cls := "ToneGraph", name := "lambda$waveOf$0", desc := "(I)I" } : Jvm.MethodName) prog_1_method_67_code (1 : Nat) (Option.some Jvm.ClassFile.FieldType.int)) ∈ lw_all := lw_g (lw_at lw_m5 92 rfl) rfl
theorem q1105 : (Jvm.Cond.constant "ToneGraph" (335 : Nat) (32768 : Int32)) ∈ lw_all := lw_g (lw_at lw_m5 93 rfl) rfl
theorem q1106 : (Jvm.Cond.static ({ cls := "ToneGraph", name := "lambda$waveOf$1", desc := "(I)I" } : Jvm.MethodName)) ∈ lw_all := lw_g (lw_at lw_m5 94 rfl) rfl
theorem q1107 : (Jvm.Cond.code ({ cls := "ToneGraph", name := "lambda$waveOf$1", desc := "(I)I" } : Jvm.MethodName) prog_1_method_66_code (1 : Nat) (Option.some Jvm.ClassFile.FieldType.int)) ∈ lw_all := lw_g (lw_at lw_m5 95 rfl) rfl
theorem q1108 : (Jvm.Cond.constant "ToneGraph" (336 : Nat) (65535 : Int32)) ∈ lw_all := lw_g (lw_at lw_m5 96 rfl) rfl
theorem q1109 : (Jvm.Cond.static ({ cls := "ToneGraph", name := "lambda$waveOf$2", desc := "(I)I" } : Jvm.MethodName)) ∈ lw_all := lw_g (lw_at lw_m5 97 rfl) rfl
theorem q1110 : (Jvm.Cond.code ({ cls := "ToneGraph", name := "lambda$waveOf$2", desc := "(I)I" } : Jvm.MethodName) prog_1_method_65_code (1 : Nat) (Option.some Jvm.ClassFile.FieldType.int)) ∈ lw_all := lw_g (lw_at lw_m5 98 rfl) rfl
theorem q1111 : (Jvm.Cond.methodLink "ToneGraph" (236 : Nat) ({ cls := "ToneGraph$Voice", name := "begin", desc := "(IILToneGraph$Wave;LToneGraph$Envelope;J)V" } : Jvm.MethodName)) ∈ lw_all := lw_g (lw_at lw_m5 99 rfl) rfl
theorem q1119 : (Jvm.Cond.instanceMethod ({ cls := "ToneGraph", name := "end", desc := "(I)I" } : Jvm.MethodName)) ∈ lw_all := lw_g (lw_at lw_m5 107 rfl) rfl
theorem q1120 : (Jvm.Cond.selects "ToneGraph" ({ cls := "ToneGraph", name := "end", desc := "(I)I" } : Jvm.MethodName) ({ cls := "ToneGraph", name := "end", desc := "(I)I" } : Jvm.MethodName)) ∈ lw_all := lw_g (lw_at lw_m5 108 rfl) rfl
theorem q1121 : (Jvm.Cond.code ({ cls := "ToneGraph", name := "end", desc := "(I)I" } : Jvm.MethodName) prog_1_method_34_code (3 : Nat) (Option.some Jvm.ClassFile.FieldType.int)) ∈ lw_all := lw_g (lw_at lw_m5 109 rfl) rfl
theorem q1122 : (Jvm.Cond.static ({ cls := "ToneGraph", name := "lambda$end$5", desc := "(ILToneGraph$Voice;)Z" } : Jvm.MethodName)) ∈ lw_all := lw_g (lw_at lw_m5 110 rfl) rfl
theorem q1123 : (Jvm.Cond.code ({ cls := "ToneGraph", name := "lambda$end$5", desc := "(ILToneGraph$Voice;)Z" } : Jvm.MethodName) prog_1_method_62_code (2 : Nat) (Option.some Jvm.ClassFile.FieldType.boolean)) ∈ lw_all := lw_g (lw_at lw_m5 111 rfl) rfl
theorem q1128 : (Jvm.Cond.instanceMethod ({ cls := "ToneGraph", name := "stateOf", desc := "(I)C" } : Jvm.MethodName)) ∈ lw_all := lw_g (lw_at lw_m5 116 rfl) rfl
theorem q1129 : (Jvm.Cond.selects "ToneGraph" ({ cls := "ToneGraph", name := "stateOf", desc := "(I)C" } : Jvm.MethodName) ({ cls := "ToneGraph", name := "stateOf", desc := "(I)C" } : Jvm.MethodName)) ∈ lw_all := lw_g (lw_at lw_m5 117 rfl) rfl
theorem q1130 : (Jvm.Cond.code ({ cls := "ToneGraph", name := "stateOf", desc := "(I)C" } : Jvm.MethodName) prog_1_method_37_code (2 : Nat) (Option.some Jvm.ClassFile.FieldType.char)) ∈ lw_all := lw_g (lw_at lw_m5 118 rfl) rfl
theorem q1131 : (Jvm.Cond.methodLink "ToneGraph" (251 : Nat) ({ cls := "ToneGraph", name := "voice", desc := "(I)LToneGraph$Voice;" } : Jvm.MethodName)) ∈ lw_all := lw_g (lw_at lw_m5 119 rfl) rfl
theorem q1132 : (Jvm.Cond.privateMethod ({ cls := "ToneGraph", name := "voice", desc := "(I)LToneGraph$Voice;" } : Jvm.MethodName)) ∈ lw_tbl := lw_at lw_m5 120 rfl
theorem q1133 : (Jvm.Cond.instanceMethod ({ cls := "ToneGraph", name := "voice", desc := "(I)LToneGraph$Voice;" } : Jvm.MethodName)) ∈ lw_all := lw_g (lw_at lw_m5 121 rfl) rfl
theorem q1134 : (Jvm.Cond.code ({ cls := "ToneGraph", name := "voice", desc := "(I)LToneGraph$Voice;" } : Jvm.MethodName) prog_1_method_8_code (2 : Nat) (Option.some (Jvm.ClassFile.FieldType.object "ToneGraph$Voice"))) ∈ lw_all := lw_g (lw_at lw_m5 122 rfl) rfl
theorem q1135 : (Jvm.Cond.methodLink "ToneGraph" (255 : Nat) ({ cls := "ToneGraph$Voice", name := "state", desc := "()C" } : Jvm.MethodName)) ∈ lw_all := lw_g (lw_at lw_m5 123 rfl) rfl
theorem q1140 : (Jvm.Cond.instanceMethod ({ cls := "ToneGraph", name := "keyOf", desc := "(I)I" } : Jvm.MethodName)) ∈ lw_all := lw_g (lw_at lw_m5 128 rfl) rfl
theorem q1141 : (Jvm.Cond.selects "ToneGraph" ({ cls := "ToneGraph", name := "keyOf", desc := "(I)I" } : Jvm.MethodName) ({ cls := "ToneGraph", name := "keyOf", desc := "(I)I" } : Jvm.MethodName)) ∈ lw_all := lw_g (lw_at lw_m5 129 rfl) rfl
theorem q1142 : (Jvm.Cond.code ({ cls := "ToneGraph", name := "keyOf", desc := "(I)I" } : Jvm.MethodName) prog_1_method_39_code (2 : Nat) (Option.some Jvm.ClassFile.FieldType.int)) ∈ lw_all := lw_g (lw_at lw_m5 130 rfl) rfl
theorem q1143 : (Jvm.Cond.methodLink "ToneGraph" (259 : Nat) ({ cls := "ToneGraph", name := "playing", desc := "(I)LToneGraph$Voice;" } : Jvm.MethodName)) ∈ lw_all := lw_g (lw_at lw_m5 131 rfl) rfl
theorem q1144 : (Jvm.Cond.privateMethod ({ cls := "ToneGraph", name := "playing", desc := "(I)LToneGraph$Voice;" } : Jvm.MethodName)) ∈ lw_tbl := lw_at lw_m5 132 rfl
theorem q1145 : (Jvm.Cond.instanceMethod ({ cls := "ToneGraph", name := "playing", desc := "(I)LToneGraph$Voice;" } : Jvm.MethodName)) ∈ lw_all := lw_g (lw_at lw_m5 133 rfl) rfl
theorem q1146 : (Jvm.Cond.code ({ cls := "ToneGraph", name := "playing", desc := "(I)LToneGraph$Voice;" } : Jvm.MethodName) prog_1_method_38_code (3 : Nat) (Option.some (Jvm.ClassFile.FieldType.object "ToneGraph$Voice"))) ∈ lw_all := lw_g (lw_at lw_m5 134 rfl) rfl
theorem q1151 : (Jvm.Cond.instanceMethod ({ cls := "ToneGraph", name := "levelOf", desc := "(I)I" } : Jvm.MethodName)) ∈ lw_all := lw_g (lw_at lw_m5 139 rfl) rfl
theorem q1152 : (Jvm.Cond.selects "ToneGraph" ({ cls := "ToneGraph", name := "levelOf", desc := "(I)I" } : Jvm.MethodName) ({ cls := "ToneGraph", name := "levelOf", desc := "(I)I" } : Jvm.MethodName)) ∈ lw_all := lw_g (lw_at lw_m5 140 rfl) rfl
theorem q1153 : (Jvm.Cond.code ({ cls := "ToneGraph", name := "levelOf", desc := "(I)I" } : Jvm.MethodName) prog_1_method_40_code (2 : Nat) (Option.some Jvm.ClassFile.FieldType.int)) ∈ lw_all := lw_g (lw_at lw_m5 141 rfl) rfl
theorem q1158 : (Jvm.Cond.instanceMethod ({ cls := "ToneGraph", name := "phaseOf", desc := "(I)I" } : Jvm.MethodName)) ∈ lw_all := lw_g (lw_at lw_m5 146 rfl) rfl
theorem q1159 : (Jvm.Cond.selects "ToneGraph" ({ cls := "ToneGraph", name := "phaseOf", desc := "(I)I" } : Jvm.MethodName) ({ cls := "ToneGraph", name := "phaseOf", desc := "(I)I" } : Jvm.MethodName)) ∈ lw_all := lw_g (lw_at lw_m5 147 rfl) rfl
theorem q1160 : (Jvm.Cond.code ({ cls := "ToneGraph", name := "phaseOf", desc := "(I)I" } : Jvm.MethodName) prog_1_method_41_code (2 : Nat) (Option.some Jvm.ClassFile.FieldType.int)) ∈ lw_all := lw_g (lw_at lw_m5 148 rfl) rfl
theorem q1165 : (Jvm.Cond.instanceMethod ({ cls := "ToneGraph", name := "play", desc := "(I)I" } : Jvm.MethodName)) ∈ lw_all := lw_g (lw_at lw_m5 153 rfl) rfl
theorem q1166 : (Jvm.Cond.selects "ToneGraph" ({ cls := "ToneGraph", name := "play", desc := "(I)I" } : Jvm.MethodName) ({ cls := "ToneGraph", name := "play", desc := "(I)I" } : Jvm.MethodName)) ∈ lw_all := lw_g (lw_at lw_m5 154 rfl) rfl
theorem q1167 : (Jvm.Cond.code ({ cls := "ToneGraph", name := "play", desc := "(I)I" } : Jvm.MethodName) prog_1_method_46_code (6 : Nat) (Option.some Jvm.ClassFile.FieldType.int)) ∈ lw_all := lw_g (lw_at lw_m5 155 rfl) rfl
theorem q1180 : (Jvm.Cond.instanceMethod ({ cls := "ToneGraph", name := "heard", desc := "(I)I" } : Jvm.MethodName)) ∈ lw_all := lw_g (lw_at lw_m5 168 rfl) rfl
theorem q1181 : (Jvm.Cond.selects "ToneGraph" ({ cls := "ToneGraph", name := "heard", desc := "(I)I" } : Jvm.MethodName) ({ cls := "ToneGraph", name := "heard", desc := "(I)I" } : Jvm.MethodName)) ∈ lw_all := lw_g (lw_at lw_m5 169 rfl) rfl
theorem q1182 : (Jvm.Cond.code ({ cls := "ToneGraph", name := "heard", desc := "(I)I" } : Jvm.MethodName) prog_1_method_52_code (2 : Nat) (Option.some Jvm.ClassFile.FieldType.int)) ∈ lw_all := lw_g (lw_at lw_m5 170 rfl) rfl
theorem q1187 : (Jvm.Cond.instanceMethod ({ cls := "ToneGraph", name := "outputOf", desc := "(I)I" } : Jvm.MethodName)) ∈ lw_all := lw_g (lw_at lw_m5 175 rfl) rfl
theorem q1188 : (Jvm.Cond.selects "ToneGraph" ({ cls := "ToneGraph", name := "outputOf", desc := "(I)I" } : Jvm.MethodName) ({ cls := "ToneGraph", name := "outputOf", desc := "(I)I" } : Jvm.MethodName)) ∈ lw_all := lw_g (lw_at lw_m5 176 rfl) rfl
theorem q1189 : (Jvm.Cond.code ({ cls := "ToneGraph", name := "outputOf", desc := "(I)I" } : Jvm.MethodName) prog_1_method_53_code (2 : Nat) (Option.some Jvm.ClassFile.FieldType.int)) ∈ lw_all := lw_g (lw_at lw_m5 177 rfl) rfl
theorem q1208 : (Jvm.Cond.instanceMethod ({ cls := "ToneGraph", name := "meanEnergy", desc := "()D" } : Jvm.MethodName)) ∈ lw_all := lw_g (lw_at lw_m5 196 rfl) rfl
theorem q1209 : (Jvm.Cond.selects "ToneGraph" ({ cls := "ToneGraph", name := "meanEnergy", desc := "()D" } : Jvm.MethodName) ({ cls := "ToneGraph", name := "meanEnergy", desc := "()D" } : Jvm.MethodName)) ∈ lw_all := lw_g (lw_at lw_m5 197 rfl) rfl
theorem q1210 : (Jvm.Cond.code ({ cls := "ToneGraph", name := "meanEnergy", desc := "()D" } : Jvm.MethodName) prog_1_method_58_code (1 : Nat) (Option.some Jvm.ClassFile.FieldType.double)) ∈ lw_all := lw_g (lw_at lw_m5 198 rfl) rfl
theorem q1211 : (Jvm.Cond.methodLink "ToneGraph" (322 : Nat) ({ cls := "ToneGraph", name := "checkAny", desc := "()V" } : Jvm.MethodName)) ∈ lw_all := lw_g (lw_at lw_m5 199 rfl) rfl
theorem q1212 : (Jvm.Cond.privateMethod ({ cls := "ToneGraph", name := "checkAny", desc := "()V" } : Jvm.MethodName)) ∈ lw_tbl := lw_at lw_m5 200 rfl
theorem q1213 : (Jvm.Cond.instanceMethod ({ cls := "ToneGraph", name := "checkAny", desc := "()V" } : Jvm.MethodName)) ∈ lw_all := lw_g (lw_at lw_m5 201 rfl) rfl
theorem q1214 : (Jvm.Cond.code ({ cls := "ToneGraph", name := "checkAny", desc := "()V" } : Jvm.MethodName) prog_1_method_57_code (1 : Nat) (Option.none : Option Jvm.ClassFile.FieldType)) ∈ lw_all := lw_g (lw_at lw_m5 202 rfl) rfl
theorem q1215 : (Jvm.Cond.classLink "ToneGraph" (319 : Nat) "java/lang/ArithmeticException") ∈ lw_all := lw_g (lw_at lw_m5 203 rfl) rfl
theorem q1216 : (Jvm.Cond.methodLink "ToneGraph" (321 : Nat) ({ cls := "java/lang/ArithmeticException", name := "<init>", desc := "()V" } : Jvm.MethodName)) ∈ lw_all := lw_g (lw_at lw_m5 204 rfl) rfl
theorem q1224 : (Jvm.Cond.instanceMethod ({ cls := "ToneGraph", name := "quietShare", desc := "()F" } : Jvm.MethodName)) ∈ lw_all := lw_g (lw_at lw_m5 212 rfl) rfl
theorem q1225 : (Jvm.Cond.selects "ToneGraph" ({ cls := "ToneGraph", name := "quietShare", desc := "()F" } : Jvm.MethodName) ({ cls := "ToneGraph", name := "quietShare", desc := "()F" } : Jvm.MethodName)) ∈ lw_all := lw_g (lw_at lw_m5 213 rfl) rfl
theorem q1226 : (Jvm.Cond.code ({ cls := "ToneGraph", name := "quietShare", desc := "()F" } : Jvm.MethodName) prog_1_method_59_code (1 : Nat) (Option.some Jvm.ClassFile.FieldType.float)) ∈ lw_all := lw_g (lw_at lw_m5 214 rfl) rfl
theorem q1619 : (Jvm.Cond.castable "ToneGraph" "java/lang/Object") ∈ lw_tbl := lw_at lw_m7 127 rfl
theorem in_X1 : ∀ w ∈ wsX10, w ∈ lw_all := lw_in wsX10 [329, 331, 333, 335, 337, 339, 341, 343, 345, 347, 349, 351, 353] (by decide +kernel) (by decide +kernel)

/-! ToneGraphLaw -/
set_option maxRecDepth 100000
def RX0 : String := "ToneGraphLaw"
abbrev cX0_addGain : ByteArray := method_3_code
def yX0_addGain : MethodName := ⟨RX0, "addGain", "(LToneGraph;I[J)I"⟩
def dkwX0_addGain_0 : List UInt8 := [44, 3, 42, 27, 182, 0, 7, 133, 80, 167, 0, 9, 78, 4, 172, 78, 5, 172, 3, 172]
abbrev dktX0_addGain_0 : List UInt8 := dkwX0_addGain_0 ++ []
theorem dksX0_addGain_0 : cX0_addGain.data.toList.drop 0 = dktX0_addGain_0 := by decide +kernel
theorem dX0_addGain_0 : decode cX0_addGain 0 = .ok (.aload_n 2, 1) := dk_44 (dk_at dksX0_addGain_0 0 rfl rfl)
theorem dX0_addGain_1 : decode cX0_addGain 1 = .ok (.iconst 0, 1) := dk_3 (dk_at dksX0_addGain_0 1 rfl rfl)
theorem dX0_addGain_2 : decode cX0_addGain 2 = .ok (.aload_n 0, 1) := dk_42 (dk_at dksX0_addGain_0 2 rfl rfl)
theorem dX0_addGain_3 : decode cX0_addGain 3 = .ok (.iload_n 1, 1) := dk_27 (dk_at dksX0_addGain_0 3 rfl rfl)
theorem dX0_addGain_4 : decode cX0_addGain 4 = .ok (.invokevirtual 7, 3) := dk_182 0 7 (dk_at dksX0_addGain_0 4 rfl rfl)
theorem dX0_addGain_7 : decode cX0_addGain 7 = .ok (.i2l, 1) := dk_133 (dk_at dksX0_addGain_0 7 rfl rfl)
theorem dX0_addGain_8 : decode cX0_addGain 8 = .ok (.lastore, 1) := dk_80 (dk_at dksX0_addGain_0 8 rfl rfl)
theorem dX0_addGain_9 : decode cX0_addGain 9 = .ok (.goto 9, 3) := dk_167 0 9 (dk_at dksX0_addGain_0 9 rfl rfl)
theorem dX0_addGain_12 : decode cX0_addGain 12 = .ok (.astore_n 3, 1) := dk_78 (dk_at dksX0_addGain_0 12 rfl rfl)
theorem dX0_addGain_13 : decode cX0_addGain 13 = .ok (.iconst 1, 1) := dk_4 (dk_at dksX0_addGain_0 13 rfl rfl)
theorem dX0_addGain_14 : decode cX0_addGain 14 = .ok (.ireturn, 1) := dk_172 (dk_at dksX0_addGain_0 14 rfl rfl)
theorem dX0_addGain_15 : decode cX0_addGain 15 = .ok (.astore_n 3, 1) := dk_78 (dk_at dksX0_addGain_0 15 rfl rfl)
theorem dX0_addGain_16 : decode cX0_addGain 16 = .ok (.iconst 2, 1) := dk_5 (dk_at dksX0_addGain_0 16 rfl rfl)
theorem dX0_addGain_17 : decode cX0_addGain 17 = .ok (.ireturn, 1) := dk_172 (dk_at dksX0_addGain_0 17 rfl rfl)
theorem dX0_addGain_18 : decode cX0_addGain 18 = .ok (.iconst 0, 1) := dk_3 (dk_at dksX0_addGain_0 18 rfl rfl)
theorem dX0_addGain_19 : decode cX0_addGain 19 = .ok (.ireturn, 1) := dk_172 (dk_at dksX0_addGain_0 19 rfl rfl)
abbrev cX0_addDelay : ByteArray := method_4_code
def yX0_addDelay : MethodName := ⟨RX0, "addDelay", "(LToneGraph;II[J)I"⟩
def dkwX0_addDelay_0 : List UInt8 := [45, 3, 42, 27, 28, 182, 0, 17, 133, 80, 167, 0, 11, 58, 4, 4, 172, 58, 4, 5, 172, 3, 172]
abbrev dktX0_addDelay_0 : List UInt8 := dkwX0_addDelay_0 ++ []
theorem dksX0_addDelay_0 : cX0_addDelay.data.toList.drop 0 = dktX0_addDelay_0 := by decide +kernel
theorem dX0_addDelay_0 : decode cX0_addDelay 0 = .ok (.aload_n 3, 1) := dk_45 (dk_at dksX0_addDelay_0 0 rfl rfl)
theorem dX0_addDelay_1 : decode cX0_addDelay 1 = .ok (.iconst 0, 1) := dk_3 (dk_at dksX0_addDelay_0 1 rfl rfl)
theorem dX0_addDelay_2 : decode cX0_addDelay 2 = .ok (.aload_n 0, 1) := dk_42 (dk_at dksX0_addDelay_0 2 rfl rfl)
theorem dX0_addDelay_3 : decode cX0_addDelay 3 = .ok (.iload_n 1, 1) := dk_27 (dk_at dksX0_addDelay_0 3 rfl rfl)
theorem dX0_addDelay_4 : decode cX0_addDelay 4 = .ok (.iload_n 2, 1) := dk_28 (dk_at dksX0_addDelay_0 4 rfl rfl)
theorem dX0_addDelay_5 : decode cX0_addDelay 5 = .ok (.invokevirtual 17, 3) := dk_182 0 17 (dk_at dksX0_addDelay_0 5 rfl rfl)
theorem dX0_addDelay_8 : decode cX0_addDelay 8 = .ok (.i2l, 1) := dk_133 (dk_at dksX0_addDelay_0 8 rfl rfl)
theorem dX0_addDelay_9 : decode cX0_addDelay 9 = .ok (.lastore, 1) := dk_80 (dk_at dksX0_addDelay_0 9 rfl rfl)
theorem dX0_addDelay_10 : decode cX0_addDelay 10 = .ok (.goto 11, 3) := dk_167 0 11 (dk_at dksX0_addDelay_0 10 rfl rfl)
theorem dX0_addDelay_13 : decode cX0_addDelay 13 = .ok (.astore 4, 2) := dk_58 4 (dk_at dksX0_addDelay_0 13 rfl rfl)
theorem dX0_addDelay_15 : decode cX0_addDelay 15 = .ok (.iconst 1, 1) := dk_4 (dk_at dksX0_addDelay_0 15 rfl rfl)
theorem dX0_addDelay_16 : decode cX0_addDelay 16 = .ok (.ireturn, 1) := dk_172 (dk_at dksX0_addDelay_0 16 rfl rfl)
theorem dX0_addDelay_17 : decode cX0_addDelay 17 = .ok (.astore 4, 2) := dk_58 4 (dk_at dksX0_addDelay_0 17 rfl rfl)
theorem dX0_addDelay_19 : decode cX0_addDelay 19 = .ok (.iconst 2, 1) := dk_5 (dk_at dksX0_addDelay_0 19 rfl rfl)
theorem dX0_addDelay_20 : decode cX0_addDelay 20 = .ok (.ireturn, 1) := dk_172 (dk_at dksX0_addDelay_0 20 rfl rfl)
theorem dX0_addDelay_21 : decode cX0_addDelay 21 = .ok (.iconst 0, 1) := dk_3 (dk_at dksX0_addDelay_0 21 rfl rfl)
theorem dX0_addDelay_22 : decode cX0_addDelay 22 = .ok (.ireturn, 1) := dk_172 (dk_at dksX0_addDelay_0 22 rfl rfl)
abbrev cX0_addFilter : ByteArray := method_5_code
def yX0_addFilter : MethodName := ⟨RX0, "addFilter", "(LToneGraph;III[J)I"⟩
def dkwX0_addFilter_1 : List UInt8 := [172]
abbrev dktX0_addFilter_1 : List UInt8 := dkwX0_addFilter_1 ++ []
def dkwX0_addFilter_0 : List UInt8 := [25, 4, 3, 42, 27, 28, 29, 182, 0, 21, 133, 80, 167, 0, 11, 58, 5, 4, 172, 58, 5, 5, 172, 3]
abbrev dktX0_addFilter_0 : List UInt8 := dkwX0_addFilter_0 ++ dktX0_addFilter_1
theorem dksX0_addFilter_0 : cX0_addFilter.data.toList.drop 0 = dktX0_addFilter_0 := by decide +kernel
theorem dksX0_addFilter_1 : cX0_addFilter.data.toList.drop 24 = dktX0_addFilter_1 := dk_seg dksX0_addFilter_0 24 rfl rfl
theorem dX0_addFilter_0 : decode cX0_addFilter 0 = .ok (.aload 4, 2) := dk_25 4 (dk_at dksX0_addFilter_0 0 rfl rfl)
theorem dX0_addFilter_2 : decode cX0_addFilter 2 = .ok (.iconst 0, 1) := dk_3 (dk_at dksX0_addFilter_0 2 rfl rfl)
theorem dX0_addFilter_3 : decode cX0_addFilter 3 = .ok (.aload_n 0, 1) := dk_42 (dk_at dksX0_addFilter_0 3 rfl rfl)
theorem dX0_addFilter_4 : decode cX0_addFilter 4 = .ok (.iload_n 1, 1) := dk_27 (dk_at dksX0_addFilter_0 4 rfl rfl)
theorem dX0_addFilter_5 : decode cX0_addFilter 5 = .ok (.iload_n 2, 1) := dk_28 (dk_at dksX0_addFilter_0 5 rfl rfl)
theorem dX0_addFilter_6 : decode cX0_addFilter 6 = .ok (.iload_n 3, 1) := dk_29 (dk_at dksX0_addFilter_0 6 rfl rfl)
theorem dX0_addFilter_7 : decode cX0_addFilter 7 = .ok (.invokevirtual 21, 3) := dk_182 0 21 (dk_at dksX0_addFilter_0 7 rfl rfl)
theorem dX0_addFilter_10 : decode cX0_addFilter 10 = .ok (.i2l, 1) := dk_133 (dk_at dksX0_addFilter_0 10 rfl rfl)
theorem dX0_addFilter_11 : decode cX0_addFilter 11 = .ok (.lastore, 1) := dk_80 (dk_at dksX0_addFilter_0 11 rfl rfl)
theorem dX0_addFilter_12 : decode cX0_addFilter 12 = .ok (.goto 11, 3) := dk_167 0 11 (dk_at dksX0_addFilter_0 12 rfl rfl)
theorem dX0_addFilter_15 : decode cX0_addFilter 15 = .ok (.astore 5, 2) := dk_58 5 (dk_at dksX0_addFilter_0 15 rfl rfl)
theorem dX0_addFilter_17 : decode cX0_addFilter 17 = .ok (.iconst 1, 1) := dk_4 (dk_at dksX0_addFilter_0 17 rfl rfl)
theorem dX0_addFilter_18 : decode cX0_addFilter 18 = .ok (.ireturn, 1) := dk_172 (dk_at dksX0_addFilter_0 18 rfl rfl)
theorem dX0_addFilter_19 : decode cX0_addFilter 19 = .ok (.astore 5, 2) := dk_58 5 (dk_at dksX0_addFilter_0 19 rfl rfl)
theorem dX0_addFilter_21 : decode cX0_addFilter 21 = .ok (.iconst 2, 1) := dk_5 (dk_at dksX0_addFilter_0 21 rfl rfl)
theorem dX0_addFilter_22 : decode cX0_addFilter 22 = .ok (.ireturn, 1) := dk_172 (dk_at dksX0_addFilter_0 22 rfl rfl)
theorem dX0_addFilter_23 : decode cX0_addFilter 23 = .ok (.iconst 0, 1) := dk_3 (dk_at dksX0_addFilter_0 23 rfl rfl)
theorem dX0_addFilter_24 : decode cX0_addFilter 24 = .ok (.ireturn, 1) := dk_172 (dk_at dksX0_addFilter_1 0 rfl rfl)
abbrev cX0_addBus : ByteArray := method_6_code
def yX0_addBus : MethodName := ⟨RX0, "addBus", "(LToneGraph;I[J)I"⟩
def dkwX0_addBus_0 : List UInt8 := [44, 3, 42, 27, 182, 0, 25, 133, 80, 167, 0, 9, 78, 4, 172, 78, 5, 172, 3, 172]
abbrev dktX0_addBus_0 : List UInt8 := dkwX0_addBus_0 ++ []
theorem dksX0_addBus_0 : cX0_addBus.data.toList.drop 0 = dktX0_addBus_0 := by decide +kernel
theorem dX0_addBus_0 : decode cX0_addBus 0 = .ok (.aload_n 2, 1) := dk_44 (dk_at dksX0_addBus_0 0 rfl rfl)
theorem dX0_addBus_1 : decode cX0_addBus 1 = .ok (.iconst 0, 1) := dk_3 (dk_at dksX0_addBus_0 1 rfl rfl)
theorem dX0_addBus_2 : decode cX0_addBus 2 = .ok (.aload_n 0, 1) := dk_42 (dk_at dksX0_addBus_0 2 rfl rfl)
theorem dX0_addBus_3 : decode cX0_addBus 3 = .ok (.iload_n 1, 1) := dk_27 (dk_at dksX0_addBus_0 3 rfl rfl)
theorem dX0_addBus_4 : decode cX0_addBus 4 = .ok (.invokevirtual 25, 3) := dk_182 0 25 (dk_at dksX0_addBus_0 4 rfl rfl)
theorem dX0_addBus_7 : decode cX0_addBus 7 = .ok (.i2l, 1) := dk_133 (dk_at dksX0_addBus_0 7 rfl rfl)
theorem dX0_addBus_8 : decode cX0_addBus 8 = .ok (.lastore, 1) := dk_80 (dk_at dksX0_addBus_0 8 rfl rfl)
theorem dX0_addBus_9 : decode cX0_addBus 9 = .ok (.goto 9, 3) := dk_167 0 9 (dk_at dksX0_addBus_0 9 rfl rfl)
theorem dX0_addBus_12 : decode cX0_addBus 12 = .ok (.astore_n 3, 1) := dk_78 (dk_at dksX0_addBus_0 12 rfl rfl)
theorem dX0_addBus_13 : decode cX0_addBus 13 = .ok (.iconst 1, 1) := dk_4 (dk_at dksX0_addBus_0 13 rfl rfl)
theorem dX0_addBus_14 : decode cX0_addBus 14 = .ok (.ireturn, 1) := dk_172 (dk_at dksX0_addBus_0 14 rfl rfl)
theorem dX0_addBus_15 : decode cX0_addBus 15 = .ok (.astore_n 3, 1) := dk_78 (dk_at dksX0_addBus_0 15 rfl rfl)
theorem dX0_addBus_16 : decode cX0_addBus 16 = .ok (.iconst 2, 1) := dk_5 (dk_at dksX0_addBus_0 16 rfl rfl)
theorem dX0_addBus_17 : decode cX0_addBus 17 = .ok (.ireturn, 1) := dk_172 (dk_at dksX0_addBus_0 17 rfl rfl)
theorem dX0_addBus_18 : decode cX0_addBus 18 = .ok (.iconst 0, 1) := dk_3 (dk_at dksX0_addBus_0 18 rfl rfl)
theorem dX0_addBus_19 : decode cX0_addBus 19 = .ok (.ireturn, 1) := dk_172 (dk_at dksX0_addBus_0 19 rfl rfl)
abbrev cX0_connect : ByteArray := method_7_code
def yX0_connect : MethodName := ⟨RX0, "connect", "(LToneGraph;III[J)I"⟩
def dkwX0_connect_1 : List UInt8 := [58, 5, 6, 172, 58, 5, 7, 172, 3, 172]
abbrev dktX0_connect_1 : List UInt8 := dkwX0_connect_1 ++ []
def dkwX0_connect_0 : List UInt8 := [25, 4, 3, 42, 27, 28, 29, 182, 0, 28, 133, 80, 167, 0, 19, 58, 5, 4, 172, 58, 5, 5, 172]
abbrev dktX0_connect_0 : List UInt8 := dkwX0_connect_0 ++ dktX0_connect_1
theorem dksX0_connect_0 : cX0_connect.data.toList.drop 0 = dktX0_connect_0 := by decide +kernel
theorem dksX0_connect_1 : cX0_connect.data.toList.drop 23 = dktX0_connect_1 := dk_seg dksX0_connect_0 23 rfl rfl
theorem dX0_connect_0 : decode cX0_connect 0 = .ok (.aload 4, 2) := dk_25 4 (dk_at dksX0_connect_0 0 rfl rfl)
theorem dX0_connect_2 : decode cX0_connect 2 = .ok (.iconst 0, 1) := dk_3 (dk_at dksX0_connect_0 2 rfl rfl)
theorem dX0_connect_3 : decode cX0_connect 3 = .ok (.aload_n 0, 1) := dk_42 (dk_at dksX0_connect_0 3 rfl rfl)
theorem dX0_connect_4 : decode cX0_connect 4 = .ok (.iload_n 1, 1) := dk_27 (dk_at dksX0_connect_0 4 rfl rfl)
theorem dX0_connect_5 : decode cX0_connect 5 = .ok (.iload_n 2, 1) := dk_28 (dk_at dksX0_connect_0 5 rfl rfl)
theorem dX0_connect_6 : decode cX0_connect 6 = .ok (.iload_n 3, 1) := dk_29 (dk_at dksX0_connect_0 6 rfl rfl)
theorem dX0_connect_7 : decode cX0_connect 7 = .ok (.invokevirtual 28, 3) := dk_182 0 28 (dk_at dksX0_connect_0 7 rfl rfl)
theorem dX0_connect_10 : decode cX0_connect 10 = .ok (.i2l, 1) := dk_133 (dk_at dksX0_connect_0 10 rfl rfl)
theorem dX0_connect_11 : decode cX0_connect 11 = .ok (.lastore, 1) := dk_80 (dk_at dksX0_connect_0 11 rfl rfl)
theorem dX0_connect_12 : decode cX0_connect 12 = .ok (.goto 19, 3) := dk_167 0 19 (dk_at dksX0_connect_0 12 rfl rfl)
theorem dX0_connect_15 : decode cX0_connect 15 = .ok (.astore 5, 2) := dk_58 5 (dk_at dksX0_connect_0 15 rfl rfl)
theorem dX0_connect_17 : decode cX0_connect 17 = .ok (.iconst 1, 1) := dk_4 (dk_at dksX0_connect_0 17 rfl rfl)
theorem dX0_connect_18 : decode cX0_connect 18 = .ok (.ireturn, 1) := dk_172 (dk_at dksX0_connect_0 18 rfl rfl)
theorem dX0_connect_19 : decode cX0_connect 19 = .ok (.astore 5, 2) := dk_58 5 (dk_at dksX0_connect_0 19 rfl rfl)
theorem dX0_connect_21 : decode cX0_connect 21 = .ok (.iconst 2, 1) := dk_5 (dk_at dksX0_connect_0 21 rfl rfl)
theorem dX0_connect_22 : decode cX0_connect 22 = .ok (.ireturn, 1) := dk_172 (dk_at dksX0_connect_0 22 rfl rfl)
theorem dX0_connect_23 : decode cX0_connect 23 = .ok (.astore 5, 2) := dk_58 5 (dk_at dksX0_connect_1 0 rfl rfl)
theorem dX0_connect_25 : decode cX0_connect 25 = .ok (.iconst 3, 1) := dk_6 (dk_at dksX0_connect_1 2 rfl rfl)
theorem dX0_connect_26 : decode cX0_connect 26 = .ok (.ireturn, 1) := dk_172 (dk_at dksX0_connect_1 3 rfl rfl)
theorem dX0_connect_27 : decode cX0_connect 27 = .ok (.astore 5, 2) := dk_58 5 (dk_at dksX0_connect_1 4 rfl rfl)
theorem dX0_connect_29 : decode cX0_connect 29 = .ok (.iconst 4, 1) := dk_7 (dk_at dksX0_connect_1 6 rfl rfl)
theorem dX0_connect_30 : decode cX0_connect 30 = .ok (.ireturn, 1) := dk_172 (dk_at dksX0_connect_1 7 rfl rfl)
theorem dX0_connect_31 : decode cX0_connect 31 = .ok (.iconst 0, 1) := dk_3 (dk_at dksX0_connect_1 8 rfl rfl)
theorem dX0_connect_32 : decode cX0_connect 32 = .ok (.ireturn, 1) := dk_172 (dk_at dksX0_connect_1 9 rfl rfl)
abbrev cX0_disconnect : ByteArray := method_8_code
def yX0_disconnect : MethodName := ⟨RX0, "disconnect", "(LToneGraph;II[J)I"⟩
def dkwX0_disconnect_0 : List UInt8 := [45, 3, 42, 27, 28, 182, 0, 35, 133, 80, 167, 0, 11, 58, 4, 4, 172, 58, 4, 5, 172, 3, 172]
abbrev dktX0_disconnect_0 : List UInt8 := dkwX0_disconnect_0 ++ []
theorem dksX0_disconnect_0 : cX0_disconnect.data.toList.drop 0 = dktX0_disconnect_0 := by decide +kernel
theorem dX0_disconnect_0 : decode cX0_disconnect 0 = .ok (.aload_n 3, 1) := dk_45 (dk_at dksX0_disconnect_0 0 rfl rfl)
theorem dX0_disconnect_1 : decode cX0_disconnect 1 = .ok (.iconst 0, 1) := dk_3 (dk_at dksX0_disconnect_0 1 rfl rfl)
theorem dX0_disconnect_2 : decode cX0_disconnect 2 = .ok (.aload_n 0, 1) := dk_42 (dk_at dksX0_disconnect_0 2 rfl rfl)
theorem dX0_disconnect_3 : decode cX0_disconnect 3 = .ok (.iload_n 1, 1) := dk_27 (dk_at dksX0_disconnect_0 3 rfl rfl)
theorem dX0_disconnect_4 : decode cX0_disconnect 4 = .ok (.iload_n 2, 1) := dk_28 (dk_at dksX0_disconnect_0 4 rfl rfl)
theorem dX0_disconnect_5 : decode cX0_disconnect 5 = .ok (.invokevirtual 35, 3) := dk_182 0 35 (dk_at dksX0_disconnect_0 5 rfl rfl)
theorem dX0_disconnect_8 : decode cX0_disconnect 8 = .ok (.i2l, 1) := dk_133 (dk_at dksX0_disconnect_0 8 rfl rfl)
theorem dX0_disconnect_9 : decode cX0_disconnect 9 = .ok (.lastore, 1) := dk_80 (dk_at dksX0_disconnect_0 9 rfl rfl)
theorem dX0_disconnect_10 : decode cX0_disconnect 10 = .ok (.goto 11, 3) := dk_167 0 11 (dk_at dksX0_disconnect_0 10 rfl rfl)
theorem dX0_disconnect_13 : decode cX0_disconnect 13 = .ok (.astore 4, 2) := dk_58 4 (dk_at dksX0_disconnect_0 13 rfl rfl)
theorem dX0_disconnect_15 : decode cX0_disconnect 15 = .ok (.iconst 1, 1) := dk_4 (dk_at dksX0_disconnect_0 15 rfl rfl)
theorem dX0_disconnect_16 : decode cX0_disconnect 16 = .ok (.ireturn, 1) := dk_172 (dk_at dksX0_disconnect_0 16 rfl rfl)
theorem dX0_disconnect_17 : decode cX0_disconnect 17 = .ok (.astore 4, 2) := dk_58 4 (dk_at dksX0_disconnect_0 17 rfl rfl)
theorem dX0_disconnect_19 : decode cX0_disconnect 19 = .ok (.iconst 2, 1) := dk_5 (dk_at dksX0_disconnect_0 19 rfl rfl)
theorem dX0_disconnect_20 : decode cX0_disconnect 20 = .ok (.ireturn, 1) := dk_172 (dk_at dksX0_disconnect_0 20 rfl rfl)
theorem dX0_disconnect_21 : decode cX0_disconnect 21 = .ok (.iconst 0, 1) := dk_3 (dk_at dksX0_disconnect_0 21 rfl rfl)
theorem dX0_disconnect_22 : decode cX0_disconnect 22 = .ok (.ireturn, 1) := dk_172 (dk_at dksX0_disconnect_0 22 rfl rfl)
abbrev cX0_setGain : ByteArray := method_9_code
def yX0_setGain : MethodName := ⟨RX0, "setGain", "(LToneGraph;II[J)I"⟩
def dkwX0_setGain_1 : List UInt8 := [172, 3, 172]
abbrev dktX0_setGain_1 : List UInt8 := dkwX0_setGain_1 ++ []
def dkwX0_setGain_0 : List UInt8 := [45, 3, 42, 27, 28, 182, 0, 40, 133, 80, 167, 0, 15, 58, 4, 4, 172, 58, 4, 5, 172, 58, 4, 6]
abbrev dktX0_setGain_0 : List UInt8 := dkwX0_setGain_0 ++ dktX0_setGain_1
theorem dksX0_setGain_0 : cX0_setGain.data.toList.drop 0 = dktX0_setGain_0 := by decide +kernel
theorem dksX0_setGain_1 : cX0_setGain.data.toList.drop 24 = dktX0_setGain_1 := dk_seg dksX0_setGain_0 24 rfl rfl
theorem dX0_setGain_0 : decode cX0_setGain 0 = .ok (.aload_n 3, 1) := dk_45 (dk_at dksX0_setGain_0 0 rfl rfl)
theorem dX0_setGain_1 : decode cX0_setGain 1 = .ok (.iconst 0, 1) := dk_3 (dk_at dksX0_setGain_0 1 rfl rfl)
theorem dX0_setGain_2 : decode cX0_setGain 2 = .ok (.aload_n 0, 1) := dk_42 (dk_at dksX0_setGain_0 2 rfl rfl)
theorem dX0_setGain_3 : decode cX0_setGain 3 = .ok (.iload_n 1, 1) := dk_27 (dk_at dksX0_setGain_0 3 rfl rfl)
theorem dX0_setGain_4 : decode cX0_setGain 4 = .ok (.iload_n 2, 1) := dk_28 (dk_at dksX0_setGain_0 4 rfl rfl)
theorem dX0_setGain_5 : decode cX0_setGain 5 = .ok (.invokevirtual 40, 3) := dk_182 0 40 (dk_at dksX0_setGain_0 5 rfl rfl)
theorem dX0_setGain_8 : decode cX0_setGain 8 = .ok (.i2l, 1) := dk_133 (dk_at dksX0_setGain_0 8 rfl rfl)
theorem dX0_setGain_9 : decode cX0_setGain 9 = .ok (.lastore, 1) := dk_80 (dk_at dksX0_setGain_0 9 rfl rfl)
theorem dX0_setGain_10 : decode cX0_setGain 10 = .ok (.goto 15, 3) := dk_167 0 15 (dk_at dksX0_setGain_0 10 rfl rfl)
theorem dX0_setGain_13 : decode cX0_setGain 13 = .ok (.astore 4, 2) := dk_58 4 (dk_at dksX0_setGain_0 13 rfl rfl)
theorem dX0_setGain_15 : decode cX0_setGain 15 = .ok (.iconst 1, 1) := dk_4 (dk_at dksX0_setGain_0 15 rfl rfl)
theorem dX0_setGain_16 : decode cX0_setGain 16 = .ok (.ireturn, 1) := dk_172 (dk_at dksX0_setGain_0 16 rfl rfl)
theorem dX0_setGain_17 : decode cX0_setGain 17 = .ok (.astore 4, 2) := dk_58 4 (dk_at dksX0_setGain_0 17 rfl rfl)
theorem dX0_setGain_19 : decode cX0_setGain 19 = .ok (.iconst 2, 1) := dk_5 (dk_at dksX0_setGain_0 19 rfl rfl)
theorem dX0_setGain_20 : decode cX0_setGain 20 = .ok (.ireturn, 1) := dk_172 (dk_at dksX0_setGain_0 20 rfl rfl)
theorem dX0_setGain_21 : decode cX0_setGain 21 = .ok (.astore 4, 2) := dk_58 4 (dk_at dksX0_setGain_0 21 rfl rfl)
theorem dX0_setGain_23 : decode cX0_setGain 23 = .ok (.iconst 3, 1) := dk_6 (dk_at dksX0_setGain_0 23 rfl rfl)
theorem dX0_setGain_24 : decode cX0_setGain 24 = .ok (.ireturn, 1) := dk_172 (dk_at dksX0_setGain_1 0 rfl rfl)
theorem dX0_setGain_25 : decode cX0_setGain 25 = .ok (.iconst 0, 1) := dk_3 (dk_at dksX0_setGain_1 1 rfl rfl)
theorem dX0_setGain_26 : decode cX0_setGain 26 = .ok (.ireturn, 1) := dk_172 (dk_at dksX0_setGain_1 2 rfl rfl)
abbrev cX0_setOutput : ByteArray := method_10_code
def yX0_setOutput : MethodName := ⟨RX0, "setOutput", "(LToneGraph;I[J)I"⟩
def dkwX0_setOutput_0 : List UInt8 := [44, 3, 42, 27, 182, 0, 43, 133, 80, 167, 0, 6, 78, 4, 172, 3, 172]
abbrev dktX0_setOutput_0 : List UInt8 := dkwX0_setOutput_0 ++ []
theorem dksX0_setOutput_0 : cX0_setOutput.data.toList.drop 0 = dktX0_setOutput_0 := by decide +kernel
theorem dX0_setOutput_0 : decode cX0_setOutput 0 = .ok (.aload_n 2, 1) := dk_44 (dk_at dksX0_setOutput_0 0 rfl rfl)
theorem dX0_setOutput_1 : decode cX0_setOutput 1 = .ok (.iconst 0, 1) := dk_3 (dk_at dksX0_setOutput_0 1 rfl rfl)
theorem dX0_setOutput_2 : decode cX0_setOutput 2 = .ok (.aload_n 0, 1) := dk_42 (dk_at dksX0_setOutput_0 2 rfl rfl)
theorem dX0_setOutput_3 : decode cX0_setOutput 3 = .ok (.iload_n 1, 1) := dk_27 (dk_at dksX0_setOutput_0 3 rfl rfl)
theorem dX0_setOutput_4 : decode cX0_setOutput 4 = .ok (.invokevirtual 43, 3) := dk_182 0 43 (dk_at dksX0_setOutput_0 4 rfl rfl)
theorem dX0_setOutput_7 : decode cX0_setOutput 7 = .ok (.i2l, 1) := dk_133 (dk_at dksX0_setOutput_0 7 rfl rfl)
theorem dX0_setOutput_8 : decode cX0_setOutput 8 = .ok (.lastore, 1) := dk_80 (dk_at dksX0_setOutput_0 8 rfl rfl)
theorem dX0_setOutput_9 : decode cX0_setOutput 9 = .ok (.goto 6, 3) := dk_167 0 6 (dk_at dksX0_setOutput_0 9 rfl rfl)
theorem dX0_setOutput_12 : decode cX0_setOutput 12 = .ok (.astore_n 3, 1) := dk_78 (dk_at dksX0_setOutput_0 12 rfl rfl)
theorem dX0_setOutput_13 : decode cX0_setOutput 13 = .ok (.iconst 1, 1) := dk_4 (dk_at dksX0_setOutput_0 13 rfl rfl)
theorem dX0_setOutput_14 : decode cX0_setOutput 14 = .ok (.ireturn, 1) := dk_172 (dk_at dksX0_setOutput_0 14 rfl rfl)
theorem dX0_setOutput_15 : decode cX0_setOutput 15 = .ok (.iconst 0, 1) := dk_3 (dk_at dksX0_setOutput_0 15 rfl rfl)
theorem dX0_setOutput_16 : decode cX0_setOutput 16 = .ok (.ireturn, 1) := dk_172 (dk_at dksX0_setOutput_0 16 rfl rfl)
abbrev cX0_kindOf : ByteArray := method_11_code
def yX0_kindOf : MethodName := ⟨RX0, "kindOf", "(LToneGraph;I[J)I"⟩
def dkwX0_kindOf_0 : List UInt8 := [44, 3, 42, 27, 182, 0, 46, 133, 80, 167, 0, 6, 78, 4, 172, 3, 172]
abbrev dktX0_kindOf_0 : List UInt8 := dkwX0_kindOf_0 ++ []
theorem dksX0_kindOf_0 : cX0_kindOf.data.toList.drop 0 = dktX0_kindOf_0 := by decide +kernel
theorem dX0_kindOf_0 : decode cX0_kindOf 0 = .ok (.aload_n 2, 1) := dk_44 (dk_at dksX0_kindOf_0 0 rfl rfl)
theorem dX0_kindOf_1 : decode cX0_kindOf 1 = .ok (.iconst 0, 1) := dk_3 (dk_at dksX0_kindOf_0 1 rfl rfl)
theorem dX0_kindOf_2 : decode cX0_kindOf 2 = .ok (.aload_n 0, 1) := dk_42 (dk_at dksX0_kindOf_0 2 rfl rfl)
theorem dX0_kindOf_3 : decode cX0_kindOf 3 = .ok (.iload_n 1, 1) := dk_27 (dk_at dksX0_kindOf_0 3 rfl rfl)
theorem dX0_kindOf_4 : decode cX0_kindOf 4 = .ok (.invokevirtual 46, 3) := dk_182 0 46 (dk_at dksX0_kindOf_0 4 rfl rfl)
theorem dX0_kindOf_7 : decode cX0_kindOf 7 = .ok (.i2l, 1) := dk_133 (dk_at dksX0_kindOf_0 7 rfl rfl)
theorem dX0_kindOf_8 : decode cX0_kindOf 8 = .ok (.lastore, 1) := dk_80 (dk_at dksX0_kindOf_0 8 rfl rfl)
theorem dX0_kindOf_9 : decode cX0_kindOf 9 = .ok (.goto 6, 3) := dk_167 0 6 (dk_at dksX0_kindOf_0 9 rfl rfl)
theorem dX0_kindOf_12 : decode cX0_kindOf 12 = .ok (.astore_n 3, 1) := dk_78 (dk_at dksX0_kindOf_0 12 rfl rfl)
theorem dX0_kindOf_13 : decode cX0_kindOf 13 = .ok (.iconst 1, 1) := dk_4 (dk_at dksX0_kindOf_0 13 rfl rfl)
theorem dX0_kindOf_14 : decode cX0_kindOf 14 = .ok (.ireturn, 1) := dk_172 (dk_at dksX0_kindOf_0 14 rfl rfl)
theorem dX0_kindOf_15 : decode cX0_kindOf 15 = .ok (.iconst 0, 1) := dk_3 (dk_at dksX0_kindOf_0 15 rfl rfl)
theorem dX0_kindOf_16 : decode cX0_kindOf 16 = .ok (.ireturn, 1) := dk_172 (dk_at dksX0_kindOf_0 16 rfl rfl)
abbrev cX0_wires : ByteArray := method_12_code
def yX0_wires : MethodName := ⟨RX0, "wires", "(LToneGraph;I[J)I"⟩
def dkwX0_wires_0 : List UInt8 := [44, 3, 42, 27, 182, 0, 50, 133, 80, 167, 0, 6, 78, 4, 172, 3, 172]
abbrev dktX0_wires_0 : List UInt8 := dkwX0_wires_0 ++ []
theorem dksX0_wires_0 : cX0_wires.data.toList.drop 0 = dktX0_wires_0 := by decide +kernel
theorem dX0_wires_0 : decode cX0_wires 0 = .ok (.aload_n 2, 1) := dk_44 (dk_at dksX0_wires_0 0 rfl rfl)
theorem dX0_wires_1 : decode cX0_wires 1 = .ok (.iconst 0, 1) := dk_3 (dk_at dksX0_wires_0 1 rfl rfl)
theorem dX0_wires_2 : decode cX0_wires 2 = .ok (.aload_n 0, 1) := dk_42 (dk_at dksX0_wires_0 2 rfl rfl)
theorem dX0_wires_3 : decode cX0_wires 3 = .ok (.iload_n 1, 1) := dk_27 (dk_at dksX0_wires_0 3 rfl rfl)
theorem dX0_wires_4 : decode cX0_wires 4 = .ok (.invokevirtual 50, 3) := dk_182 0 50 (dk_at dksX0_wires_0 4 rfl rfl)
theorem dX0_wires_7 : decode cX0_wires 7 = .ok (.i2l, 1) := dk_133 (dk_at dksX0_wires_0 7 rfl rfl)
theorem dX0_wires_8 : decode cX0_wires 8 = .ok (.lastore, 1) := dk_80 (dk_at dksX0_wires_0 8 rfl rfl)
theorem dX0_wires_9 : decode cX0_wires 9 = .ok (.goto 6, 3) := dk_167 0 6 (dk_at dksX0_wires_0 9 rfl rfl)
theorem dX0_wires_12 : decode cX0_wires 12 = .ok (.astore_n 3, 1) := dk_78 (dk_at dksX0_wires_0 12 rfl rfl)
theorem dX0_wires_13 : decode cX0_wires 13 = .ok (.iconst 1, 1) := dk_4 (dk_at dksX0_wires_0 13 rfl rfl)
theorem dX0_wires_14 : decode cX0_wires 14 = .ok (.ireturn, 1) := dk_172 (dk_at dksX0_wires_0 14 rfl rfl)
theorem dX0_wires_15 : decode cX0_wires 15 = .ok (.iconst 0, 1) := dk_3 (dk_at dksX0_wires_0 15 rfl rfl)
theorem dX0_wires_16 : decode cX0_wires 16 = .ok (.ireturn, 1) := dk_172 (dk_at dksX0_wires_0 16 rfl rfl)
abbrev cX0_wireFrom : ByteArray := method_13_code
def yX0_wireFrom : MethodName := ⟨RX0, "wireFrom", "(LToneGraph;II[J)I"⟩
def dkwX0_wireFrom_0 : List UInt8 := [45, 3, 42, 27, 28, 182, 0, 53, 133, 80, 167, 0, 11, 58, 4, 4, 172, 58, 4, 5, 172, 3, 172]
abbrev dktX0_wireFrom_0 : List UInt8 := dkwX0_wireFrom_0 ++ []
theorem dksX0_wireFrom_0 : cX0_wireFrom.data.toList.drop 0 = dktX0_wireFrom_0 := by decide +kernel
theorem dX0_wireFrom_0 : decode cX0_wireFrom 0 = .ok (.aload_n 3, 1) := dk_45 (dk_at dksX0_wireFrom_0 0 rfl rfl)
theorem dX0_wireFrom_1 : decode cX0_wireFrom 1 = .ok (.iconst 0, 1) := dk_3 (dk_at dksX0_wireFrom_0 1 rfl rfl)
theorem dX0_wireFrom_2 : decode cX0_wireFrom 2 = .ok (.aload_n 0, 1) := dk_42 (dk_at dksX0_wireFrom_0 2 rfl rfl)
theorem dX0_wireFrom_3 : decode cX0_wireFrom 3 = .ok (.iload_n 1, 1) := dk_27 (dk_at dksX0_wireFrom_0 3 rfl rfl)
theorem dX0_wireFrom_4 : decode cX0_wireFrom 4 = .ok (.iload_n 2, 1) := dk_28 (dk_at dksX0_wireFrom_0 4 rfl rfl)
theorem dX0_wireFrom_5 : decode cX0_wireFrom 5 = .ok (.invokevirtual 53, 3) := dk_182 0 53 (dk_at dksX0_wireFrom_0 5 rfl rfl)
theorem dX0_wireFrom_8 : decode cX0_wireFrom 8 = .ok (.i2l, 1) := dk_133 (dk_at dksX0_wireFrom_0 8 rfl rfl)
theorem dX0_wireFrom_9 : decode cX0_wireFrom 9 = .ok (.lastore, 1) := dk_80 (dk_at dksX0_wireFrom_0 9 rfl rfl)
theorem dX0_wireFrom_10 : decode cX0_wireFrom 10 = .ok (.goto 11, 3) := dk_167 0 11 (dk_at dksX0_wireFrom_0 10 rfl rfl)
theorem dX0_wireFrom_13 : decode cX0_wireFrom 13 = .ok (.astore 4, 2) := dk_58 4 (dk_at dksX0_wireFrom_0 13 rfl rfl)
theorem dX0_wireFrom_15 : decode cX0_wireFrom 15 = .ok (.iconst 1, 1) := dk_4 (dk_at dksX0_wireFrom_0 15 rfl rfl)
theorem dX0_wireFrom_16 : decode cX0_wireFrom 16 = .ok (.ireturn, 1) := dk_172 (dk_at dksX0_wireFrom_0 16 rfl rfl)
theorem dX0_wireFrom_17 : decode cX0_wireFrom 17 = .ok (.astore 4, 2) := dk_58 4 (dk_at dksX0_wireFrom_0 17 rfl rfl)
theorem dX0_wireFrom_19 : decode cX0_wireFrom 19 = .ok (.iconst 2, 1) := dk_5 (dk_at dksX0_wireFrom_0 19 rfl rfl)
theorem dX0_wireFrom_20 : decode cX0_wireFrom 20 = .ok (.ireturn, 1) := dk_172 (dk_at dksX0_wireFrom_0 20 rfl rfl)
theorem dX0_wireFrom_21 : decode cX0_wireFrom 21 = .ok (.iconst 0, 1) := dk_3 (dk_at dksX0_wireFrom_0 21 rfl rfl)
theorem dX0_wireFrom_22 : decode cX0_wireFrom 22 = .ok (.ireturn, 1) := dk_172 (dk_at dksX0_wireFrom_0 22 rfl rfl)
abbrev cX0_wirePercent : ByteArray := method_14_code
def yX0_wirePercent : MethodName := ⟨RX0, "wirePercent", "(LToneGraph;II[J)I"⟩
def dkwX0_wirePercent_0 : List UInt8 := [45, 3, 42, 27, 28, 182, 0, 56, 133, 80, 167, 0, 11, 58, 4, 4, 172, 58, 4, 5, 172, 3, 172]
abbrev dktX0_wirePercent_0 : List UInt8 := dkwX0_wirePercent_0 ++ []
theorem dksX0_wirePercent_0 : cX0_wirePercent.data.toList.drop 0 = dktX0_wirePercent_0 := by decide +kernel
theorem dX0_wirePercent_0 : decode cX0_wirePercent 0 = .ok (.aload_n 3, 1) := dk_45 (dk_at dksX0_wirePercent_0 0 rfl rfl)
theorem dX0_wirePercent_1 : decode cX0_wirePercent 1 = .ok (.iconst 0, 1) := dk_3 (dk_at dksX0_wirePercent_0 1 rfl rfl)
theorem dX0_wirePercent_2 : decode cX0_wirePercent 2 = .ok (.aload_n 0, 1) := dk_42 (dk_at dksX0_wirePercent_0 2 rfl rfl)
theorem dX0_wirePercent_3 : decode cX0_wirePercent 3 = .ok (.iload_n 1, 1) := dk_27 (dk_at dksX0_wirePercent_0 3 rfl rfl)
theorem dX0_wirePercent_4 : decode cX0_wirePercent 4 = .ok (.iload_n 2, 1) := dk_28 (dk_at dksX0_wirePercent_0 4 rfl rfl)
theorem dX0_wirePercent_5 : decode cX0_wirePercent 5 = .ok (.invokevirtual 56, 3) := dk_182 0 56 (dk_at dksX0_wirePercent_0 5 rfl rfl)
theorem dX0_wirePercent_8 : decode cX0_wirePercent 8 = .ok (.i2l, 1) := dk_133 (dk_at dksX0_wirePercent_0 8 rfl rfl)
theorem dX0_wirePercent_9 : decode cX0_wirePercent 9 = .ok (.lastore, 1) := dk_80 (dk_at dksX0_wirePercent_0 9 rfl rfl)
theorem dX0_wirePercent_10 : decode cX0_wirePercent 10 = .ok (.goto 11, 3) := dk_167 0 11 (dk_at dksX0_wirePercent_0 10 rfl rfl)
theorem dX0_wirePercent_13 : decode cX0_wirePercent 13 = .ok (.astore 4, 2) := dk_58 4 (dk_at dksX0_wirePercent_0 13 rfl rfl)
theorem dX0_wirePercent_15 : decode cX0_wirePercent 15 = .ok (.iconst 1, 1) := dk_4 (dk_at dksX0_wirePercent_0 15 rfl rfl)
theorem dX0_wirePercent_16 : decode cX0_wirePercent 16 = .ok (.ireturn, 1) := dk_172 (dk_at dksX0_wirePercent_0 16 rfl rfl)
theorem dX0_wirePercent_17 : decode cX0_wirePercent 17 = .ok (.astore 4, 2) := dk_58 4 (dk_at dksX0_wirePercent_0 17 rfl rfl)
theorem dX0_wirePercent_19 : decode cX0_wirePercent 19 = .ok (.iconst 2, 1) := dk_5 (dk_at dksX0_wirePercent_0 19 rfl rfl)
theorem dX0_wirePercent_20 : decode cX0_wirePercent 20 = .ok (.ireturn, 1) := dk_172 (dk_at dksX0_wirePercent_0 20 rfl rfl)
theorem dX0_wirePercent_21 : decode cX0_wirePercent 21 = .ok (.iconst 0, 1) := dk_3 (dk_at dksX0_wirePercent_0 21 rfl rfl)
theorem dX0_wirePercent_22 : decode cX0_wirePercent 22 = .ok (.ireturn, 1) := dk_172 (dk_at dksX0_wirePercent_0 22 rfl rfl)
abbrev cX0_nodeAt : ByteArray := method_15_code
def yX0_nodeAt : MethodName := ⟨RX0, "nodeAt", "(LToneGraph;I[J)I"⟩
def dkwX0_nodeAt_0 : List UInt8 := [44, 3, 42, 27, 182, 0, 59, 133, 80, 167, 0, 6, 78, 4, 172, 3, 172]
abbrev dktX0_nodeAt_0 : List UInt8 := dkwX0_nodeAt_0 ++ []
theorem dksX0_nodeAt_0 : cX0_nodeAt.data.toList.drop 0 = dktX0_nodeAt_0 := by decide +kernel
theorem dX0_nodeAt_0 : decode cX0_nodeAt 0 = .ok (.aload_n 2, 1) := dk_44 (dk_at dksX0_nodeAt_0 0 rfl rfl)
theorem dX0_nodeAt_1 : decode cX0_nodeAt 1 = .ok (.iconst 0, 1) := dk_3 (dk_at dksX0_nodeAt_0 1 rfl rfl)
theorem dX0_nodeAt_2 : decode cX0_nodeAt 2 = .ok (.aload_n 0, 1) := dk_42 (dk_at dksX0_nodeAt_0 2 rfl rfl)
theorem dX0_nodeAt_3 : decode cX0_nodeAt 3 = .ok (.iload_n 1, 1) := dk_27 (dk_at dksX0_nodeAt_0 3 rfl rfl)
theorem dX0_nodeAt_4 : decode cX0_nodeAt 4 = .ok (.invokevirtual 59, 3) := dk_182 0 59 (dk_at dksX0_nodeAt_0 4 rfl rfl)
theorem dX0_nodeAt_7 : decode cX0_nodeAt 7 = .ok (.i2l, 1) := dk_133 (dk_at dksX0_nodeAt_0 7 rfl rfl)
theorem dX0_nodeAt_8 : decode cX0_nodeAt 8 = .ok (.lastore, 1) := dk_80 (dk_at dksX0_nodeAt_0 8 rfl rfl)
theorem dX0_nodeAt_9 : decode cX0_nodeAt 9 = .ok (.goto 6, 3) := dk_167 0 6 (dk_at dksX0_nodeAt_0 9 rfl rfl)
theorem dX0_nodeAt_12 : decode cX0_nodeAt 12 = .ok (.astore_n 3, 1) := dk_78 (dk_at dksX0_nodeAt_0 12 rfl rfl)
theorem dX0_nodeAt_13 : decode cX0_nodeAt 13 = .ok (.iconst 1, 1) := dk_4 (dk_at dksX0_nodeAt_0 13 rfl rfl)
theorem dX0_nodeAt_14 : decode cX0_nodeAt 14 = .ok (.ireturn, 1) := dk_172 (dk_at dksX0_nodeAt_0 14 rfl rfl)
theorem dX0_nodeAt_15 : decode cX0_nodeAt 15 = .ok (.iconst 0, 1) := dk_3 (dk_at dksX0_nodeAt_0 15 rfl rfl)
theorem dX0_nodeAt_16 : decode cX0_nodeAt 16 = .ok (.ireturn, 1) := dk_172 (dk_at dksX0_nodeAt_0 16 rfl rfl)
abbrev cX0_setWave : ByteArray := method_16_code
def yX0_setWave : MethodName := ⟨RX0, "setWave", "(LToneGraph;C[J)I"⟩
def dkwX0_setWave_0 : List UInt8 := [44, 3, 42, 27, 182, 0, 62, 133, 80, 167, 0, 6, 78, 4, 172, 3, 172]
abbrev dktX0_setWave_0 : List UInt8 := dkwX0_setWave_0 ++ []
theorem dksX0_setWave_0 : cX0_setWave.data.toList.drop 0 = dktX0_setWave_0 := by decide +kernel
theorem dX0_setWave_0 : decode cX0_setWave 0 = .ok (.aload_n 2, 1) := dk_44 (dk_at dksX0_setWave_0 0 rfl rfl)
theorem dX0_setWave_1 : decode cX0_setWave 1 = .ok (.iconst 0, 1) := dk_3 (dk_at dksX0_setWave_0 1 rfl rfl)
theorem dX0_setWave_2 : decode cX0_setWave 2 = .ok (.aload_n 0, 1) := dk_42 (dk_at dksX0_setWave_0 2 rfl rfl)
theorem dX0_setWave_3 : decode cX0_setWave 3 = .ok (.iload_n 1, 1) := dk_27 (dk_at dksX0_setWave_0 3 rfl rfl)
theorem dX0_setWave_4 : decode cX0_setWave 4 = .ok (.invokevirtual 62, 3) := dk_182 0 62 (dk_at dksX0_setWave_0 4 rfl rfl)
theorem dX0_setWave_7 : decode cX0_setWave 7 = .ok (.i2l, 1) := dk_133 (dk_at dksX0_setWave_0 7 rfl rfl)
theorem dX0_setWave_8 : decode cX0_setWave 8 = .ok (.lastore, 1) := dk_80 (dk_at dksX0_setWave_0 8 rfl rfl)
theorem dX0_setWave_9 : decode cX0_setWave 9 = .ok (.goto 6, 3) := dk_167 0 6 (dk_at dksX0_setWave_0 9 rfl rfl)
theorem dX0_setWave_12 : decode cX0_setWave 12 = .ok (.astore_n 3, 1) := dk_78 (dk_at dksX0_setWave_0 12 rfl rfl)
theorem dX0_setWave_13 : decode cX0_setWave 13 = .ok (.iconst 1, 1) := dk_4 (dk_at dksX0_setWave_0 13 rfl rfl)
theorem dX0_setWave_14 : decode cX0_setWave 14 = .ok (.ireturn, 1) := dk_172 (dk_at dksX0_setWave_0 14 rfl rfl)
theorem dX0_setWave_15 : decode cX0_setWave 15 = .ok (.iconst 0, 1) := dk_3 (dk_at dksX0_setWave_0 15 rfl rfl)
theorem dX0_setWave_16 : decode cX0_setWave 16 = .ok (.ireturn, 1) := dk_172 (dk_at dksX0_setWave_0 16 rfl rfl)
abbrev cX0_setEnvelope : ByteArray := method_17_code
def yX0_setEnvelope : MethodName := ⟨RX0, "setEnvelope", "(LToneGraph;IIII[J)I"⟩
def dkwX0_setEnvelope_0 : List UInt8 := [25, 5, 3, 42, 27, 28, 29, 21, 4, 182, 0, 66, 133, 80, 167, 0, 7, 58, 6, 4, 172, 3, 172]
abbrev dktX0_setEnvelope_0 : List UInt8 := dkwX0_setEnvelope_0 ++ []
theorem dksX0_setEnvelope_0 : cX0_setEnvelope.data.toList.drop 0 = dktX0_setEnvelope_0 := by decide +kernel
theorem dX0_setEnvelope_0 : decode cX0_setEnvelope 0 = .ok (.aload 5, 2) := dk_25 5 (dk_at dksX0_setEnvelope_0 0 rfl rfl)
theorem dX0_setEnvelope_2 : decode cX0_setEnvelope 2 = .ok (.iconst 0, 1) := dk_3 (dk_at dksX0_setEnvelope_0 2 rfl rfl)
theorem dX0_setEnvelope_3 : decode cX0_setEnvelope 3 = .ok (.aload_n 0, 1) := dk_42 (dk_at dksX0_setEnvelope_0 3 rfl rfl)
theorem dX0_setEnvelope_4 : decode cX0_setEnvelope 4 = .ok (.iload_n 1, 1) := dk_27 (dk_at dksX0_setEnvelope_0 4 rfl rfl)
theorem dX0_setEnvelope_5 : decode cX0_setEnvelope 5 = .ok (.iload_n 2, 1) := dk_28 (dk_at dksX0_setEnvelope_0 5 rfl rfl)
theorem dX0_setEnvelope_6 : decode cX0_setEnvelope 6 = .ok (.iload_n 3, 1) := dk_29 (dk_at dksX0_setEnvelope_0 6 rfl rfl)
theorem dX0_setEnvelope_7 : decode cX0_setEnvelope 7 = .ok (.iload 4, 2) := dk_21 4 (dk_at dksX0_setEnvelope_0 7 rfl rfl)
theorem dX0_setEnvelope_9 : decode cX0_setEnvelope 9 = .ok (.invokevirtual 66, 3) := dk_182 0 66 (dk_at dksX0_setEnvelope_0 9 rfl rfl)
theorem dX0_setEnvelope_12 : decode cX0_setEnvelope 12 = .ok (.i2l, 1) := dk_133 (dk_at dksX0_setEnvelope_0 12 rfl rfl)
theorem dX0_setEnvelope_13 : decode cX0_setEnvelope 13 = .ok (.lastore, 1) := dk_80 (dk_at dksX0_setEnvelope_0 13 rfl rfl)
theorem dX0_setEnvelope_14 : decode cX0_setEnvelope 14 = .ok (.goto 7, 3) := dk_167 0 7 (dk_at dksX0_setEnvelope_0 14 rfl rfl)
theorem dX0_setEnvelope_17 : decode cX0_setEnvelope 17 = .ok (.astore 6, 2) := dk_58 6 (dk_at dksX0_setEnvelope_0 17 rfl rfl)
theorem dX0_setEnvelope_19 : decode cX0_setEnvelope 19 = .ok (.iconst 1, 1) := dk_4 (dk_at dksX0_setEnvelope_0 19 rfl rfl)
theorem dX0_setEnvelope_20 : decode cX0_setEnvelope 20 = .ok (.ireturn, 1) := dk_172 (dk_at dksX0_setEnvelope_0 20 rfl rfl)
theorem dX0_setEnvelope_21 : decode cX0_setEnvelope 21 = .ok (.iconst 0, 1) := dk_3 (dk_at dksX0_setEnvelope_0 21 rfl rfl)
theorem dX0_setEnvelope_22 : decode cX0_setEnvelope 22 = .ok (.ireturn, 1) := dk_172 (dk_at dksX0_setEnvelope_0 22 rfl rfl)
abbrev cX0_begin : ByteArray := method_18_code
def yX0_begin : MethodName := ⟨RX0, "begin", "(LToneGraph;II[J)I"⟩
def dkwX0_begin_0 : List UInt8 := [45, 3, 42, 27, 28, 182, 0, 70, 133, 80, 167, 0, 7, 58, 4, 4, 172, 3, 172]
abbrev dktX0_begin_0 : List UInt8 := dkwX0_begin_0 ++ []
theorem dksX0_begin_0 : cX0_begin.data.toList.drop 0 = dktX0_begin_0 := by decide +kernel
theorem dX0_begin_0 : decode cX0_begin 0 = .ok (.aload_n 3, 1) := dk_45 (dk_at dksX0_begin_0 0 rfl rfl)
theorem dX0_begin_1 : decode cX0_begin 1 = .ok (.iconst 0, 1) := dk_3 (dk_at dksX0_begin_0 1 rfl rfl)
theorem dX0_begin_2 : decode cX0_begin 2 = .ok (.aload_n 0, 1) := dk_42 (dk_at dksX0_begin_0 2 rfl rfl)
theorem dX0_begin_3 : decode cX0_begin 3 = .ok (.iload_n 1, 1) := dk_27 (dk_at dksX0_begin_0 3 rfl rfl)
theorem dX0_begin_4 : decode cX0_begin 4 = .ok (.iload_n 2, 1) := dk_28 (dk_at dksX0_begin_0 4 rfl rfl)
theorem dX0_begin_5 : decode cX0_begin 5 = .ok (.invokevirtual 70, 3) := dk_182 0 70 (dk_at dksX0_begin_0 5 rfl rfl)
theorem dX0_begin_8 : decode cX0_begin 8 = .ok (.i2l, 1) := dk_133 (dk_at dksX0_begin_0 8 rfl rfl)
theorem dX0_begin_9 : decode cX0_begin 9 = .ok (.lastore, 1) := dk_80 (dk_at dksX0_begin_0 9 rfl rfl)
theorem dX0_begin_10 : decode cX0_begin 10 = .ok (.goto 7, 3) := dk_167 0 7 (dk_at dksX0_begin_0 10 rfl rfl)
theorem dX0_begin_13 : decode cX0_begin 13 = .ok (.astore 4, 2) := dk_58 4 (dk_at dksX0_begin_0 13 rfl rfl)
theorem dX0_begin_15 : decode cX0_begin 15 = .ok (.iconst 1, 1) := dk_4 (dk_at dksX0_begin_0 15 rfl rfl)
theorem dX0_begin_16 : decode cX0_begin 16 = .ok (.ireturn, 1) := dk_172 (dk_at dksX0_begin_0 16 rfl rfl)
theorem dX0_begin_17 : decode cX0_begin 17 = .ok (.iconst 0, 1) := dk_3 (dk_at dksX0_begin_0 17 rfl rfl)
theorem dX0_begin_18 : decode cX0_begin 18 = .ok (.ireturn, 1) := dk_172 (dk_at dksX0_begin_0 18 rfl rfl)
abbrev cX0_end : ByteArray := method_19_code
def yX0_end : MethodName := ⟨RX0, "end", "(LToneGraph;I[J)I"⟩
def dkwX0_end_0 : List UInt8 := [44, 3, 42, 27, 182, 0, 73, 133, 80, 167, 0, 9, 78, 4, 172, 78, 5, 172, 3, 172]
abbrev dktX0_end_0 : List UInt8 := dkwX0_end_0 ++ []
theorem dksX0_end_0 : cX0_end.data.toList.drop 0 = dktX0_end_0 := by decide +kernel
theorem dX0_end_0 : decode cX0_end 0 = .ok (.aload_n 2, 1) := dk_44 (dk_at dksX0_end_0 0 rfl rfl)
theorem dX0_end_1 : decode cX0_end 1 = .ok (.iconst 0, 1) := dk_3 (dk_at dksX0_end_0 1 rfl rfl)
theorem dX0_end_2 : decode cX0_end 2 = .ok (.aload_n 0, 1) := dk_42 (dk_at dksX0_end_0 2 rfl rfl)
theorem dX0_end_3 : decode cX0_end 3 = .ok (.iload_n 1, 1) := dk_27 (dk_at dksX0_end_0 3 rfl rfl)
theorem dX0_end_4 : decode cX0_end 4 = .ok (.invokevirtual 73, 3) := dk_182 0 73 (dk_at dksX0_end_0 4 rfl rfl)
theorem dX0_end_7 : decode cX0_end 7 = .ok (.i2l, 1) := dk_133 (dk_at dksX0_end_0 7 rfl rfl)
theorem dX0_end_8 : decode cX0_end 8 = .ok (.lastore, 1) := dk_80 (dk_at dksX0_end_0 8 rfl rfl)
theorem dX0_end_9 : decode cX0_end 9 = .ok (.goto 9, 3) := dk_167 0 9 (dk_at dksX0_end_0 9 rfl rfl)
theorem dX0_end_12 : decode cX0_end 12 = .ok (.astore_n 3, 1) := dk_78 (dk_at dksX0_end_0 12 rfl rfl)
theorem dX0_end_13 : decode cX0_end 13 = .ok (.iconst 1, 1) := dk_4 (dk_at dksX0_end_0 13 rfl rfl)
theorem dX0_end_14 : decode cX0_end 14 = .ok (.ireturn, 1) := dk_172 (dk_at dksX0_end_0 14 rfl rfl)
theorem dX0_end_15 : decode cX0_end 15 = .ok (.astore_n 3, 1) := dk_78 (dk_at dksX0_end_0 15 rfl rfl)
theorem dX0_end_16 : decode cX0_end 16 = .ok (.iconst 2, 1) := dk_5 (dk_at dksX0_end_0 16 rfl rfl)
theorem dX0_end_17 : decode cX0_end 17 = .ok (.ireturn, 1) := dk_172 (dk_at dksX0_end_0 17 rfl rfl)
theorem dX0_end_18 : decode cX0_end 18 = .ok (.iconst 0, 1) := dk_3 (dk_at dksX0_end_0 18 rfl rfl)
theorem dX0_end_19 : decode cX0_end 19 = .ok (.ireturn, 1) := dk_172 (dk_at dksX0_end_0 19 rfl rfl)
abbrev cX0_stateOf : ByteArray := method_20_code
def yX0_stateOf : MethodName := ⟨RX0, "stateOf", "(LToneGraph;I[J)I"⟩
def dkwX0_stateOf_0 : List UInt8 := [44, 3, 42, 27, 182, 0, 76, 133, 80, 167, 0, 6, 78, 4, 172, 3, 172]
abbrev dktX0_stateOf_0 : List UInt8 := dkwX0_stateOf_0 ++ []
theorem dksX0_stateOf_0 : cX0_stateOf.data.toList.drop 0 = dktX0_stateOf_0 := by decide +kernel
theorem dX0_stateOf_0 : decode cX0_stateOf 0 = .ok (.aload_n 2, 1) := dk_44 (dk_at dksX0_stateOf_0 0 rfl rfl)
theorem dX0_stateOf_1 : decode cX0_stateOf 1 = .ok (.iconst 0, 1) := dk_3 (dk_at dksX0_stateOf_0 1 rfl rfl)
theorem dX0_stateOf_2 : decode cX0_stateOf 2 = .ok (.aload_n 0, 1) := dk_42 (dk_at dksX0_stateOf_0 2 rfl rfl)
theorem dX0_stateOf_3 : decode cX0_stateOf 3 = .ok (.iload_n 1, 1) := dk_27 (dk_at dksX0_stateOf_0 3 rfl rfl)
theorem dX0_stateOf_4 : decode cX0_stateOf 4 = .ok (.invokevirtual 76, 3) := dk_182 0 76 (dk_at dksX0_stateOf_0 4 rfl rfl)
theorem dX0_stateOf_7 : decode cX0_stateOf 7 = .ok (.i2l, 1) := dk_133 (dk_at dksX0_stateOf_0 7 rfl rfl)
theorem dX0_stateOf_8 : decode cX0_stateOf 8 = .ok (.lastore, 1) := dk_80 (dk_at dksX0_stateOf_0 8 rfl rfl)
theorem dX0_stateOf_9 : decode cX0_stateOf 9 = .ok (.goto 6, 3) := dk_167 0 6 (dk_at dksX0_stateOf_0 9 rfl rfl)
theorem dX0_stateOf_12 : decode cX0_stateOf 12 = .ok (.astore_n 3, 1) := dk_78 (dk_at dksX0_stateOf_0 12 rfl rfl)
theorem dX0_stateOf_13 : decode cX0_stateOf 13 = .ok (.iconst 1, 1) := dk_4 (dk_at dksX0_stateOf_0 13 rfl rfl)
theorem dX0_stateOf_14 : decode cX0_stateOf 14 = .ok (.ireturn, 1) := dk_172 (dk_at dksX0_stateOf_0 14 rfl rfl)
theorem dX0_stateOf_15 : decode cX0_stateOf 15 = .ok (.iconst 0, 1) := dk_3 (dk_at dksX0_stateOf_0 15 rfl rfl)
theorem dX0_stateOf_16 : decode cX0_stateOf 16 = .ok (.ireturn, 1) := dk_172 (dk_at dksX0_stateOf_0 16 rfl rfl)
abbrev cX0_keyOf : ByteArray := method_21_code
def yX0_keyOf : MethodName := ⟨RX0, "keyOf", "(LToneGraph;I[J)I"⟩
def dkwX0_keyOf_0 : List UInt8 := [44, 3, 42, 27, 182, 0, 79, 133, 80, 167, 0, 9, 78, 4, 172, 78, 5, 172, 3, 172]
abbrev dktX0_keyOf_0 : List UInt8 := dkwX0_keyOf_0 ++ []
theorem dksX0_keyOf_0 : cX0_keyOf.data.toList.drop 0 = dktX0_keyOf_0 := by decide +kernel
theorem dX0_keyOf_0 : decode cX0_keyOf 0 = .ok (.aload_n 2, 1) := dk_44 (dk_at dksX0_keyOf_0 0 rfl rfl)
theorem dX0_keyOf_1 : decode cX0_keyOf 1 = .ok (.iconst 0, 1) := dk_3 (dk_at dksX0_keyOf_0 1 rfl rfl)
theorem dX0_keyOf_2 : decode cX0_keyOf 2 = .ok (.aload_n 0, 1) := dk_42 (dk_at dksX0_keyOf_0 2 rfl rfl)
theorem dX0_keyOf_3 : decode cX0_keyOf 3 = .ok (.iload_n 1, 1) := dk_27 (dk_at dksX0_keyOf_0 3 rfl rfl)
theorem dX0_keyOf_4 : decode cX0_keyOf 4 = .ok (.invokevirtual 79, 3) := dk_182 0 79 (dk_at dksX0_keyOf_0 4 rfl rfl)
theorem dX0_keyOf_7 : decode cX0_keyOf 7 = .ok (.i2l, 1) := dk_133 (dk_at dksX0_keyOf_0 7 rfl rfl)
theorem dX0_keyOf_8 : decode cX0_keyOf 8 = .ok (.lastore, 1) := dk_80 (dk_at dksX0_keyOf_0 8 rfl rfl)
theorem dX0_keyOf_9 : decode cX0_keyOf 9 = .ok (.goto 9, 3) := dk_167 0 9 (dk_at dksX0_keyOf_0 9 rfl rfl)
theorem dX0_keyOf_12 : decode cX0_keyOf 12 = .ok (.astore_n 3, 1) := dk_78 (dk_at dksX0_keyOf_0 12 rfl rfl)
theorem dX0_keyOf_13 : decode cX0_keyOf 13 = .ok (.iconst 1, 1) := dk_4 (dk_at dksX0_keyOf_0 13 rfl rfl)
theorem dX0_keyOf_14 : decode cX0_keyOf 14 = .ok (.ireturn, 1) := dk_172 (dk_at dksX0_keyOf_0 14 rfl rfl)
theorem dX0_keyOf_15 : decode cX0_keyOf 15 = .ok (.astore_n 3, 1) := dk_78 (dk_at dksX0_keyOf_0 15 rfl rfl)
theorem dX0_keyOf_16 : decode cX0_keyOf 16 = .ok (.iconst 2, 1) := dk_5 (dk_at dksX0_keyOf_0 16 rfl rfl)
theorem dX0_keyOf_17 : decode cX0_keyOf 17 = .ok (.ireturn, 1) := dk_172 (dk_at dksX0_keyOf_0 17 rfl rfl)
theorem dX0_keyOf_18 : decode cX0_keyOf 18 = .ok (.iconst 0, 1) := dk_3 (dk_at dksX0_keyOf_0 18 rfl rfl)
theorem dX0_keyOf_19 : decode cX0_keyOf 19 = .ok (.ireturn, 1) := dk_172 (dk_at dksX0_keyOf_0 19 rfl rfl)
abbrev cX0_levelOf : ByteArray := method_22_code
def yX0_levelOf : MethodName := ⟨RX0, "levelOf", "(LToneGraph;I[J)I"⟩
def dkwX0_levelOf_0 : List UInt8 := [44, 3, 42, 27, 182, 0, 82, 133, 80, 167, 0, 6, 78, 4, 172, 3, 172]
abbrev dktX0_levelOf_0 : List UInt8 := dkwX0_levelOf_0 ++ []
theorem dksX0_levelOf_0 : cX0_levelOf.data.toList.drop 0 = dktX0_levelOf_0 := by decide +kernel
theorem dX0_levelOf_0 : decode cX0_levelOf 0 = .ok (.aload_n 2, 1) := dk_44 (dk_at dksX0_levelOf_0 0 rfl rfl)
theorem dX0_levelOf_1 : decode cX0_levelOf 1 = .ok (.iconst 0, 1) := dk_3 (dk_at dksX0_levelOf_0 1 rfl rfl)
theorem dX0_levelOf_2 : decode cX0_levelOf 2 = .ok (.aload_n 0, 1) := dk_42 (dk_at dksX0_levelOf_0 2 rfl rfl)
theorem dX0_levelOf_3 : decode cX0_levelOf 3 = .ok (.iload_n 1, 1) := dk_27 (dk_at dksX0_levelOf_0 3 rfl rfl)
theorem dX0_levelOf_4 : decode cX0_levelOf 4 = .ok (.invokevirtual 82, 3) := dk_182 0 82 (dk_at dksX0_levelOf_0 4 rfl rfl)
theorem dX0_levelOf_7 : decode cX0_levelOf 7 = .ok (.i2l, 1) := dk_133 (dk_at dksX0_levelOf_0 7 rfl rfl)
theorem dX0_levelOf_8 : decode cX0_levelOf 8 = .ok (.lastore, 1) := dk_80 (dk_at dksX0_levelOf_0 8 rfl rfl)
theorem dX0_levelOf_9 : decode cX0_levelOf 9 = .ok (.goto 6, 3) := dk_167 0 6 (dk_at dksX0_levelOf_0 9 rfl rfl)
theorem dX0_levelOf_12 : decode cX0_levelOf 12 = .ok (.astore_n 3, 1) := dk_78 (dk_at dksX0_levelOf_0 12 rfl rfl)
theorem dX0_levelOf_13 : decode cX0_levelOf 13 = .ok (.iconst 1, 1) := dk_4 (dk_at dksX0_levelOf_0 13 rfl rfl)
theorem dX0_levelOf_14 : decode cX0_levelOf 14 = .ok (.ireturn, 1) := dk_172 (dk_at dksX0_levelOf_0 14 rfl rfl)
theorem dX0_levelOf_15 : decode cX0_levelOf 15 = .ok (.iconst 0, 1) := dk_3 (dk_at dksX0_levelOf_0 15 rfl rfl)
theorem dX0_levelOf_16 : decode cX0_levelOf 16 = .ok (.ireturn, 1) := dk_172 (dk_at dksX0_levelOf_0 16 rfl rfl)
abbrev cX0_phaseOf : ByteArray := method_23_code
def yX0_phaseOf : MethodName := ⟨RX0, "phaseOf", "(LToneGraph;I[J)I"⟩
def dkwX0_phaseOf_0 : List UInt8 := [44, 3, 42, 27, 182, 0, 85, 133, 80, 167, 0, 9, 78, 4, 172, 78, 5, 172, 3, 172]
abbrev dktX0_phaseOf_0 : List UInt8 := dkwX0_phaseOf_0 ++ []
theorem dksX0_phaseOf_0 : cX0_phaseOf.data.toList.drop 0 = dktX0_phaseOf_0 := by decide +kernel
theorem dX0_phaseOf_0 : decode cX0_phaseOf 0 = .ok (.aload_n 2, 1) := dk_44 (dk_at dksX0_phaseOf_0 0 rfl rfl)
theorem dX0_phaseOf_1 : decode cX0_phaseOf 1 = .ok (.iconst 0, 1) := dk_3 (dk_at dksX0_phaseOf_0 1 rfl rfl)
theorem dX0_phaseOf_2 : decode cX0_phaseOf 2 = .ok (.aload_n 0, 1) := dk_42 (dk_at dksX0_phaseOf_0 2 rfl rfl)
theorem dX0_phaseOf_3 : decode cX0_phaseOf 3 = .ok (.iload_n 1, 1) := dk_27 (dk_at dksX0_phaseOf_0 3 rfl rfl)
theorem dX0_phaseOf_4 : decode cX0_phaseOf 4 = .ok (.invokevirtual 85, 3) := dk_182 0 85 (dk_at dksX0_phaseOf_0 4 rfl rfl)
theorem dX0_phaseOf_7 : decode cX0_phaseOf 7 = .ok (.i2l, 1) := dk_133 (dk_at dksX0_phaseOf_0 7 rfl rfl)
theorem dX0_phaseOf_8 : decode cX0_phaseOf 8 = .ok (.lastore, 1) := dk_80 (dk_at dksX0_phaseOf_0 8 rfl rfl)
theorem dX0_phaseOf_9 : decode cX0_phaseOf 9 = .ok (.goto 9, 3) := dk_167 0 9 (dk_at dksX0_phaseOf_0 9 rfl rfl)
theorem dX0_phaseOf_12 : decode cX0_phaseOf 12 = .ok (.astore_n 3, 1) := dk_78 (dk_at dksX0_phaseOf_0 12 rfl rfl)
theorem dX0_phaseOf_13 : decode cX0_phaseOf 13 = .ok (.iconst 1, 1) := dk_4 (dk_at dksX0_phaseOf_0 13 rfl rfl)
theorem dX0_phaseOf_14 : decode cX0_phaseOf 14 = .ok (.ireturn, 1) := dk_172 (dk_at dksX0_phaseOf_0 14 rfl rfl)
theorem dX0_phaseOf_15 : decode cX0_phaseOf 15 = .ok (.astore_n 3, 1) := dk_78 (dk_at dksX0_phaseOf_0 15 rfl rfl)
theorem dX0_phaseOf_16 : decode cX0_phaseOf 16 = .ok (.iconst 2, 1) := dk_5 (dk_at dksX0_phaseOf_0 16 rfl rfl)
theorem dX0_phaseOf_17 : decode cX0_phaseOf 17 = .ok (.ireturn, 1) := dk_172 (dk_at dksX0_phaseOf_0 17 rfl rfl)
theorem dX0_phaseOf_18 : decode cX0_phaseOf 18 = .ok (.iconst 0, 1) := dk_3 (dk_at dksX0_phaseOf_0 18 rfl rfl)
theorem dX0_phaseOf_19 : decode cX0_phaseOf 19 = .ok (.ireturn, 1) := dk_172 (dk_at dksX0_phaseOf_0 19 rfl rfl)
abbrev cX0_play : ByteArray := method_24_code
def yX0_play : MethodName := ⟨RX0, "play", "(LToneGraph;I[J)I"⟩
def dkwX0_play_0 : List UInt8 := [44, 3, 42, 27, 182, 0, 88, 133, 80, 167, 0, 6, 78, 4, 172, 3, 172]
abbrev dktX0_play_0 : List UInt8 := dkwX0_play_0 ++ []
theorem dksX0_play_0 : cX0_play.data.toList.drop 0 = dktX0_play_0 := by decide +kernel
theorem dX0_play_0 : decode cX0_play 0 = .ok (.aload_n 2, 1) := dk_44 (dk_at dksX0_play_0 0 rfl rfl)
theorem dX0_play_1 : decode cX0_play 1 = .ok (.iconst 0, 1) := dk_3 (dk_at dksX0_play_0 1 rfl rfl)
theorem dX0_play_2 : decode cX0_play 2 = .ok (.aload_n 0, 1) := dk_42 (dk_at dksX0_play_0 2 rfl rfl)
theorem dX0_play_3 : decode cX0_play 3 = .ok (.iload_n 1, 1) := dk_27 (dk_at dksX0_play_0 3 rfl rfl)
theorem dX0_play_4 : decode cX0_play 4 = .ok (.invokevirtual 88, 3) := dk_182 0 88 (dk_at dksX0_play_0 4 rfl rfl)
theorem dX0_play_7 : decode cX0_play 7 = .ok (.i2l, 1) := dk_133 (dk_at dksX0_play_0 7 rfl rfl)
theorem dX0_play_8 : decode cX0_play 8 = .ok (.lastore, 1) := dk_80 (dk_at dksX0_play_0 8 rfl rfl)
theorem dX0_play_9 : decode cX0_play 9 = .ok (.goto 6, 3) := dk_167 0 6 (dk_at dksX0_play_0 9 rfl rfl)
theorem dX0_play_12 : decode cX0_play 12 = .ok (.astore_n 3, 1) := dk_78 (dk_at dksX0_play_0 12 rfl rfl)
theorem dX0_play_13 : decode cX0_play 13 = .ok (.iconst 1, 1) := dk_4 (dk_at dksX0_play_0 13 rfl rfl)
theorem dX0_play_14 : decode cX0_play 14 = .ok (.ireturn, 1) := dk_172 (dk_at dksX0_play_0 14 rfl rfl)
theorem dX0_play_15 : decode cX0_play 15 = .ok (.iconst 0, 1) := dk_3 (dk_at dksX0_play_0 15 rfl rfl)
theorem dX0_play_16 : decode cX0_play 16 = .ok (.ireturn, 1) := dk_172 (dk_at dksX0_play_0 16 rfl rfl)
abbrev cX0_ahead : ByteArray := method_25_code
def yX0_ahead : MethodName := ⟨RX0, "ahead", "(LToneGraph;I[J)I"⟩
def dkwX0_ahead_0 : List UInt8 := [44, 3, 42, 27, 182, 0, 91, 133, 80, 167, 0, 6, 78, 4, 172, 3, 172]
abbrev dktX0_ahead_0 : List UInt8 := dkwX0_ahead_0 ++ []
theorem dksX0_ahead_0 : cX0_ahead.data.toList.drop 0 = dktX0_ahead_0 := by decide +kernel
theorem dX0_ahead_0 : decode cX0_ahead 0 = .ok (.aload_n 2, 1) := dk_44 (dk_at dksX0_ahead_0 0 rfl rfl)
theorem dX0_ahead_1 : decode cX0_ahead 1 = .ok (.iconst 0, 1) := dk_3 (dk_at dksX0_ahead_0 1 rfl rfl)
theorem dX0_ahead_2 : decode cX0_ahead 2 = .ok (.aload_n 0, 1) := dk_42 (dk_at dksX0_ahead_0 2 rfl rfl)
theorem dX0_ahead_3 : decode cX0_ahead 3 = .ok (.iload_n 1, 1) := dk_27 (dk_at dksX0_ahead_0 3 rfl rfl)
theorem dX0_ahead_4 : decode cX0_ahead 4 = .ok (.invokevirtual 91, 3) := dk_182 0 91 (dk_at dksX0_ahead_0 4 rfl rfl)
theorem dX0_ahead_7 : decode cX0_ahead 7 = .ok (.i2l, 1) := dk_133 (dk_at dksX0_ahead_0 7 rfl rfl)
theorem dX0_ahead_8 : decode cX0_ahead 8 = .ok (.lastore, 1) := dk_80 (dk_at dksX0_ahead_0 8 rfl rfl)
theorem dX0_ahead_9 : decode cX0_ahead 9 = .ok (.goto 6, 3) := dk_167 0 6 (dk_at dksX0_ahead_0 9 rfl rfl)
theorem dX0_ahead_12 : decode cX0_ahead 12 = .ok (.astore_n 3, 1) := dk_78 (dk_at dksX0_ahead_0 12 rfl rfl)
theorem dX0_ahead_13 : decode cX0_ahead 13 = .ok (.iconst 1, 1) := dk_4 (dk_at dksX0_ahead_0 13 rfl rfl)
theorem dX0_ahead_14 : decode cX0_ahead 14 = .ok (.ireturn, 1) := dk_172 (dk_at dksX0_ahead_0 14 rfl rfl)
theorem dX0_ahead_15 : decode cX0_ahead 15 = .ok (.iconst 0, 1) := dk_3 (dk_at dksX0_ahead_0 15 rfl rfl)
theorem dX0_ahead_16 : decode cX0_ahead 16 = .ok (.ireturn, 1) := dk_172 (dk_at dksX0_ahead_0 16 rfl rfl)
abbrev cX0_aheadByBlocks : ByteArray := method_26_code
def yX0_aheadByBlocks : MethodName := ⟨RX0, "aheadByBlocks", "(LToneGraph;II[J)I"⟩
def dkwX0_aheadByBlocks_0 : List UInt8 := [45, 3, 42, 27, 28, 182, 0, 94, 133, 80, 167, 0, 7, 58, 4, 4, 172, 3, 172]
abbrev dktX0_aheadByBlocks_0 : List UInt8 := dkwX0_aheadByBlocks_0 ++ []
theorem dksX0_aheadByBlocks_0 : cX0_aheadByBlocks.data.toList.drop 0 = dktX0_aheadByBlocks_0 := by decide +kernel
theorem dX0_aheadByBlocks_0 : decode cX0_aheadByBlocks 0 = .ok (.aload_n 3, 1) := dk_45 (dk_at dksX0_aheadByBlocks_0 0 rfl rfl)
theorem dX0_aheadByBlocks_1 : decode cX0_aheadByBlocks 1 = .ok (.iconst 0, 1) := dk_3 (dk_at dksX0_aheadByBlocks_0 1 rfl rfl)
theorem dX0_aheadByBlocks_2 : decode cX0_aheadByBlocks 2 = .ok (.aload_n 0, 1) := dk_42 (dk_at dksX0_aheadByBlocks_0 2 rfl rfl)
theorem dX0_aheadByBlocks_3 : decode cX0_aheadByBlocks 3 = .ok (.iload_n 1, 1) := dk_27 (dk_at dksX0_aheadByBlocks_0 3 rfl rfl)
theorem dX0_aheadByBlocks_4 : decode cX0_aheadByBlocks 4 = .ok (.iload_n 2, 1) := dk_28 (dk_at dksX0_aheadByBlocks_0 4 rfl rfl)
theorem dX0_aheadByBlocks_5 : decode cX0_aheadByBlocks 5 = .ok (.invokevirtual 94, 3) := dk_182 0 94 (dk_at dksX0_aheadByBlocks_0 5 rfl rfl)
theorem dX0_aheadByBlocks_8 : decode cX0_aheadByBlocks 8 = .ok (.i2l, 1) := dk_133 (dk_at dksX0_aheadByBlocks_0 8 rfl rfl)
theorem dX0_aheadByBlocks_9 : decode cX0_aheadByBlocks 9 = .ok (.lastore, 1) := dk_80 (dk_at dksX0_aheadByBlocks_0 9 rfl rfl)
theorem dX0_aheadByBlocks_10 : decode cX0_aheadByBlocks 10 = .ok (.goto 7, 3) := dk_167 0 7 (dk_at dksX0_aheadByBlocks_0 10 rfl rfl)
theorem dX0_aheadByBlocks_13 : decode cX0_aheadByBlocks 13 = .ok (.astore 4, 2) := dk_58 4 (dk_at dksX0_aheadByBlocks_0 13 rfl rfl)
theorem dX0_aheadByBlocks_15 : decode cX0_aheadByBlocks 15 = .ok (.iconst 1, 1) := dk_4 (dk_at dksX0_aheadByBlocks_0 15 rfl rfl)
theorem dX0_aheadByBlocks_16 : decode cX0_aheadByBlocks 16 = .ok (.ireturn, 1) := dk_172 (dk_at dksX0_aheadByBlocks_0 16 rfl rfl)
theorem dX0_aheadByBlocks_17 : decode cX0_aheadByBlocks 17 = .ok (.iconst 0, 1) := dk_3 (dk_at dksX0_aheadByBlocks_0 17 rfl rfl)
theorem dX0_aheadByBlocks_18 : decode cX0_aheadByBlocks 18 = .ok (.ireturn, 1) := dk_172 (dk_at dksX0_aheadByBlocks_0 18 rfl rfl)
abbrev cX0_heard : ByteArray := method_27_code
def yX0_heard : MethodName := ⟨RX0, "heard", "(LToneGraph;I[J)I"⟩
def dkwX0_heard_0 : List UInt8 := [44, 3, 42, 27, 182, 0, 97, 133, 80, 167, 0, 9, 78, 4, 172, 78, 5, 172, 3, 172]
abbrev dktX0_heard_0 : List UInt8 := dkwX0_heard_0 ++ []
theorem dksX0_heard_0 : cX0_heard.data.toList.drop 0 = dktX0_heard_0 := by decide +kernel
theorem dX0_heard_0 : decode cX0_heard 0 = .ok (.aload_n 2, 1) := dk_44 (dk_at dksX0_heard_0 0 rfl rfl)
theorem dX0_heard_1 : decode cX0_heard 1 = .ok (.iconst 0, 1) := dk_3 (dk_at dksX0_heard_0 1 rfl rfl)
theorem dX0_heard_2 : decode cX0_heard 2 = .ok (.aload_n 0, 1) := dk_42 (dk_at dksX0_heard_0 2 rfl rfl)
theorem dX0_heard_3 : decode cX0_heard 3 = .ok (.iload_n 1, 1) := dk_27 (dk_at dksX0_heard_0 3 rfl rfl)
theorem dX0_heard_4 : decode cX0_heard 4 = .ok (.invokevirtual 97, 3) := dk_182 0 97 (dk_at dksX0_heard_0 4 rfl rfl)
theorem dX0_heard_7 : decode cX0_heard 7 = .ok (.i2l, 1) := dk_133 (dk_at dksX0_heard_0 7 rfl rfl)
theorem dX0_heard_8 : decode cX0_heard 8 = .ok (.lastore, 1) := dk_80 (dk_at dksX0_heard_0 8 rfl rfl)
theorem dX0_heard_9 : decode cX0_heard 9 = .ok (.goto 9, 3) := dk_167 0 9 (dk_at dksX0_heard_0 9 rfl rfl)
theorem dX0_heard_12 : decode cX0_heard 12 = .ok (.astore_n 3, 1) := dk_78 (dk_at dksX0_heard_0 12 rfl rfl)
theorem dX0_heard_13 : decode cX0_heard 13 = .ok (.iconst 1, 1) := dk_4 (dk_at dksX0_heard_0 13 rfl rfl)
theorem dX0_heard_14 : decode cX0_heard 14 = .ok (.ireturn, 1) := dk_172 (dk_at dksX0_heard_0 14 rfl rfl)
theorem dX0_heard_15 : decode cX0_heard 15 = .ok (.astore_n 3, 1) := dk_78 (dk_at dksX0_heard_0 15 rfl rfl)
theorem dX0_heard_16 : decode cX0_heard 16 = .ok (.iconst 2, 1) := dk_5 (dk_at dksX0_heard_0 16 rfl rfl)
theorem dX0_heard_17 : decode cX0_heard 17 = .ok (.ireturn, 1) := dk_172 (dk_at dksX0_heard_0 17 rfl rfl)
theorem dX0_heard_18 : decode cX0_heard 18 = .ok (.iconst 0, 1) := dk_3 (dk_at dksX0_heard_0 18 rfl rfl)
theorem dX0_heard_19 : decode cX0_heard 19 = .ok (.ireturn, 1) := dk_172 (dk_at dksX0_heard_0 19 rfl rfl)
abbrev cX0_outputOf : ByteArray := method_28_code
def yX0_outputOf : MethodName := ⟨RX0, "outputOf", "(LToneGraph;I[J)I"⟩
def dkwX0_outputOf_0 : List UInt8 := [44, 3, 42, 27, 182, 0, 100, 133, 80, 167, 0, 6, 78, 4, 172, 3, 172]
abbrev dktX0_outputOf_0 : List UInt8 := dkwX0_outputOf_0 ++ []
theorem dksX0_outputOf_0 : cX0_outputOf.data.toList.drop 0 = dktX0_outputOf_0 := by decide +kernel
theorem dX0_outputOf_0 : decode cX0_outputOf 0 = .ok (.aload_n 2, 1) := dk_44 (dk_at dksX0_outputOf_0 0 rfl rfl)
theorem dX0_outputOf_1 : decode cX0_outputOf 1 = .ok (.iconst 0, 1) := dk_3 (dk_at dksX0_outputOf_0 1 rfl rfl)
theorem dX0_outputOf_2 : decode cX0_outputOf 2 = .ok (.aload_n 0, 1) := dk_42 (dk_at dksX0_outputOf_0 2 rfl rfl)
theorem dX0_outputOf_3 : decode cX0_outputOf 3 = .ok (.iload_n 1, 1) := dk_27 (dk_at dksX0_outputOf_0 3 rfl rfl)
theorem dX0_outputOf_4 : decode cX0_outputOf 4 = .ok (.invokevirtual 100, 3) := dk_182 0 100 (dk_at dksX0_outputOf_0 4 rfl rfl)
theorem dX0_outputOf_7 : decode cX0_outputOf 7 = .ok (.i2l, 1) := dk_133 (dk_at dksX0_outputOf_0 7 rfl rfl)
theorem dX0_outputOf_8 : decode cX0_outputOf 8 = .ok (.lastore, 1) := dk_80 (dk_at dksX0_outputOf_0 8 rfl rfl)
theorem dX0_outputOf_9 : decode cX0_outputOf 9 = .ok (.goto 6, 3) := dk_167 0 6 (dk_at dksX0_outputOf_0 9 rfl rfl)
theorem dX0_outputOf_12 : decode cX0_outputOf 12 = .ok (.astore_n 3, 1) := dk_78 (dk_at dksX0_outputOf_0 12 rfl rfl)
theorem dX0_outputOf_13 : decode cX0_outputOf 13 = .ok (.iconst 1, 1) := dk_4 (dk_at dksX0_outputOf_0 13 rfl rfl)
theorem dX0_outputOf_14 : decode cX0_outputOf 14 = .ok (.ireturn, 1) := dk_172 (dk_at dksX0_outputOf_0 14 rfl rfl)
theorem dX0_outputOf_15 : decode cX0_outputOf 15 = .ok (.iconst 0, 1) := dk_3 (dk_at dksX0_outputOf_0 15 rfl rfl)
theorem dX0_outputOf_16 : decode cX0_outputOf 16 = .ok (.ireturn, 1) := dk_172 (dk_at dksX0_outputOf_0 16 rfl rfl)
abbrev cX0_meanEnergy : ByteArray := method_29_code
def yX0_meanEnergy : MethodName := ⟨RX0, "meanEnergy", "(LToneGraph;[D)I"⟩
def dkwX0_meanEnergy_0 : List UInt8 := [43, 3, 42, 182, 0, 103, 82, 167, 0, 6, 77, 4, 172, 3, 172]
abbrev dktX0_meanEnergy_0 : List UInt8 := dkwX0_meanEnergy_0 ++ []
theorem dksX0_meanEnergy_0 : cX0_meanEnergy.data.toList.drop 0 = dktX0_meanEnergy_0 := by decide +kernel
theorem dX0_meanEnergy_0 : decode cX0_meanEnergy 0 = .ok (.aload_n 1, 1) := dk_43 (dk_at dksX0_meanEnergy_0 0 rfl rfl)
theorem dX0_meanEnergy_1 : decode cX0_meanEnergy 1 = .ok (.iconst 0, 1) := dk_3 (dk_at dksX0_meanEnergy_0 1 rfl rfl)
theorem dX0_meanEnergy_2 : decode cX0_meanEnergy 2 = .ok (.aload_n 0, 1) := dk_42 (dk_at dksX0_meanEnergy_0 2 rfl rfl)
theorem dX0_meanEnergy_3 : decode cX0_meanEnergy 3 = .ok (.invokevirtual 103, 3) := dk_182 0 103 (dk_at dksX0_meanEnergy_0 3 rfl rfl)
theorem dX0_meanEnergy_6 : decode cX0_meanEnergy 6 = .ok (.dastore, 1) := dk_82 (dk_at dksX0_meanEnergy_0 6 rfl rfl)
theorem dX0_meanEnergy_7 : decode cX0_meanEnergy 7 = .ok (.goto 6, 3) := dk_167 0 6 (dk_at dksX0_meanEnergy_0 7 rfl rfl)
theorem dX0_meanEnergy_10 : decode cX0_meanEnergy 10 = .ok (.astore_n 2, 1) := dk_77 (dk_at dksX0_meanEnergy_0 10 rfl rfl)
theorem dX0_meanEnergy_11 : decode cX0_meanEnergy 11 = .ok (.iconst 1, 1) := dk_4 (dk_at dksX0_meanEnergy_0 11 rfl rfl)
theorem dX0_meanEnergy_12 : decode cX0_meanEnergy 12 = .ok (.ireturn, 1) := dk_172 (dk_at dksX0_meanEnergy_0 12 rfl rfl)
theorem dX0_meanEnergy_13 : decode cX0_meanEnergy 13 = .ok (.iconst 0, 1) := dk_3 (dk_at dksX0_meanEnergy_0 13 rfl rfl)
theorem dX0_meanEnergy_14 : decode cX0_meanEnergy 14 = .ok (.ireturn, 1) := dk_172 (dk_at dksX0_meanEnergy_0 14 rfl rfl)
abbrev cX0_quietShare : ByteArray := method_30_code
def yX0_quietShare : MethodName := ⟨RX0, "quietShare", "(LToneGraph;[D)I"⟩
def dkwX0_quietShare_0 : List UInt8 := [43, 3, 42, 182, 0, 109, 141, 82, 167, 0, 6, 77, 4, 172, 3, 172]
abbrev dktX0_quietShare_0 : List UInt8 := dkwX0_quietShare_0 ++ []
theorem dksX0_quietShare_0 : cX0_quietShare.data.toList.drop 0 = dktX0_quietShare_0 := by decide +kernel
theorem dX0_quietShare_0 : decode cX0_quietShare 0 = .ok (.aload_n 1, 1) := dk_43 (dk_at dksX0_quietShare_0 0 rfl rfl)
theorem dX0_quietShare_1 : decode cX0_quietShare 1 = .ok (.iconst 0, 1) := dk_3 (dk_at dksX0_quietShare_0 1 rfl rfl)
theorem dX0_quietShare_2 : decode cX0_quietShare 2 = .ok (.aload_n 0, 1) := dk_42 (dk_at dksX0_quietShare_0 2 rfl rfl)
theorem dX0_quietShare_3 : decode cX0_quietShare 3 = .ok (.invokevirtual 109, 3) := dk_182 0 109 (dk_at dksX0_quietShare_0 3 rfl rfl)
theorem dX0_quietShare_6 : decode cX0_quietShare 6 = .ok (.f2d, 1) := dk_141 (dk_at dksX0_quietShare_0 6 rfl rfl)
theorem dX0_quietShare_7 : decode cX0_quietShare 7 = .ok (.dastore, 1) := dk_82 (dk_at dksX0_quietShare_0 7 rfl rfl)
theorem dX0_quietShare_8 : decode cX0_quietShare 8 = .ok (.goto 6, 3) := dk_167 0 6 (dk_at dksX0_quietShare_0 8 rfl rfl)
theorem dX0_quietShare_11 : decode cX0_quietShare 11 = .ok (.astore_n 2, 1) := dk_77 (dk_at dksX0_quietShare_0 11 rfl rfl)
theorem dX0_quietShare_12 : decode cX0_quietShare 12 = .ok (.iconst 1, 1) := dk_4 (dk_at dksX0_quietShare_0 12 rfl rfl)
theorem dX0_quietShare_13 : decode cX0_quietShare 13 = .ok (.ireturn, 1) := dk_172 (dk_at dksX0_quietShare_0 13 rfl rfl)
theorem dX0_quietShare_14 : decode cX0_quietShare 14 = .ok (.iconst 0, 1) := dk_3 (dk_at dksX0_quietShare_0 14 rfl rfl)
theorem dX0_quietShare_15 : decode cX0_quietShare 15 = .ok (.ireturn, 1) := dk_172 (dk_at dksX0_quietShare_0 15 rfl rfl)
theorem q52 : (Jvm.Cond.initialized "ToneGraphLaw") ∈ lw_all := lw_g (lw_at lw_m1 0 rfl) rfl
theorem q84 : (Jvm.Cond.classLink "ToneGraphLaw" (8 : Nat) "ToneGraph") ∈ lw_all := lw_g (lw_at lw_m1 32 rfl) rfl
theorem q86 : (Jvm.Cond.methodLink "ToneGraphLaw" (113 : Nat) ({ cls := "ToneGraph", name := "<init>", desc := "()V" } : Jvm.MethodName)) ∈ lw_all := lw_g (lw_at lw_m1 34 rfl) rfl
theorem q356 : (Jvm.Cond.methodLink "ToneGraphLaw" (150 : Nat) ({ cls := "ToneGraph", name := "nodes", desc := "()I" } : Jvm.MethodName)) ∈ lw_all := lw_g (lw_at lw_m2 64 rfl) rfl
theorem q364 : (Jvm.Cond.methodLink "ToneGraphLaw" (169 : Nat) ({ cls := "ToneGraph", name := "longestBlock", desc := "()I" } : Jvm.MethodName)) ∈ lw_all := lw_g (lw_at lw_m2 72 rfl) rfl
theorem q396 : (Jvm.Cond.methodLink "ToneGraphLaw" (187 : Nat) ({ cls := "ToneGraph", name := "endAll", desc := "()I" } : Jvm.MethodName)) ∈ lw_all := lw_g (lw_at lw_m2 104 rfl) rfl
theorem q408 : (Jvm.Cond.methodLink "ToneGraphLaw" (191 : Nat) ({ cls := "ToneGraph", name := "sounding", desc := "()I" } : Jvm.MethodName)) ∈ lw_all := lw_g (lw_at lw_m2 116 rfl) rfl
theorem q412 : (Jvm.Cond.methodLink "ToneGraphLaw" (207 : Nat) ({ cls := "ToneGraph", name := "stolen", desc := "()I" } : Jvm.MethodName)) ∈ lw_all := lw_g (lw_at lw_m2 120 rfl) rfl
theorem q416 : (Jvm.Cond.methodLink "ToneGraphLaw" (214 : Nat) ({ cls := "ToneGraph", name := "step", desc := "()I" } : Jvm.MethodName)) ∈ lw_all := lw_g (lw_at lw_m2 124 rfl) rfl
theorem q520 : (Jvm.Cond.methodLink "ToneGraphLaw" (230 : Nat) ({ cls := "ToneGraph", name := "time", desc := "()I" } : Jvm.MethodName)) ∈ lw_all := lw_g (lw_at lw_m2 228 rfl) rfl
theorem q524 : (Jvm.Cond.methodLink "ToneGraphLaw" (234 : Nat) ({ cls := "ToneGraph", name := "greatest", desc := "()I" } : Jvm.MethodName)) ∈ lw_all := lw_g (lw_at lw_m2 232 rfl) rfl
theorem q528 : (Jvm.Cond.methodLink "ToneGraphLaw" (238 : Nat) ({ cls := "ToneGraph", name := "energy", desc := "()J" } : Jvm.MethodName)) ∈ lw_all := lw_g (lw_at lw_m2 236 rfl) rfl
theorem q532 : (Jvm.Cond.methodLink "ToneGraphLaw" (250 : Nat) ({ cls := "ToneGraph", name := "isConsistent", desc := "()Z" } : Jvm.MethodName)) ∈ lw_all := lw_g (lw_at lw_m3 0 rfl) rfl
theorem q719 : (Jvm.Cond.methodLink "ToneGraphLaw" (117 : Nat) ({ cls := "ToneGraphLaw", name := "addGain", desc := "(LToneGraph;I[J)I" } : Jvm.MethodName)) ∈ lw_all := lw_g (lw_at lw_m3 187 rfl) rfl
theorem q720 : (Jvm.Cond.static ({ cls := "ToneGraphLaw", name := "addGain", desc := "(LToneGraph;I[J)I" } : Jvm.MethodName)) ∈ lw_all := lw_g (lw_at lw_m3 188 rfl) rfl
theorem q721 : (Jvm.Cond.codeWith ({ cls := "ToneGraphLaw", name := "addGain", desc := "(LToneGraph;I[J)I" } : Jvm.MethodName) method_3_code (4 : Nat) (Option.some Jvm.ClassFile.FieldType.int) [((0 : Nat), (9 : Nat), (12 : Nat), (13 : Nat)), ((0 : Nat), (9 : Nat), (15 : Nat), (15 : Nat))]) ∈ lw_all := lw_g (lw_at lw_m3 189 rfl) rfl
theorem q722 : (Jvm.Cond.classLink "ToneGraphLaw" (13 : Nat) "java/lang/IllegalArgumentException") ∈ lw_all := lw_g (lw_at lw_m3 190 rfl) rfl
theorem q723 : (Jvm.Cond.classLink "ToneGraphLaw" (15 : Nat) "java/lang/IllegalStateException") ∈ lw_all := lw_g (lw_at lw_m3 191 rfl) rfl
theorem q724 : (Jvm.Cond.methodLink "ToneGraphLaw" (7 : Nat) ({ cls := "ToneGraph", name := "addGain", desc := "(I)I" } : Jvm.MethodName)) ∈ lw_all := lw_g (lw_at lw_m3 192 rfl) rfl
theorem q785 : (Jvm.Cond.methodLink "ToneGraphLaw" (127 : Nat) ({ cls := "ToneGraphLaw", name := "addDelay", desc := "(LToneGraph;II[J)I" } : Jvm.MethodName)) ∈ lw_all := lw_g (lw_at lw_m4 13 rfl) rfl
theorem q786 : (Jvm.Cond.static ({ cls := "ToneGraphLaw", name := "addDelay", desc := "(LToneGraph;II[J)I" } : Jvm.MethodName)) ∈ lw_all := lw_g (lw_at lw_m4 14 rfl) rfl
theorem q787 : (Jvm.Cond.codeWith ({ cls := "ToneGraphLaw", name := "addDelay", desc := "(LToneGraph;II[J)I" } : Jvm.MethodName) method_4_code (5 : Nat) (Option.some Jvm.ClassFile.FieldType.int) [((0 : Nat), (10 : Nat), (13 : Nat), (13 : Nat)), ((0 : Nat), (10 : Nat), (17 : Nat), (15 : Nat))]) ∈ lw_all := lw_g (lw_at lw_m4 15 rfl) rfl
theorem q788 : (Jvm.Cond.methodLink "ToneGraphLaw" (17 : Nat) ({ cls := "ToneGraph", name := "addDelay", desc := "(II)I" } : Jvm.MethodName)) ∈ lw_all := lw_g (lw_at lw_m4 16 rfl) rfl
theorem q813 : (Jvm.Cond.methodLink "ToneGraphLaw" (131 : Nat) ({ cls := "ToneGraphLaw", name := "addFilter", desc := "(LToneGraph;III[J)I" } : Jvm.MethodName)) ∈ lw_all := lw_g (lw_at lw_m4 41 rfl) rfl
theorem q814 : (Jvm.Cond.static ({ cls := "ToneGraphLaw", name := "addFilter", desc := "(LToneGraph;III[J)I" } : Jvm.MethodName)) ∈ lw_all := lw_g (lw_at lw_m4 42 rfl) rfl
theorem q815 : (Jvm.Cond.codeWith ({ cls := "ToneGraphLaw", name := "addFilter", desc := "(LToneGraph;III[J)I" } : Jvm.MethodName) method_5_code (6 : Nat) (Option.some Jvm.ClassFile.FieldType.int) [((0 : Nat), (12 : Nat), (15 : Nat), (13 : Nat)), ((0 : Nat), (12 : Nat), (19 : Nat), (15 : Nat))]) ∈ lw_all := lw_g (lw_at lw_m4 43 rfl) rfl
theorem q816 : (Jvm.Cond.methodLink "ToneGraphLaw" (21 : Nat) ({ cls := "ToneGraph", name := "addFilter", desc := "(III)I" } : Jvm.MethodName)) ∈ lw_all := lw_g (lw_at lw_m4 44 rfl) rfl
theorem q839 : (Jvm.Cond.methodLink "ToneGraphLaw" (135 : Nat) ({ cls := "ToneGraphLaw", name := "addBus", desc := "(LToneGraph;I[J)I" } : Jvm.MethodName)) ∈ lw_all := lw_g (lw_at lw_m4 67 rfl) rfl
theorem q840 : (Jvm.Cond.static ({ cls := "ToneGraphLaw", name := "addBus", desc := "(LToneGraph;I[J)I" } : Jvm.MethodName)) ∈ lw_all := lw_g (lw_at lw_m4 68 rfl) rfl
theorem q841 : (Jvm.Cond.codeWith ({ cls := "ToneGraphLaw", name := "addBus", desc := "(LToneGraph;I[J)I" } : Jvm.MethodName) method_6_code (4 : Nat) (Option.some Jvm.ClassFile.FieldType.int) [((0 : Nat), (9 : Nat), (12 : Nat), (13 : Nat)), ((0 : Nat), (9 : Nat), (15 : Nat), (15 : Nat))]) ∈ lw_all := lw_g (lw_at lw_m4 69 rfl) rfl
theorem q842 : (Jvm.Cond.methodLink "ToneGraphLaw" (25 : Nat) ({ cls := "ToneGraph", name := "addBus", desc := "(I)I" } : Jvm.MethodName)) ∈ lw_all := lw_g (lw_at lw_m4 70 rfl) rfl
theorem q865 : (Jvm.Cond.methodLink "ToneGraphLaw" (138 : Nat) ({ cls := "ToneGraphLaw", name := "connect", desc := "(LToneGraph;III[J)I" } : Jvm.MethodName)) ∈ lw_all := lw_g (lw_at lw_m4 93 rfl) rfl
theorem q866 : (Jvm.Cond.static ({ cls := "ToneGraphLaw", name := "connect", desc := "(LToneGraph;III[J)I" } : Jvm.MethodName)) ∈ lw_all := lw_g (lw_at lw_m4 94 rfl) rfl
theorem q867 : (Jvm.Cond.codeWith ({ cls := "ToneGraphLaw", name := "connect", desc := "(LToneGraph;III[J)I" } : Jvm.MethodName) method_7_code (6 : Nat) (Option.some Jvm.ClassFile.FieldType.int) [((0 : Nat), (12 : Nat), (15 : Nat), (31 : Nat)), ((0 : Nat), (12 : Nat), (19 : Nat), (13 : Nat)), ((0 : Nat), (12 : Nat), (23 : Nat), (15 : Nat)), ((0 : Nat), (12 : Nat), (27 : Nat), (33 : Nat))]) ∈ lw_all := lw_g (lw_at lw_m4 95 rfl) rfl
theorem q868 : (Jvm.Cond.classLink "ToneGraphLaw" (31 : Nat) "java/lang/IndexOutOfBoundsException") ∈ lw_all := lw_g (lw_at lw_m4 96 rfl) rfl
theorem q901 : (Jvm.Cond.classLink "ToneGraphLaw" (33 : Nat) "java/lang/UnsupportedOperationException") ∈ lw_all := lw_g (lw_at lw_m4 129 rfl) rfl
theorem q902 : (Jvm.Cond.methodLink "ToneGraphLaw" (28 : Nat) ({ cls := "ToneGraph", name := "connect", desc := "(III)I" } : Jvm.MethodName)) ∈ lw_all := lw_g (lw_at lw_m4 130 rfl) rfl
theorem q976 : (Jvm.Cond.methodLink "ToneGraphLaw" (141 : Nat) ({ cls := "ToneGraphLaw", name := "disconnect", desc := "(LToneGraph;II[J)I" } : Jvm.MethodName)) ∈ lw_all := lw_g (lw_at lw_m4 204 rfl) rfl
theorem q977 : (Jvm.Cond.static ({ cls := "ToneGraphLaw", name := "disconnect", desc := "(LToneGraph;II[J)I" } : Jvm.MethodName)) ∈ lw_all := lw_g (lw_at lw_m4 205 rfl) rfl
theorem q978 : (Jvm.Cond.codeWith ({ cls := "ToneGraphLaw", name := "disconnect", desc := "(LToneGraph;II[J)I" } : Jvm.MethodName) method_8_code (5 : Nat) (Option.some Jvm.ClassFile.FieldType.int) [((0 : Nat), (10 : Nat), (13 : Nat), (31 : Nat)), ((0 : Nat), (10 : Nat), (17 : Nat), (38 : Nat))]) ∈ lw_all := lw_g (lw_at lw_m4 206 rfl) rfl
theorem q979 : (Jvm.Cond.classLink "ToneGraphLaw" (38 : Nat) "java/util/NoSuchElementException") ∈ lw_all := lw_g (lw_at lw_m4 207 rfl) rfl
theorem q980 : (Jvm.Cond.methodLink "ToneGraphLaw" (35 : Nat) ({ cls := "ToneGraph", name := "disconnect", desc := "(II)I" } : Jvm.MethodName)) ∈ lw_all := lw_g (lw_at lw_m4 208 rfl) rfl
theorem q1008 : (Jvm.Cond.methodLink "ToneGraphLaw" (144 : Nat) ({ cls := "ToneGraphLaw", name := "setGain", desc := "(LToneGraph;II[J)I" } : Jvm.MethodName)) ∈ lw_all := lw_g (lw_at lw_m4 236 rfl) rfl
theorem q1009 : (Jvm.Cond.static ({ cls := "ToneGraphLaw", name := "setGain", desc := "(LToneGraph;II[J)I" } : Jvm.MethodName)) ∈ lw_all := lw_g (lw_at lw_m4 237 rfl) rfl
theorem q1010 : (Jvm.Cond.codeWith ({ cls := "ToneGraphLaw", name := "setGain", desc := "(LToneGraph;II[J)I" } : Jvm.MethodName) method_9_code (5 : Nat) (Option.some Jvm.ClassFile.FieldType.int) [((0 : Nat), (10 : Nat), (13 : Nat), (31 : Nat)), ((0 : Nat), (10 : Nat), (17 : Nat), (33 : Nat)), ((0 : Nat), (10 : Nat), (21 : Nat), (13 : Nat))]) ∈ lw_all := lw_g (lw_at lw_m4 238 rfl) rfl
theorem q1011 : (Jvm.Cond.methodLink "ToneGraphLaw" (40 : Nat) ({ cls := "ToneGraph", name := "setGain", desc := "(II)I" } : Jvm.MethodName)) ∈ lw_all := lw_g (lw_at lw_m4 239 rfl) rfl
theorem q1015 : (Jvm.Cond.methodLink "ToneGraphLaw" (147 : Nat) ({ cls := "ToneGraphLaw", name := "setOutput", desc := "(LToneGraph;I[J)I" } : Jvm.MethodName)) ∈ lw_all := lw_g (lw_at lw_m5 3 rfl) rfl
theorem q1016 : (Jvm.Cond.static ({ cls := "ToneGraphLaw", name := "setOutput", desc := "(LToneGraph;I[J)I" } : Jvm.MethodName)) ∈ lw_all := lw_g (lw_at lw_m5 4 rfl) rfl
theorem q1017 : (Jvm.Cond.codeWith ({ cls := "ToneGraphLaw", name := "setOutput", desc := "(LToneGraph;I[J)I" } : Jvm.MethodName) method_10_code (4 : Nat) (Option.some Jvm.ClassFile.FieldType.int) [((0 : Nat), (9 : Nat), (12 : Nat), (31 : Nat))]) ∈ lw_all := lw_g (lw_at lw_m5 5 rfl) rfl
theorem q1018 : (Jvm.Cond.methodLink "ToneGraphLaw" (43 : Nat) ({ cls := "ToneGraph", name := "setOutput", desc := "(I)I" } : Jvm.MethodName)) ∈ lw_all := lw_g (lw_at lw_m5 6 rfl) rfl
theorem q1022 : (Jvm.Cond.methodLink "ToneGraphLaw" (154 : Nat) ({ cls := "ToneGraphLaw", name := "kindOf", desc := "(LToneGraph;I[J)I" } : Jvm.MethodName)) ∈ lw_all := lw_g (lw_at lw_m5 10 rfl) rfl
theorem q1023 : (Jvm.Cond.static ({ cls := "ToneGraphLaw", name := "kindOf", desc := "(LToneGraph;I[J)I" } : Jvm.MethodName)) ∈ lw_all := lw_g (lw_at lw_m5 11 rfl) rfl
theorem q1024 : (Jvm.Cond.codeWith ({ cls := "ToneGraphLaw", name := "kindOf", desc := "(LToneGraph;I[J)I" } : Jvm.MethodName) method_11_code (4 : Nat) (Option.some Jvm.ClassFile.FieldType.int) [((0 : Nat), (9 : Nat), (12 : Nat), (31 : Nat))]) ∈ lw_all := lw_g (lw_at lw_m5 12 rfl) rfl
theorem q1025 : (Jvm.Cond.methodLink "ToneGraphLaw" (46 : Nat) ({ cls := "ToneGraph", name := "kindOf", desc := "(I)C" } : Jvm.MethodName)) ∈ lw_all := lw_g (lw_at lw_m5 13 rfl) rfl
theorem q1029 : (Jvm.Cond.methodLink "ToneGraphLaw" (157 : Nat) ({ cls := "ToneGraphLaw", name := "wires", desc := "(LToneGraph;I[J)I" } : Jvm.MethodName)) ∈ lw_all := lw_g (lw_at lw_m5 17 rfl) rfl
theorem q1030 : (Jvm.Cond.static ({ cls := "ToneGraphLaw", name := "wires", desc := "(LToneGraph;I[J)I" } : Jvm.MethodName)) ∈ lw_all := lw_g (lw_at lw_m5 18 rfl) rfl
theorem q1031 : (Jvm.Cond.codeWith ({ cls := "ToneGraphLaw", name := "wires", desc := "(LToneGraph;I[J)I" } : Jvm.MethodName) method_12_code (4 : Nat) (Option.some Jvm.ClassFile.FieldType.int) [((0 : Nat), (9 : Nat), (12 : Nat), (31 : Nat))]) ∈ lw_all := lw_g (lw_at lw_m5 19 rfl) rfl
theorem q1032 : (Jvm.Cond.methodLink "ToneGraphLaw" (50 : Nat) ({ cls := "ToneGraph", name := "wires", desc := "(I)I" } : Jvm.MethodName)) ∈ lw_all := lw_g (lw_at lw_m5 20 rfl) rfl
theorem q1036 : (Jvm.Cond.methodLink "ToneGraphLaw" (160 : Nat) ({ cls := "ToneGraphLaw", name := "wireFrom", desc := "(LToneGraph;II[J)I" } : Jvm.MethodName)) ∈ lw_all := lw_g (lw_at lw_m5 24 rfl) rfl
theorem q1037 : (Jvm.Cond.static ({ cls := "ToneGraphLaw", name := "wireFrom", desc := "(LToneGraph;II[J)I" } : Jvm.MethodName)) ∈ lw_all := lw_g (lw_at lw_m5 25 rfl) rfl
theorem q1038 : (Jvm.Cond.codeWith ({ cls := "ToneGraphLaw", name := "wireFrom", desc := "(LToneGraph;II[J)I" } : Jvm.MethodName) method_13_code (5 : Nat) (Option.some Jvm.ClassFile.FieldType.int) [((0 : Nat), (10 : Nat), (13 : Nat), (31 : Nat)), ((0 : Nat), (10 : Nat), (17 : Nat), (38 : Nat))]) ∈ lw_all := lw_g (lw_at lw_m5 26 rfl) rfl
theorem q1039 : (Jvm.Cond.methodLink "ToneGraphLaw" (53 : Nat) ({ cls := "ToneGraph", name := "wireFrom", desc := "(II)I" } : Jvm.MethodName)) ∈ lw_all := lw_g (lw_at lw_m5 27 rfl) rfl
theorem q1047 : (Jvm.Cond.methodLink "ToneGraphLaw" (163 : Nat) ({ cls := "ToneGraphLaw", name := "wirePercent", desc := "(LToneGraph;II[J)I" } : Jvm.MethodName)) ∈ lw_all := lw_g (lw_at lw_m5 35 rfl) rfl
theorem q1048 : (Jvm.Cond.static ({ cls := "ToneGraphLaw", name := "wirePercent", desc := "(LToneGraph;II[J)I" } : Jvm.MethodName)) ∈ lw_all := lw_g (lw_at lw_m5 36 rfl) rfl
theorem q1049 : (Jvm.Cond.codeWith ({ cls := "ToneGraphLaw", name := "wirePercent", desc := "(LToneGraph;II[J)I" } : Jvm.MethodName) method_14_code (5 : Nat) (Option.some Jvm.ClassFile.FieldType.int) [((0 : Nat), (10 : Nat), (13 : Nat), (31 : Nat)), ((0 : Nat), (10 : Nat), (17 : Nat), (38 : Nat))]) ∈ lw_all := lw_g (lw_at lw_m5 37 rfl) rfl
theorem q1050 : (Jvm.Cond.methodLink "ToneGraphLaw" (56 : Nat) ({ cls := "ToneGraph", name := "wirePercent", desc := "(II)I" } : Jvm.MethodName)) ∈ lw_all := lw_g (lw_at lw_m5 38 rfl) rfl
theorem q1054 : (Jvm.Cond.methodLink "ToneGraphLaw" (166 : Nat) ({ cls := "ToneGraphLaw", name := "nodeAt", desc := "(LToneGraph;I[J)I" } : Jvm.MethodName)) ∈ lw_all := lw_g (lw_at lw_m5 42 rfl) rfl
theorem q1055 : (Jvm.Cond.static ({ cls := "ToneGraphLaw", name := "nodeAt", desc := "(LToneGraph;I[J)I" } : Jvm.MethodName)) ∈ lw_all := lw_g (lw_at lw_m5 43 rfl) rfl
theorem q1056 : (Jvm.Cond.codeWith ({ cls := "ToneGraphLaw", name := "nodeAt", desc := "(LToneGraph;I[J)I" } : Jvm.MethodName) method_15_code (4 : Nat) (Option.some Jvm.ClassFile.FieldType.int) [((0 : Nat), (9 : Nat), (12 : Nat), (31 : Nat))]) ∈ lw_all := lw_g (lw_at lw_m5 44 rfl) rfl
theorem q1057 : (Jvm.Cond.methodLink "ToneGraphLaw" (59 : Nat) ({ cls := "ToneGraph", name := "nodeAt", desc := "(I)I" } : Jvm.MethodName)) ∈ lw_all := lw_g (lw_at lw_m5 45 rfl) rfl
theorem q1061 : (Jvm.Cond.methodLink "ToneGraphLaw" (173 : Nat) ({ cls := "ToneGraphLaw", name := "setWave", desc := "(LToneGraph;C[J)I" } : Jvm.MethodName)) ∈ lw_all := lw_g (lw_at lw_m5 49 rfl) rfl
theorem q1062 : (Jvm.Cond.static ({ cls := "ToneGraphLaw", name := "setWave", desc := "(LToneGraph;C[J)I" } : Jvm.MethodName)) ∈ lw_all := lw_g (lw_at lw_m5 50 rfl) rfl
theorem q1063 : (Jvm.Cond.codeWith ({ cls := "ToneGraphLaw", name := "setWave", desc := "(LToneGraph;C[J)I" } : Jvm.MethodName) method_16_code (4 : Nat) (Option.some Jvm.ClassFile.FieldType.int) [((0 : Nat), (9 : Nat), (12 : Nat), (13 : Nat))]) ∈ lw_all := lw_g (lw_at lw_m5 51 rfl) rfl
theorem q1064 : (Jvm.Cond.methodLink "ToneGraphLaw" (62 : Nat) ({ cls := "ToneGraph", name := "setWave", desc := "(C)C" } : Jvm.MethodName)) ∈ lw_all := lw_g (lw_at lw_m5 52 rfl) rfl
theorem q1068 : (Jvm.Cond.methodLink "ToneGraphLaw" (177 : Nat) ({ cls := "ToneGraphLaw", name := "setEnvelope", desc := "(LToneGraph;IIII[J)I" } : Jvm.MethodName)) ∈ lw_all := lw_g (lw_at lw_m5 56 rfl) rfl
theorem q1069 : (Jvm.Cond.static ({ cls := "ToneGraphLaw", name := "setEnvelope", desc := "(LToneGraph;IIII[J)I" } : Jvm.MethodName)) ∈ lw_all := lw_g (lw_at lw_m5 57 rfl) rfl
theorem q1070 : (Jvm.Cond.codeWith ({ cls := "ToneGraphLaw", name := "setEnvelope", desc := "(LToneGraph;IIII[J)I" } : Jvm.MethodName) method_17_code (7 : Nat) (Option.some Jvm.ClassFile.FieldType.int) [((0 : Nat), (14 : Nat), (17 : Nat), (13 : Nat))]) ∈ lw_all := lw_g (lw_at lw_m5 58 rfl) rfl
theorem q1071 : (Jvm.Cond.methodLink "ToneGraphLaw" (66 : Nat) ({ cls := "ToneGraph", name := "setEnvelope", desc := "(IIII)I" } : Jvm.MethodName)) ∈ lw_all := lw_g (lw_at lw_m5 59 rfl) rfl
theorem q1077 : (Jvm.Cond.methodLink "ToneGraphLaw" (181 : Nat) ({ cls := "ToneGraphLaw", name := "begin", desc := "(LToneGraph;II[J)I" } : Jvm.MethodName)) ∈ lw_all := lw_g (lw_at lw_m5 65 rfl) rfl
theorem q1078 : (Jvm.Cond.static ({ cls := "ToneGraphLaw", name := "begin", desc := "(LToneGraph;II[J)I" } : Jvm.MethodName)) ∈ lw_all := lw_g (lw_at lw_m5 66 rfl) rfl
theorem q1079 : (Jvm.Cond.codeWith ({ cls := "ToneGraphLaw", name := "begin", desc := "(LToneGraph;II[J)I" } : Jvm.MethodName) method_18_code (5 : Nat) (Option.some Jvm.ClassFile.FieldType.int) [((0 : Nat), (10 : Nat), (13 : Nat), (13 : Nat))]) ∈ lw_all := lw_g (lw_at lw_m5 67 rfl) rfl
theorem q1080 : (Jvm.Cond.methodLink "ToneGraphLaw" (70 : Nat) ({ cls := "ToneGraph", name := "begin", desc := "(II)I" } : Jvm.MethodName)) ∈ lw_all := lw_g (lw_at lw_m5 68 rfl) rfl
theorem q1115 : (Jvm.Cond.methodLink "ToneGraphLaw" (184 : Nat) ({ cls := "ToneGraphLaw", name := "end", desc := "(LToneGraph;I[J)I" } : Jvm.MethodName)) ∈ lw_all := lw_g (lw_at lw_m5 103 rfl) rfl
theorem q1116 : (Jvm.Cond.static ({ cls := "ToneGraphLaw", name := "end", desc := "(LToneGraph;I[J)I" } : Jvm.MethodName)) ∈ lw_all := lw_g (lw_at lw_m5 104 rfl) rfl
theorem q1117 : (Jvm.Cond.codeWith ({ cls := "ToneGraphLaw", name := "end", desc := "(LToneGraph;I[J)I" } : Jvm.MethodName) method_19_code (4 : Nat) (Option.some Jvm.ClassFile.FieldType.int) [((0 : Nat), (9 : Nat), (12 : Nat), (13 : Nat)), ((0 : Nat), (9 : Nat), (15 : Nat), (38 : Nat))]) ∈ lw_all := lw_g (lw_at lw_m5 105 rfl) rfl
theorem q1118 : (Jvm.Cond.methodLink "ToneGraphLaw" (73 : Nat) ({ cls := "ToneGraph", name := "end", desc := "(I)I" } : Jvm.MethodName)) ∈ lw_all := lw_g (lw_at lw_m5 106 rfl) rfl
theorem q1124 : (Jvm.Cond.methodLink "ToneGraphLaw" (195 : Nat) ({ cls := "ToneGraphLaw", name := "stateOf", desc := "(LToneGraph;I[J)I" } : Jvm.MethodName)) ∈ lw_all := lw_g (lw_at lw_m5 112 rfl) rfl
theorem q1125 : (Jvm.Cond.static ({ cls := "ToneGraphLaw", name := "stateOf", desc := "(LToneGraph;I[J)I" } : Jvm.MethodName)) ∈ lw_all := lw_g (lw_at lw_m5 113 rfl) rfl
theorem q1126 : (Jvm.Cond.codeWith ({ cls := "ToneGraphLaw", name := "stateOf", desc := "(LToneGraph;I[J)I" } : Jvm.MethodName) method_20_code (4 : Nat) (Option.some Jvm.ClassFile.FieldType.int) [((0 : Nat), (9 : Nat), (12 : Nat), (31 : Nat))]) ∈ lw_all := lw_g (lw_at lw_m5 114 rfl) rfl
theorem q1127 : (Jvm.Cond.methodLink "ToneGraphLaw" (76 : Nat) ({ cls := "ToneGraph", name := "stateOf", desc := "(I)C" } : Jvm.MethodName)) ∈ lw_all := lw_g (lw_at lw_m5 115 rfl) rfl
theorem q1136 : (Jvm.Cond.methodLink "ToneGraphLaw" (198 : Nat) ({ cls := "ToneGraphLaw", name := "keyOf", desc := "(LToneGraph;I[J)I" } : Jvm.MethodName)) ∈ lw_all := lw_g (lw_at lw_m5 124 rfl) rfl
theorem q1137 : (Jvm.Cond.static ({ cls := "ToneGraphLaw", name := "keyOf", desc := "(LToneGraph;I[J)I" } : Jvm.MethodName)) ∈ lw_all := lw_g (lw_at lw_m5 125 rfl) rfl
theorem q1138 : (Jvm.Cond.codeWith ({ cls := "ToneGraphLaw", name := "keyOf", desc := "(LToneGraph;I[J)I" } : Jvm.MethodName) method_21_code (4 : Nat) (Option.some Jvm.ClassFile.FieldType.int) [((0 : Nat), (9 : Nat), (12 : Nat), (31 : Nat)), ((0 : Nat), (9 : Nat), (15 : Nat), (15 : Nat))]) ∈ lw_all := lw_g (lw_at lw_m5 126 rfl) rfl
theorem q1139 : (Jvm.Cond.methodLink "ToneGraphLaw" (79 : Nat) ({ cls := "ToneGraph", name := "keyOf", desc := "(I)I" } : Jvm.MethodName)) ∈ lw_all := lw_g (lw_at lw_m5 127 rfl) rfl
theorem q1147 : (Jvm.Cond.methodLink "ToneGraphLaw" (201 : Nat) ({ cls := "ToneGraphLaw", name := "levelOf", desc := "(LToneGraph;I[J)I" } : Jvm.MethodName)) ∈ lw_all := lw_g (lw_at lw_m5 135 rfl) rfl
theorem q1148 : (Jvm.Cond.static ({ cls := "ToneGraphLaw", name := "levelOf", desc := "(LToneGraph;I[J)I" } : Jvm.MethodName)) ∈ lw_all := lw_g (lw_at lw_m5 136 rfl) rfl
theorem q1149 : (Jvm.Cond.codeWith ({ cls := "ToneGraphLaw", name := "levelOf", desc := "(LToneGraph;I[J)I" } : Jvm.MethodName) method_22_code (4 : Nat) (Option.some Jvm.ClassFile.FieldType.int) [((0 : Nat), (9 : Nat), (12 : Nat), (31 : Nat))]) ∈ lw_all := lw_g (lw_at lw_m5 137 rfl) rfl
theorem q1150 : (Jvm.Cond.methodLink "ToneGraphLaw" (82 : Nat) ({ cls := "ToneGraph", name := "levelOf", desc := "(I)I" } : Jvm.MethodName)) ∈ lw_all := lw_g (lw_at lw_m5 138 rfl) rfl
theorem q1154 : (Jvm.Cond.methodLink "ToneGraphLaw" (204 : Nat) ({ cls := "ToneGraphLaw", name := "phaseOf", desc := "(LToneGraph;I[J)I" } : Jvm.MethodName)) ∈ lw_all := lw_g (lw_at lw_m5 142 rfl) rfl
theorem q1155 : (Jvm.Cond.static ({ cls := "ToneGraphLaw", name := "phaseOf", desc := "(LToneGraph;I[J)I" } : Jvm.MethodName)) ∈ lw_all := lw_g (lw_at lw_m5 143 rfl) rfl
theorem q1156 : (Jvm.Cond.codeWith ({ cls := "ToneGraphLaw", name := "phaseOf", desc := "(LToneGraph;I[J)I" } : Jvm.MethodName) method_23_code (4 : Nat) (Option.some Jvm.ClassFile.FieldType.int) [((0 : Nat), (9 : Nat), (12 : Nat), (31 : Nat)), ((0 : Nat), (9 : Nat), (15 : Nat), (15 : Nat))]) ∈ lw_all := lw_g (lw_at lw_m5 144 rfl) rfl
theorem q1157 : (Jvm.Cond.methodLink "ToneGraphLaw" (85 : Nat) ({ cls := "ToneGraph", name := "phaseOf", desc := "(I)I" } : Jvm.MethodName)) ∈ lw_all := lw_g (lw_at lw_m5 145 rfl) rfl
theorem q1161 : (Jvm.Cond.methodLink "ToneGraphLaw" (211 : Nat) ({ cls := "ToneGraphLaw", name := "play", desc := "(LToneGraph;I[J)I" } : Jvm.MethodName)) ∈ lw_all := lw_g (lw_at lw_m5 149 rfl) rfl
theorem q1162 : (Jvm.Cond.static ({ cls := "ToneGraphLaw", name := "play", desc := "(LToneGraph;I[J)I" } : Jvm.MethodName)) ∈ lw_all := lw_g (lw_at lw_m5 150 rfl) rfl
theorem q1163 : (Jvm.Cond.codeWith ({ cls := "ToneGraphLaw", name := "play", desc := "(LToneGraph;I[J)I" } : Jvm.MethodName) method_24_code (4 : Nat) (Option.some Jvm.ClassFile.FieldType.int) [((0 : Nat), (9 : Nat), (12 : Nat), (13 : Nat))]) ∈ lw_all := lw_g (lw_at lw_m5 151 rfl) rfl
theorem q1164 : (Jvm.Cond.methodLink "ToneGraphLaw" (88 : Nat) ({ cls := "ToneGraph", name := "play", desc := "(I)I" } : Jvm.MethodName)) ∈ lw_all := lw_g (lw_at lw_m5 152 rfl) rfl
theorem q1168 : (Jvm.Cond.methodLink "ToneGraphLaw" (218 : Nat) ({ cls := "ToneGraphLaw", name := "ahead", desc := "(LToneGraph;I[J)I" } : Jvm.MethodName)) ∈ lw_all := lw_g (lw_at lw_m5 156 rfl) rfl
theorem q1169 : (Jvm.Cond.static ({ cls := "ToneGraphLaw", name := "ahead", desc := "(LToneGraph;I[J)I" } : Jvm.MethodName)) ∈ lw_all := lw_g (lw_at lw_m5 157 rfl) rfl
theorem q1170 : (Jvm.Cond.codeWith ({ cls := "ToneGraphLaw", name := "ahead", desc := "(LToneGraph;I[J)I" } : Jvm.MethodName) method_25_code (4 : Nat) (Option.some Jvm.ClassFile.FieldType.int) [((0 : Nat), (9 : Nat), (12 : Nat), (13 : Nat))]) ∈ lw_all := lw_g (lw_at lw_m5 158 rfl) rfl
theorem q1171 : (Jvm.Cond.methodLink "ToneGraphLaw" (91 : Nat) ({ cls := "ToneGraph", name := "ahead", desc := "(I)I" } : Jvm.MethodName)) ∈ lw_all := lw_g (lw_at lw_m5 159 rfl) rfl
theorem q1172 : (Jvm.Cond.methodLink "ToneGraphLaw" (221 : Nat) ({ cls := "ToneGraphLaw", name := "aheadByBlocks", desc := "(LToneGraph;II[J)I" } : Jvm.MethodName)) ∈ lw_all := lw_g (lw_at lw_m5 160 rfl) rfl
theorem q1173 : (Jvm.Cond.static ({ cls := "ToneGraphLaw", name := "aheadByBlocks", desc := "(LToneGraph;II[J)I" } : Jvm.MethodName)) ∈ lw_all := lw_g (lw_at lw_m5 161 rfl) rfl
theorem q1174 : (Jvm.Cond.codeWith ({ cls := "ToneGraphLaw", name := "aheadByBlocks", desc := "(LToneGraph;II[J)I" } : Jvm.MethodName) method_26_code (5 : Nat) (Option.some Jvm.ClassFile.FieldType.int) [((0 : Nat), (10 : Nat), (13 : Nat), (13 : Nat))]) ∈ lw_all := lw_g (lw_at lw_m5 162 rfl) rfl
theorem q1175 : (Jvm.Cond.methodLink "ToneGraphLaw" (94 : Nat) ({ cls := "ToneGraph", name := "aheadByBlocks", desc := "(II)I" } : Jvm.MethodName)) ∈ lw_all := lw_g (lw_at lw_m5 163 rfl) rfl
theorem q1176 : (Jvm.Cond.methodLink "ToneGraphLaw" (224 : Nat) ({ cls := "ToneGraphLaw", name := "heard", desc := "(LToneGraph;I[J)I" } : Jvm.MethodName)) ∈ lw_all := lw_g (lw_at lw_m5 164 rfl) rfl
theorem q1177 : (Jvm.Cond.static ({ cls := "ToneGraphLaw", name := "heard", desc := "(LToneGraph;I[J)I" } : Jvm.MethodName)) ∈ lw_all := lw_g (lw_at lw_m5 165 rfl) rfl
theorem q1178 : (Jvm.Cond.codeWith ({ cls := "ToneGraphLaw", name := "heard", desc := "(LToneGraph;I[J)I" } : Jvm.MethodName) method_27_code (4 : Nat) (Option.some Jvm.ClassFile.FieldType.int) [((0 : Nat), (9 : Nat), (12 : Nat), (13 : Nat)), ((0 : Nat), (9 : Nat), (15 : Nat), (38 : Nat))]) ∈ lw_all := lw_g (lw_at lw_m5 166 rfl) rfl
theorem q1179 : (Jvm.Cond.methodLink "ToneGraphLaw" (97 : Nat) ({ cls := "ToneGraph", name := "heard", desc := "(I)I" } : Jvm.MethodName)) ∈ lw_all := lw_g (lw_at lw_m5 167 rfl) rfl
theorem q1183 : (Jvm.Cond.methodLink "ToneGraphLaw" (227 : Nat) ({ cls := "ToneGraphLaw", name := "outputOf", desc := "(LToneGraph;I[J)I" } : Jvm.MethodName)) ∈ lw_all := lw_g (lw_at lw_m5 171 rfl) rfl
theorem q1184 : (Jvm.Cond.static ({ cls := "ToneGraphLaw", name := "outputOf", desc := "(LToneGraph;I[J)I" } : Jvm.MethodName)) ∈ lw_all := lw_g (lw_at lw_m5 172 rfl) rfl
theorem q1185 : (Jvm.Cond.codeWith ({ cls := "ToneGraphLaw", name := "outputOf", desc := "(LToneGraph;I[J)I" } : Jvm.MethodName) method_28_code (4 : Nat) (Option.some Jvm.ClassFile.FieldType.int) [((0 : Nat), (9 : Nat), (12 : Nat), (31 : Nat))]) ∈ lw_all := lw_g (lw_at lw_m5 173 rfl) rfl
theorem q1186 : (Jvm.Cond.methodLink "ToneGraphLaw" (100 : Nat) ({ cls := "ToneGraph", name := "outputOf", desc := "(I)I" } : Jvm.MethodName)) ∈ lw_all := lw_g (lw_at lw_m5 174 rfl) rfl
theorem q1190 : (Jvm.Cond.methodLink "ToneGraphLaw" (243 : Nat) ({ cls := "ToneGraphLaw", name := "meanEnergy", desc := "(LToneGraph;[D)I" } : Jvm.MethodName)) ∈ lw_all := lw_g (lw_at lw_m5 178 rfl) rfl
theorem q1191 : (Jvm.Cond.static ({ cls := "ToneGraphLaw", name := "meanEnergy", desc := "(LToneGraph;[D)I" } : Jvm.MethodName)) ∈ lw_all := lw_g (lw_at lw_m5 179 rfl) rfl
theorem q1192 : (Jvm.Cond.codeWith ({ cls := "ToneGraphLaw", name := "meanEnergy", desc := "(LToneGraph;[D)I" } : Jvm.MethodName) method_29_code (3 : Nat) (Option.some Jvm.ClassFile.FieldType.int) [((0 : Nat), (7 : Nat), (10 : Nat), (107 : Nat))]) ∈ lw_all := lw_g (lw_at lw_m5 180 rfl) rfl
theorem q1193 : (Jvm.Cond.classLink "ToneGraphLaw" (107 : Nat) "java/lang/ArithmeticException") ∈ lw_all := lw_g (lw_at lw_m5 181 rfl) rfl
theorem q1207 : (Jvm.Cond.methodLink "ToneGraphLaw" (103 : Nat) ({ cls := "ToneGraph", name := "meanEnergy", desc := "()D" } : Jvm.MethodName)) ∈ lw_all := lw_g (lw_at lw_m5 195 rfl) rfl
theorem q1220 : (Jvm.Cond.methodLink "ToneGraphLaw" (247 : Nat) ({ cls := "ToneGraphLaw", name := "quietShare", desc := "(LToneGraph;[D)I" } : Jvm.MethodName)) ∈ lw_all := lw_g (lw_at lw_m5 208 rfl) rfl
theorem q1221 : (Jvm.Cond.static ({ cls := "ToneGraphLaw", name := "quietShare", desc := "(LToneGraph;[D)I" } : Jvm.MethodName)) ∈ lw_all := lw_g (lw_at lw_m5 209 rfl) rfl
theorem q1222 : (Jvm.Cond.codeWith ({ cls := "ToneGraphLaw", name := "quietShare", desc := "(LToneGraph;[D)I" } : Jvm.MethodName) method_30_code (3 : Nat) (Option.some Jvm.ClassFile.FieldType.int) [((0 : Nat), (8 : Nat), (11 : Nat), (107 : Nat))]) ∈ lw_all := lw_g (lw_at lw_m5 210 rfl) rfl
theorem q1223 : (Jvm.Cond.methodLink "ToneGraphLaw" (109 : Nat) ({ cls := "ToneGraph", name := "quietShare", desc := "()F" } : Jvm.MethodName)) ∈ lw_all := lw_g (lw_at lw_m5 211 rfl) rfl
theorem q1227 : (Jvm.Cond.classLink "ToneGraphLaw" (114 : Nat) "ToneGraphModel") ∈ lw_all := lw_g (lw_at lw_m5 215 rfl) rfl
theorem q1229 : (Jvm.Cond.methodLink "ToneGraphLaw" (116 : Nat) ({ cls := "ToneGraphModel", name := "<init>", desc := "()V" } : Jvm.MethodName)) ∈ lw_all := lw_g (lw_at lw_m5 217 rfl) rfl
theorem q1321 : (Jvm.Cond.methodLink "ToneGraphLaw" (123 : Nat) ({ cls := "ToneGraphModel", name := "thrown", desc := "()I" } : Jvm.MethodName)) ∈ lw_all := lw_g (lw_at lw_m6 69 rfl) rfl
theorem q1325 : (Jvm.Cond.methodLink "ToneGraphLaw" (122 : Nat) ({ cls := "ToneGraphModel", name := "addGain", desc := "(I)I" } : Jvm.MethodName)) ∈ lw_all := lw_g (lw_at lw_m6 73 rfl) rfl
theorem q1340 : (Jvm.Cond.methodLink "ToneGraphLaw" (130 : Nat) ({ cls := "ToneGraphModel", name := "addDelay", desc := "(II)I" } : Jvm.MethodName)) ∈ lw_all := lw_g (lw_at lw_m6 88 rfl) rfl
theorem q1344 : (Jvm.Cond.methodLink "ToneGraphLaw" (134 : Nat) ({ cls := "ToneGraphModel", name := "addFilter", desc := "(III)I" } : Jvm.MethodName)) ∈ lw_all := lw_g (lw_at lw_m6 92 rfl) rfl
theorem q1348 : (Jvm.Cond.methodLink "ToneGraphLaw" (137 : Nat) ({ cls := "ToneGraphModel", name := "addBus", desc := "(I)I" } : Jvm.MethodName)) ∈ lw_all := lw_g (lw_at lw_m6 96 rfl) rfl
theorem q1352 : (Jvm.Cond.methodLink "ToneGraphLaw" (140 : Nat) ({ cls := "ToneGraphModel", name := "connect", desc := "(III)I" } : Jvm.MethodName)) ∈ lw_all := lw_g (lw_at lw_m6 100 rfl) rfl
theorem q1368 : (Jvm.Cond.methodLink "ToneGraphLaw" (143 : Nat) ({ cls := "ToneGraphModel", name := "disconnect", desc := "(II)I" } : Jvm.MethodName)) ∈ lw_all := lw_g (lw_at lw_m6 116 rfl) rfl
theorem q1372 : (Jvm.Cond.methodLink "ToneGraphLaw" (146 : Nat) ({ cls := "ToneGraphModel", name := "setGain", desc := "(II)I" } : Jvm.MethodName)) ∈ lw_all := lw_g (lw_at lw_m6 120 rfl) rfl
theorem q1376 : (Jvm.Cond.methodLink "ToneGraphLaw" (149 : Nat) ({ cls := "ToneGraphModel", name := "setOutput", desc := "(I)I" } : Jvm.MethodName)) ∈ lw_all := lw_g (lw_at lw_m6 124 rfl) rfl
theorem q1384 : (Jvm.Cond.methodLink "ToneGraphLaw" (153 : Nat) ({ cls := "ToneGraphModel", name := "nodes", desc := "()I" } : Jvm.MethodName)) ∈ lw_all := lw_g (lw_at lw_m6 132 rfl) rfl
theorem q1392 : (Jvm.Cond.methodLink "ToneGraphLaw" (156 : Nat) ({ cls := "ToneGraphModel", name := "kindOf", desc := "(I)C" } : Jvm.MethodName)) ∈ lw_all := lw_g (lw_at lw_m6 140 rfl) rfl
theorem q1396 : (Jvm.Cond.methodLink "ToneGraphLaw" (159 : Nat) ({ cls := "ToneGraphModel", name := "wires", desc := "(I)I" } : Jvm.MethodName)) ∈ lw_all := lw_g (lw_at lw_m6 144 rfl) rfl
theorem q1400 : (Jvm.Cond.methodLink "ToneGraphLaw" (162 : Nat) ({ cls := "ToneGraphModel", name := "wireFrom", desc := "(II)I" } : Jvm.MethodName)) ∈ lw_all := lw_g (lw_at lw_m6 148 rfl) rfl
theorem q1408 : (Jvm.Cond.methodLink "ToneGraphLaw" (165 : Nat) ({ cls := "ToneGraphModel", name := "wirePercent", desc := "(II)I" } : Jvm.MethodName)) ∈ lw_all := lw_g (lw_at lw_m6 156 rfl) rfl
theorem q1412 : (Jvm.Cond.methodLink "ToneGraphLaw" (168 : Nat) ({ cls := "ToneGraphModel", name := "nodeAt", desc := "(I)I" } : Jvm.MethodName)) ∈ lw_all := lw_g (lw_at lw_m6 160 rfl) rfl
theorem q1416 : (Jvm.Cond.methodLink "ToneGraphLaw" (172 : Nat) ({ cls := "ToneGraphModel", name := "longestBlock", desc := "()I" } : Jvm.MethodName)) ∈ lw_all := lw_g (lw_at lw_m6 164 rfl) rfl
theorem q1420 : (Jvm.Cond.methodLink "ToneGraphLaw" (176 : Nat) ({ cls := "ToneGraphModel", name := "setWave", desc := "(C)C" } : Jvm.MethodName)) ∈ lw_all := lw_g (lw_at lw_m6 168 rfl) rfl
theorem q1424 : (Jvm.Cond.methodLink "ToneGraphLaw" (180 : Nat) ({ cls := "ToneGraphModel", name := "setEnvelope", desc := "(IIII)I" } : Jvm.MethodName)) ∈ lw_all := lw_g (lw_at lw_m6 172 rfl) rfl
theorem q1428 : (Jvm.Cond.methodLink "ToneGraphLaw" (183 : Nat) ({ cls := "ToneGraphModel", name := "begin", desc := "(II)I" } : Jvm.MethodName)) ∈ lw_all := lw_g (lw_at lw_m6 176 rfl) rfl
theorem q1452 : (Jvm.Cond.methodLink "ToneGraphLaw" (186 : Nat) ({ cls := "ToneGraphModel", name := "end", desc := "(I)I" } : Jvm.MethodName)) ∈ lw_all := lw_g (lw_at lw_m6 200 rfl) rfl
theorem q1468 : (Jvm.Cond.methodLink "ToneGraphLaw" (190 : Nat) ({ cls := "ToneGraphModel", name := "endAll", desc := "()I" } : Jvm.MethodName)) ∈ lw_all := lw_g (lw_at lw_m6 216 rfl) rfl
theorem q1472 : (Jvm.Cond.methodLink "ToneGraphLaw" (194 : Nat) ({ cls := "ToneGraphModel", name := "sounding", desc := "()I" } : Jvm.MethodName)) ∈ lw_all := lw_g (lw_at lw_m6 220 rfl) rfl
theorem q1476 : (Jvm.Cond.methodLink "ToneGraphLaw" (197 : Nat) ({ cls := "ToneGraphModel", name := "stateOf", desc := "(I)C" } : Jvm.MethodName)) ∈ lw_all := lw_g (lw_at lw_m6 224 rfl) rfl
theorem q1483 : (Jvm.Cond.methodLink "ToneGraphLaw" (200 : Nat) ({ cls := "ToneGraphModel", name := "keyOf", desc := "(I)I" } : Jvm.MethodName)) ∈ lw_all := lw_g (lw_at lw_m6 231 rfl) rfl
theorem q1491 : (Jvm.Cond.methodLink "ToneGraphLaw" (203 : Nat) ({ cls := "ToneGraphModel", name := "levelOf", desc := "(I)I" } : Jvm.MethodName)) ∈ lw_all := lw_g (lw_at lw_m6 239 rfl) rfl
theorem q1495 : (Jvm.Cond.methodLink "ToneGraphLaw" (206 : Nat) ({ cls := "ToneGraphModel", name := "phaseOf", desc := "(I)I" } : Jvm.MethodName)) ∈ lw_all := lw_g (lw_at lw_m7 3 rfl) rfl
theorem q1499 : (Jvm.Cond.methodLink "ToneGraphLaw" (210 : Nat) ({ cls := "ToneGraphModel", name := "stolen", desc := "()I" } : Jvm.MethodName)) ∈ lw_all := lw_g (lw_at lw_m7 7 rfl) rfl
theorem q1503 : (Jvm.Cond.methodLink "ToneGraphLaw" (213 : Nat) ({ cls := "ToneGraphModel", name := "play", desc := "(I)I" } : Jvm.MethodName)) ∈ lw_all := lw_g (lw_at lw_m7 11 rfl) rfl
theorem q1556 : (Jvm.Cond.methodLink "ToneGraphLaw" (217 : Nat) ({ cls := "ToneGraphModel", name := "step", desc := "()I" } : Jvm.MethodName)) ∈ lw_all := lw_g (lw_at lw_m7 64 rfl) rfl
theorem q1560 : (Jvm.Cond.methodLink "ToneGraphLaw" (220 : Nat) ({ cls := "ToneGraphModel", name := "ahead", desc := "(I)I" } : Jvm.MethodName)) ∈ lw_all := lw_g (lw_at lw_m7 68 rfl) rfl
theorem q1568 : (Jvm.Cond.methodLink "ToneGraphLaw" (223 : Nat) ({ cls := "ToneGraphModel", name := "aheadByBlocks", desc := "(II)I" } : Jvm.MethodName)) ∈ lw_all := lw_g (lw_at lw_m7 76 rfl) rfl
theorem q1572 : (Jvm.Cond.methodLink "ToneGraphLaw" (226 : Nat) ({ cls := "ToneGraphModel", name := "heard", desc := "(I)I" } : Jvm.MethodName)) ∈ lw_all := lw_g (lw_at lw_m7 80 rfl) rfl
theorem q1576 : (Jvm.Cond.methodLink "ToneGraphLaw" (229 : Nat) ({ cls := "ToneGraphModel", name := "outputOf", desc := "(I)I" } : Jvm.MethodName)) ∈ lw_all := lw_g (lw_at lw_m7 84 rfl) rfl
theorem q1580 : (Jvm.Cond.methodLink "ToneGraphLaw" (233 : Nat) ({ cls := "ToneGraphModel", name := "time", desc := "()I" } : Jvm.MethodName)) ∈ lw_all := lw_g (lw_at lw_m7 88 rfl) rfl
theorem q1584 : (Jvm.Cond.methodLink "ToneGraphLaw" (237 : Nat) ({ cls := "ToneGraphModel", name := "greatest", desc := "()I" } : Jvm.MethodName)) ∈ lw_all := lw_g (lw_at lw_m7 92 rfl) rfl
theorem q1588 : (Jvm.Cond.methodLink "ToneGraphLaw" (242 : Nat) ({ cls := "ToneGraphModel", name := "energy", desc := "()J" } : Jvm.MethodName)) ∈ lw_all := lw_g (lw_at lw_m7 96 rfl) rfl
theorem q1592 : (Jvm.Cond.methodLink "ToneGraphLaw" (246 : Nat) ({ cls := "ToneGraphModel", name := "meanEnergy", desc := "()D" } : Jvm.MethodName)) ∈ lw_all := lw_g (lw_at lw_m7 100 rfl) rfl
theorem q1596 : (Jvm.Cond.methodLink "ToneGraphLaw" (249 : Nat) ({ cls := "ToneGraphModel", name := "quietShare", desc := "()F" } : Jvm.MethodName)) ∈ lw_all := lw_g (lw_at lw_m7 104 rfl) rfl
theorem q1600 : (Jvm.Cond.methodLink "ToneGraphLaw" (254 : Nat) ({ cls := "ToneGraphModel", name := "isConsistent", desc := "()Z" } : Jvm.MethodName)) ∈ lw_all := lw_g (lw_at lw_m7 108 rfl) rfl

/-! java/util/AbstractCollection -/
set_option maxRecDepth 100000
def RJ0 : String := "java/util/AbstractCollection"
abbrev cJ0_init : ByteArray := prog_30_method_1_code
def yJ0_init : MethodName := ⟨RJ0, "<init>", "()V"⟩
theorem dJ0_init_0 : decode cJ0_init 0 = .ok (.aload_n 0, 1) := by decide +kernel
theorem dJ0_init_1 : decode cJ0_init 1 = .ok (.invokespecial 1, 3) := by decide +kernel
theorem dJ0_init_4 : decode cJ0_init 4 = .ok (.return_, 1) := by decide +kernel
theorem q54 : (Jvm.Cond.initialized "java/util/AbstractCollection") ∈ lw_all := lw_g (lw_at lw_m1 2 rfl) rfl
theorem q101 : (Jvm.Cond.instanceMethod ({ cls := "java/util/AbstractCollection", name := "<init>", desc := "()V" } : Jvm.MethodName)) ∈ lw_all := lw_g (lw_at lw_m1 49 rfl) rfl
theorem q102 : (Jvm.Cond.code ({ cls := "java/util/AbstractCollection", name := "<init>", desc := "()V" } : Jvm.MethodName) prog_30_method_1_code (1 : Nat) (Option.none : Option Jvm.ClassFile.FieldType)) ∈ lw_all := lw_g (lw_at lw_m1 50 rfl) rfl
theorem q103 : (Jvm.Cond.methodLink "java/util/AbstractCollection" (1 : Nat) ({ cls := "java/lang/Object", name := "<init>", desc := "()V" } : Jvm.MethodName)) ∈ lw_all := lw_g (lw_at lw_m1 51 rfl) rfl

/-! java/util/AbstractList -/
set_option maxRecDepth 100000
def RJ1 : String := "java/util/AbstractList"
abbrev cJ1_init : ByteArray := prog_31_method_1_code
def yJ1_init : MethodName := ⟨RJ1, "<init>", "()V"⟩
def dkwJ1_init_0 : List UInt8 := [42, 183, 0, 1, 42, 3, 181, 0, 7, 177]
abbrev dktJ1_init_0 : List UInt8 := dkwJ1_init_0 ++ []
theorem dksJ1_init_0 : cJ1_init.data.toList.drop 0 = dktJ1_init_0 := by decide +kernel
theorem dJ1_init_0 : decode cJ1_init 0 = .ok (.aload_n 0, 1) := dk_42 (dk_at dksJ1_init_0 0 rfl rfl)
theorem dJ1_init_1 : decode cJ1_init 1 = .ok (.invokespecial 1, 3) := dk_183 0 1 (dk_at dksJ1_init_0 1 rfl rfl)
theorem dJ1_init_4 : decode cJ1_init 4 = .ok (.aload_n 0, 1) := dk_42 (dk_at dksJ1_init_0 4 rfl rfl)
theorem dJ1_init_5 : decode cJ1_init 5 = .ok (.iconst 0, 1) := dk_3 (dk_at dksJ1_init_0 5 rfl rfl)
theorem dJ1_init_6 : decode cJ1_init 6 = .ok (.putfield 7, 3) := dk_181 0 7 (dk_at dksJ1_init_0 6 rfl rfl)
theorem dJ1_init_9 : decode cJ1_init 9 = .ok (.return_, 1) := dk_177 (dk_at dksJ1_init_0 9 rfl rfl)
theorem q55 : (Jvm.Cond.initialized "java/util/AbstractList") ∈ lw_all := lw_g (lw_at lw_m1 3 rfl) rfl
theorem q98 : (Jvm.Cond.instanceMethod ({ cls := "java/util/AbstractList", name := "<init>", desc := "()V" } : Jvm.MethodName)) ∈ lw_all := lw_g (lw_at lw_m1 46 rfl) rfl
theorem q99 : (Jvm.Cond.code ({ cls := "java/util/AbstractList", name := "<init>", desc := "()V" } : Jvm.MethodName) prog_31_method_1_code (1 : Nat) (Option.none : Option Jvm.ClassFile.FieldType)) ∈ lw_all := lw_g (lw_at lw_m1 47 rfl) rfl
theorem q100 : (Jvm.Cond.methodLink "java/util/AbstractList" (1 : Nat) ({ cls := "java/util/AbstractCollection", name := "<init>", desc := "()V" } : Jvm.MethodName)) ∈ lw_all := lw_g (lw_at lw_m1 48 rfl) rfl
theorem q108 : (Jvm.Cond.fieldLink "java/util/AbstractList" (7 : Nat) "java/util/AbstractList" "modCount" "I") ∈ lw_all := lw_g (lw_at lw_m1 56 rfl) rfl
theorem q116 : (Jvm.Cond.soleField "java/util/AbstractList" "modCount") ∈ lw_all := lw_g (lw_at lw_m1 64 rfl) rfl

/-! java/util/ArrayList -/
set_option maxRecDepth 100000
def RJ2 : String := "java/util/ArrayList"
def TJ2 : u_T := fun k => match k with
  | 0 => ("java/util/AbstractList", "modCount", "I", false)
  | 1 => ("java/util/ArrayList", "elementData", "[Ljava/lang/Object;", false)
  | _ => ("java/util/ArrayList", "size", "I", false)
def tyJ2 : Nat → FieldType := fun k => match k with
  | 0 => .int
  | 1 => .array (.object "java/lang/Object")
  | _ => .int
abbrev wsJ20 : List Cond := u_ws RJ2 TJ2 3
theorem nmJ2 : ∀ a, a < 3 → ∀ b, b < 3 → a ≠ b → (TJ2 a).2.1 ≠ (TJ2 b).2.1 := by decide +kernel
theorem tyJ2_ok : ∀ k, k < 3 → parseFieldDescriptor (TJ2 k).2.2.1 = some (tyJ2 k) := by decide +kernel
abbrev cJ2_init : ByteArray := prog_32_method_2_code
def yJ2_init : MethodName := ⟨RJ2, "<init>", "()V"⟩
def dkwJ2_init_0 : List UInt8 := [42, 183, 0, 1, 42, 178, 0, 39, 181, 0, 9, 177]
abbrev dktJ2_init_0 : List UInt8 := dkwJ2_init_0 ++ []
theorem dksJ2_init_0 : cJ2_init.data.toList.drop 0 = dktJ2_init_0 := by decide +kernel
theorem dJ2_init_0 : decode cJ2_init 0 = .ok (.aload_n 0, 1) := dk_42 (dk_at dksJ2_init_0 0 rfl rfl)
theorem dJ2_init_1 : decode cJ2_init 1 = .ok (.invokespecial 1, 3) := dk_183 0 1 (dk_at dksJ2_init_0 1 rfl rfl)
theorem dJ2_init_4 : decode cJ2_init 4 = .ok (.aload_n 0, 1) := dk_42 (dk_at dksJ2_init_0 4 rfl rfl)
theorem dJ2_init_5 : decode cJ2_init 5 = .ok (.getstatic 39, 3) := dk_178 0 39 (dk_at dksJ2_init_0 5 rfl rfl)
theorem dJ2_init_8 : decode cJ2_init 8 = .ok (.putfield 9, 3) := dk_181 0 9 (dk_at dksJ2_init_0 8 rfl rfl)
theorem dJ2_init_11 : decode cJ2_init 11 = .ok (.return_, 1) := dk_177 (dk_at dksJ2_init_0 11 rfl rfl)
abbrev cJ2_add : ByteArray := prog_32_method_25_code
def yJ2_add : MethodName := ⟨RJ2, "add", "(Ljava/lang/Object;)Z"⟩
def dkwJ2_add_1 : List UInt8 := [172]
abbrev dktJ2_add_1 : List UInt8 := dkwJ2_add_1 ++ []
def dkwJ2_add_0 : List UInt8 := [42, 89, 180, 0, 63, 4, 96, 181, 0, 63, 42, 43, 42, 180, 0, 9, 42, 180, 0, 48, 182, 0, 131, 4]
abbrev dktJ2_add_0 : List UInt8 := dkwJ2_add_0 ++ dktJ2_add_1
theorem dksJ2_add_0 : cJ2_add.data.toList.drop 0 = dktJ2_add_0 := by decide +kernel
theorem dksJ2_add_1 : cJ2_add.data.toList.drop 24 = dktJ2_add_1 := dk_seg dksJ2_add_0 24 rfl rfl
theorem dJ2_add_0 : decode cJ2_add 0 = .ok (.aload_n 0, 1) := dk_42 (dk_at dksJ2_add_0 0 rfl rfl)
theorem dJ2_add_1 : decode cJ2_add 1 = .ok (.dup, 1) := dk_89 (dk_at dksJ2_add_0 1 rfl rfl)
theorem dJ2_add_2 : decode cJ2_add 2 = .ok (.getfield 63, 3) := dk_180 0 63 (dk_at dksJ2_add_0 2 rfl rfl)
theorem dJ2_add_5 : decode cJ2_add 5 = .ok (.iconst 1, 1) := dk_4 (dk_at dksJ2_add_0 5 rfl rfl)
theorem dJ2_add_6 : decode cJ2_add 6 = .ok (.iadd, 1) := dk_96 (dk_at dksJ2_add_0 6 rfl rfl)
theorem dJ2_add_7 : decode cJ2_add 7 = .ok (.putfield 63, 3) := dk_181 0 63 (dk_at dksJ2_add_0 7 rfl rfl)
theorem dJ2_add_10 : decode cJ2_add 10 = .ok (.aload_n 0, 1) := dk_42 (dk_at dksJ2_add_0 10 rfl rfl)
theorem dJ2_add_11 : decode cJ2_add 11 = .ok (.aload_n 1, 1) := dk_43 (dk_at dksJ2_add_0 11 rfl rfl)
theorem dJ2_add_12 : decode cJ2_add 12 = .ok (.aload_n 0, 1) := dk_42 (dk_at dksJ2_add_0 12 rfl rfl)
theorem dJ2_add_13 : decode cJ2_add 13 = .ok (.getfield 9, 3) := dk_180 0 9 (dk_at dksJ2_add_0 13 rfl rfl)
theorem dJ2_add_16 : decode cJ2_add 16 = .ok (.aload_n 0, 1) := dk_42 (dk_at dksJ2_add_0 16 rfl rfl)
theorem dJ2_add_17 : decode cJ2_add 17 = .ok (.getfield 48, 3) := dk_180 0 48 (dk_at dksJ2_add_0 17 rfl rfl)
theorem dJ2_add_20 : decode cJ2_add 20 = .ok (.invokevirtual 131, 3) := dk_182 0 131 (dk_at dksJ2_add_0 20 rfl rfl)
theorem dJ2_add_23 : decode cJ2_add 23 = .ok (.iconst 1, 1) := dk_4 (dk_at dksJ2_add_0 23 rfl rfl)
theorem dJ2_add_24 : decode cJ2_add 24 = .ok (.ireturn, 1) := dk_172 (dk_at dksJ2_add_1 0 rfl rfl)
abbrev cJ2_add_2 : ByteArray := prog_32_method_24_code
def yJ2_add_2 : MethodName := ⟨RJ2, "add", "(Ljava/lang/Object;[Ljava/lang/Object;I)V"⟩
def dkwJ2_add_2_0 : List UInt8 := [29, 44, 190, 160, 0, 8, 42, 182, 0, 129, 77, 44, 29, 43, 83, 42, 29, 4, 96, 181, 0, 48, 177]
abbrev dktJ2_add_2_0 : List UInt8 := dkwJ2_add_2_0 ++ []
theorem dksJ2_add_2_0 : cJ2_add_2.data.toList.drop 0 = dktJ2_add_2_0 := by decide +kernel
theorem dJ2_add_2_0 : decode cJ2_add_2 0 = .ok (.iload_n 3, 1) := dk_29 (dk_at dksJ2_add_2_0 0 rfl rfl)
theorem dJ2_add_2_1 : decode cJ2_add_2 1 = .ok (.aload_n 2, 1) := dk_44 (dk_at dksJ2_add_2_0 1 rfl rfl)
theorem dJ2_add_2_2 : decode cJ2_add_2 2 = .ok (.arraylength, 1) := dk_190 (dk_at dksJ2_add_2_0 2 rfl rfl)
theorem dJ2_add_2_3 : decode cJ2_add_2 3 = .ok (.if_icmp .ne 8, 3) := dk_160 0 8 (dk_at dksJ2_add_2_0 3 rfl rfl)
theorem dJ2_add_2_6 : decode cJ2_add_2 6 = .ok (.aload_n 0, 1) := dk_42 (dk_at dksJ2_add_2_0 6 rfl rfl)
theorem dJ2_add_2_7 : decode cJ2_add_2 7 = .ok (.invokevirtual 129, 3) := dk_182 0 129 (dk_at dksJ2_add_2_0 7 rfl rfl)
theorem dJ2_add_2_10 : decode cJ2_add_2 10 = .ok (.astore_n 2, 1) := dk_77 (dk_at dksJ2_add_2_0 10 rfl rfl)
theorem dJ2_add_2_11 : decode cJ2_add_2 11 = .ok (.aload_n 2, 1) := dk_44 (dk_at dksJ2_add_2_0 11 rfl rfl)
theorem dJ2_add_2_12 : decode cJ2_add_2 12 = .ok (.iload_n 3, 1) := dk_29 (dk_at dksJ2_add_2_0 12 rfl rfl)
theorem dJ2_add_2_13 : decode cJ2_add_2 13 = .ok (.aload_n 1, 1) := dk_43 (dk_at dksJ2_add_2_0 13 rfl rfl)
theorem dJ2_add_2_14 : decode cJ2_add_2 14 = .ok (.aastore, 1) := dk_83 (dk_at dksJ2_add_2_0 14 rfl rfl)
theorem dJ2_add_2_15 : decode cJ2_add_2 15 = .ok (.aload_n 0, 1) := dk_42 (dk_at dksJ2_add_2_0 15 rfl rfl)
theorem dJ2_add_2_16 : decode cJ2_add_2 16 = .ok (.iload_n 3, 1) := dk_29 (dk_at dksJ2_add_2_0 16 rfl rfl)
theorem dJ2_add_2_17 : decode cJ2_add_2 17 = .ok (.iconst 1, 1) := dk_4 (dk_at dksJ2_add_2_0 17 rfl rfl)
theorem dJ2_add_2_18 : decode cJ2_add_2 18 = .ok (.iadd, 1) := dk_96 (dk_at dksJ2_add_2_0 18 rfl rfl)
theorem dJ2_add_2_19 : decode cJ2_add_2 19 = .ok (.putfield 48, 3) := dk_181 0 48 (dk_at dksJ2_add_2_0 19 rfl rfl)
theorem dJ2_add_2_22 : decode cJ2_add_2 22 = .ok (.return_, 1) := dk_177 (dk_at dksJ2_add_2_0 22 rfl rfl)
abbrev cJ2_grow : ByteArray := prog_32_method_7_code
def yJ2_grow : MethodName := ⟨RJ2, "grow", "()[Ljava/lang/Object;"⟩
def dkwJ2_grow_0 : List UInt8 := [42, 42, 180, 0, 48, 4, 96, 182, 0, 69, 176]
abbrev dktJ2_grow_0 : List UInt8 := dkwJ2_grow_0 ++ []
theorem dksJ2_grow_0 : cJ2_grow.data.toList.drop 0 = dktJ2_grow_0 := by decide +kernel
theorem dJ2_grow_0 : decode cJ2_grow 0 = .ok (.aload_n 0, 1) := dk_42 (dk_at dksJ2_grow_0 0 rfl rfl)
theorem dJ2_grow_1 : decode cJ2_grow 1 = .ok (.aload_n 0, 1) := dk_42 (dk_at dksJ2_grow_0 1 rfl rfl)
theorem dJ2_grow_2 : decode cJ2_grow 2 = .ok (.getfield 48, 3) := dk_180 0 48 (dk_at dksJ2_grow_0 2 rfl rfl)
theorem dJ2_grow_5 : decode cJ2_grow 5 = .ok (.iconst 1, 1) := dk_4 (dk_at dksJ2_grow_0 5 rfl rfl)
theorem dJ2_grow_6 : decode cJ2_grow 6 = .ok (.iadd, 1) := dk_96 (dk_at dksJ2_grow_0 6 rfl rfl)
theorem dJ2_grow_7 : decode cJ2_grow 7 = .ok (.invokevirtual 69, 3) := dk_182 0 69 (dk_at dksJ2_grow_0 7 rfl rfl)
theorem dJ2_grow_10 : decode cJ2_grow 10 = .ok (.areturn, 1) := dk_176 (dk_at dksJ2_grow_0 10 rfl rfl)
abbrev cJ2_grow_2 : ByteArray := prog_32_method_6_code
def yJ2_grow_2 : MethodName := ⟨RJ2, "grow", "(I)[Ljava/lang/Object;"⟩
def dkwJ2_grow_2_2 : List UInt8 := [27, 184, 0, 79, 189, 0, 7, 90, 181, 0, 9, 176]
abbrev dktJ2_grow_2_2 : List UInt8 := dkwJ2_grow_2_2 ++ []
def dkwJ2_grow_2_1 : List UInt8 := [28, 4, 122, 184, 0, 73, 62, 42, 42, 180, 0, 9, 29, 184, 0, 66, 90, 181, 0, 9, 176, 42, 16, 10]
abbrev dktJ2_grow_2_1 : List UInt8 := dkwJ2_grow_2_1 ++ dktJ2_grow_2_2
def dkwJ2_grow_2_0 : List UInt8 := [42, 180, 0, 9, 190, 61, 28, 157, 0, 13, 42, 180, 0, 9, 178, 0, 39, 165, 0, 28, 28, 27, 28, 100]
abbrev dktJ2_grow_2_0 : List UInt8 := dkwJ2_grow_2_0 ++ dktJ2_grow_2_1
theorem dksJ2_grow_2_0 : cJ2_grow_2.data.toList.drop 0 = dktJ2_grow_2_0 := by decide +kernel
theorem dksJ2_grow_2_1 : cJ2_grow_2.data.toList.drop 24 = dktJ2_grow_2_1 := dk_seg dksJ2_grow_2_0 24 rfl rfl
theorem dksJ2_grow_2_2 : cJ2_grow_2.data.toList.drop 48 = dktJ2_grow_2_2 := dk_seg dksJ2_grow_2_1 24 rfl rfl
theorem dJ2_grow_2_0 : decode cJ2_grow_2 0 = .ok (.aload_n 0, 1) := dk_42 (dk_at dksJ2_grow_2_0 0 rfl rfl)
theorem dJ2_grow_2_1 : decode cJ2_grow_2 1 = .ok (.getfield 9, 3) := dk_180 0 9 (dk_at dksJ2_grow_2_0 1 rfl rfl)
theorem dJ2_grow_2_4 : decode cJ2_grow_2 4 = .ok (.arraylength, 1) := dk_190 (dk_at dksJ2_grow_2_0 4 rfl rfl)
theorem dJ2_grow_2_5 : decode cJ2_grow_2 5 = .ok (.istore_n 2, 1) := dk_61 (dk_at dksJ2_grow_2_0 5 rfl rfl)
theorem dJ2_grow_2_6 : decode cJ2_grow_2 6 = .ok (.iload_n 2, 1) := dk_28 (dk_at dksJ2_grow_2_0 6 rfl rfl)
theorem dJ2_grow_2_7 : decode cJ2_grow_2 7 = .ok (.ifCond .gt 13, 3) := dk_157 0 13 (dk_at dksJ2_grow_2_0 7 rfl rfl)
theorem dJ2_grow_2_10 : decode cJ2_grow_2 10 = .ok (.aload_n 0, 1) := dk_42 (dk_at dksJ2_grow_2_0 10 rfl rfl)
theorem dJ2_grow_2_11 : decode cJ2_grow_2 11 = .ok (.getfield 9, 3) := dk_180 0 9 (dk_at dksJ2_grow_2_0 11 rfl rfl)
theorem dJ2_grow_2_14 : decode cJ2_grow_2 14 = .ok (.getstatic 39, 3) := dk_178 0 39 (dk_at dksJ2_grow_2_0 14 rfl rfl)
theorem dJ2_grow_2_17 : decode cJ2_grow_2 17 = .ok (.if_acmp .eq 28, 3) := dk_165 0 28 (dk_at dksJ2_grow_2_0 17 rfl rfl)
theorem dJ2_grow_2_20 : decode cJ2_grow_2 20 = .ok (.iload_n 2, 1) := dk_28 (dk_at dksJ2_grow_2_0 20 rfl rfl)
theorem dJ2_grow_2_21 : decode cJ2_grow_2 21 = .ok (.iload_n 1, 1) := dk_27 (dk_at dksJ2_grow_2_0 21 rfl rfl)
theorem dJ2_grow_2_22 : decode cJ2_grow_2 22 = .ok (.iload_n 2, 1) := dk_28 (dk_at dksJ2_grow_2_0 22 rfl rfl)
theorem dJ2_grow_2_23 : decode cJ2_grow_2 23 = .ok (.isub, 1) := dk_100 (dk_at dksJ2_grow_2_0 23 rfl rfl)
theorem dJ2_grow_2_24 : decode cJ2_grow_2 24 = .ok (.iload_n 2, 1) := dk_28 (dk_at dksJ2_grow_2_1 0 rfl rfl)
theorem dJ2_grow_2_25 : decode cJ2_grow_2 25 = .ok (.iconst 1, 1) := dk_4 (dk_at dksJ2_grow_2_1 1 rfl rfl)
theorem dJ2_grow_2_26 : decode cJ2_grow_2 26 = .ok (.ishr, 1) := dk_122 (dk_at dksJ2_grow_2_1 2 rfl rfl)
theorem dJ2_grow_2_27 : decode cJ2_grow_2 27 = .ok (.invokestatic 73, 3) := dk_184 0 73 (dk_at dksJ2_grow_2_1 3 rfl rfl)
theorem dJ2_grow_2_30 : decode cJ2_grow_2 30 = .ok (.istore_n 3, 1) := dk_62 (dk_at dksJ2_grow_2_1 6 rfl rfl)
theorem dJ2_grow_2_31 : decode cJ2_grow_2 31 = .ok (.aload_n 0, 1) := dk_42 (dk_at dksJ2_grow_2_1 7 rfl rfl)
theorem dJ2_grow_2_32 : decode cJ2_grow_2 32 = .ok (.aload_n 0, 1) := dk_42 (dk_at dksJ2_grow_2_1 8 rfl rfl)
theorem dJ2_grow_2_33 : decode cJ2_grow_2 33 = .ok (.getfield 9, 3) := dk_180 0 9 (dk_at dksJ2_grow_2_1 9 rfl rfl)
theorem dJ2_grow_2_36 : decode cJ2_grow_2 36 = .ok (.iload_n 3, 1) := dk_29 (dk_at dksJ2_grow_2_1 12 rfl rfl)
theorem dJ2_grow_2_37 : decode cJ2_grow_2 37 = .ok (.invokestatic 66, 3) := dk_184 0 66 (dk_at dksJ2_grow_2_1 13 rfl rfl)
theorem dJ2_grow_2_40 : decode cJ2_grow_2 40 = .ok (.dup_x1, 1) := dk_90 (dk_at dksJ2_grow_2_1 16 rfl rfl)
theorem dJ2_grow_2_41 : decode cJ2_grow_2 41 = .ok (.putfield 9, 3) := dk_181 0 9 (dk_at dksJ2_grow_2_1 17 rfl rfl)
theorem dJ2_grow_2_44 : decode cJ2_grow_2 44 = .ok (.areturn, 1) := dk_176 (dk_at dksJ2_grow_2_1 20 rfl rfl)
theorem dJ2_grow_2_45 : decode cJ2_grow_2 45 = .ok (.aload_n 0, 1) := dk_42 (dk_at dksJ2_grow_2_1 21 rfl rfl)
theorem dJ2_grow_2_46 : decode cJ2_grow_2 46 = .ok (.bipush 10, 2) := dk_16 10 (dk_at dksJ2_grow_2_1 22 rfl rfl)
theorem dJ2_grow_2_48 : decode cJ2_grow_2 48 = .ok (.iload_n 1, 1) := dk_27 (dk_at dksJ2_grow_2_2 0 rfl rfl)
theorem dJ2_grow_2_49 : decode cJ2_grow_2 49 = .ok (.invokestatic 79, 3) := dk_184 0 79 (dk_at dksJ2_grow_2_2 1 rfl rfl)
theorem dJ2_grow_2_52 : decode cJ2_grow_2 52 = .ok (.anewarray 7, 3) := dk_189 0 7 (dk_at dksJ2_grow_2_2 4 rfl rfl)
theorem dJ2_grow_2_55 : decode cJ2_grow_2 55 = .ok (.dup_x1, 1) := dk_90 (dk_at dksJ2_grow_2_2 7 rfl rfl)
theorem dJ2_grow_2_56 : decode cJ2_grow_2 56 = .ok (.putfield 9, 3) := dk_181 0 9 (dk_at dksJ2_grow_2_2 8 rfl rfl)
theorem dJ2_grow_2_59 : decode cJ2_grow_2 59 = .ok (.areturn, 1) := dk_176 (dk_at dksJ2_grow_2_2 11 rfl rfl)
abbrev cJ2_size : ByteArray := prog_32_method_8_code
def yJ2_size : MethodName := ⟨RJ2, "size", "()I"⟩
theorem dJ2_size_0 : decode cJ2_size 0 = .ok (.aload_n 0, 1) := by decide +kernel
theorem dJ2_size_1 : decode cJ2_size 1 = .ok (.getfield 48, 3) := by decide +kernel
theorem dJ2_size_4 : decode cJ2_size 4 = .ok (.ireturn, 1) := by decide +kernel
abbrev cJ2_get : ByteArray := prog_32_method_20_code
def yJ2_get : MethodName := ⟨RJ2, "get", "(I)Ljava/lang/Object;"⟩
def dkwJ2_get_0 : List UInt8 := [27, 42, 180, 0, 48, 184, 0, 118, 87, 42, 27, 182, 0, 123, 176]
abbrev dktJ2_get_0 : List UInt8 := dkwJ2_get_0 ++ []
theorem dksJ2_get_0 : cJ2_get.data.toList.drop 0 = dktJ2_get_0 := by decide +kernel
theorem dJ2_get_0 : decode cJ2_get 0 = .ok (.iload_n 1, 1) := dk_27 (dk_at dksJ2_get_0 0 rfl rfl)
theorem dJ2_get_1 : decode cJ2_get 1 = .ok (.aload_n 0, 1) := dk_42 (dk_at dksJ2_get_0 1 rfl rfl)
theorem dJ2_get_2 : decode cJ2_get 2 = .ok (.getfield 48, 3) := dk_180 0 48 (dk_at dksJ2_get_0 2 rfl rfl)
theorem dJ2_get_5 : decode cJ2_get 5 = .ok (.invokestatic 118, 3) := dk_184 0 118 (dk_at dksJ2_get_0 5 rfl rfl)
theorem dJ2_get_8 : decode cJ2_get 8 = .ok (.pop, 1) := dk_87 (dk_at dksJ2_get_0 8 rfl rfl)
theorem dJ2_get_9 : decode cJ2_get 9 = .ok (.aload_n 0, 1) := dk_42 (dk_at dksJ2_get_0 9 rfl rfl)
theorem dJ2_get_10 : decode cJ2_get 10 = .ok (.iload_n 1, 1) := dk_27 (dk_at dksJ2_get_0 10 rfl rfl)
theorem dJ2_get_11 : decode cJ2_get 11 = .ok (.invokevirtual 123, 3) := dk_182 0 123 (dk_at dksJ2_get_0 11 rfl rfl)
theorem dJ2_get_14 : decode cJ2_get 14 = .ok (.areturn, 1) := dk_176 (dk_at dksJ2_get_0 14 rfl rfl)
abbrev cJ2_elementData : ByteArray := prog_32_method_18_code
def yJ2_elementData : MethodName := ⟨RJ2, "elementData", "(I)Ljava/lang/Object;"⟩
def dkwJ2_elementData_0 : List UInt8 := [42, 180, 0, 9, 27, 50, 176]
abbrev dktJ2_elementData_0 : List UInt8 := dkwJ2_elementData_0 ++ []
theorem dksJ2_elementData_0 : cJ2_elementData.data.toList.drop 0 = dktJ2_elementData_0 := by decide +kernel
theorem dJ2_elementData_0 : decode cJ2_elementData 0 = .ok (.aload_n 0, 1) := dk_42 (dk_at dksJ2_elementData_0 0 rfl rfl)
theorem dJ2_elementData_1 : decode cJ2_elementData 1 = .ok (.getfield 9, 3) := dk_180 0 9 (dk_at dksJ2_elementData_0 1 rfl rfl)
theorem dJ2_elementData_4 : decode cJ2_elementData 4 = .ok (.iload_n 1, 1) := dk_27 (dk_at dksJ2_elementData_0 4 rfl rfl)
theorem dJ2_elementData_5 : decode cJ2_elementData 5 = .ok (.aaload, 1) := dk_50 (dk_at dksJ2_elementData_0 5 rfl rfl)
theorem dJ2_elementData_6 : decode cJ2_elementData 6 = .ok (.areturn, 1) := dk_176 (dk_at dksJ2_elementData_0 6 rfl rfl)
abbrev cJ2_clear : ByteArray := prog_32_method_40_code
def yJ2_clear : MethodName := ⟨RJ2, "clear", "()V"⟩
def dkwJ2_clear_1 : List UInt8 := [181, 0, 48, 62, 29, 28, 162, 0, 13, 43, 29, 1, 83, 132, 3, 1, 167, 255, 244, 177]
abbrev dktJ2_clear_1 : List UInt8 := dkwJ2_clear_1 ++ []
def dkwJ2_clear_0 : List UInt8 := [42, 89, 180, 0, 63, 4, 96, 181, 0, 63, 42, 180, 0, 9, 76, 42, 180, 0, 48, 61, 42, 3, 90]
abbrev dktJ2_clear_0 : List UInt8 := dkwJ2_clear_0 ++ dktJ2_clear_1
theorem dksJ2_clear_0 : cJ2_clear.data.toList.drop 0 = dktJ2_clear_0 := by decide +kernel
theorem dksJ2_clear_1 : cJ2_clear.data.toList.drop 23 = dktJ2_clear_1 := dk_seg dksJ2_clear_0 23 rfl rfl
theorem dJ2_clear_0 : decode cJ2_clear 0 = .ok (.aload_n 0, 1) := dk_42 (dk_at dksJ2_clear_0 0 rfl rfl)
theorem dJ2_clear_1 : decode cJ2_clear 1 = .ok (.dup, 1) := dk_89 (dk_at dksJ2_clear_0 1 rfl rfl)
theorem dJ2_clear_2 : decode cJ2_clear 2 = .ok (.getfield 63, 3) := dk_180 0 63 (dk_at dksJ2_clear_0 2 rfl rfl)
theorem dJ2_clear_5 : decode cJ2_clear 5 = .ok (.iconst 1, 1) := dk_4 (dk_at dksJ2_clear_0 5 rfl rfl)
theorem dJ2_clear_6 : decode cJ2_clear 6 = .ok (.iadd, 1) := dk_96 (dk_at dksJ2_clear_0 6 rfl rfl)
theorem dJ2_clear_7 : decode cJ2_clear 7 = .ok (.putfield 63, 3) := dk_181 0 63 (dk_at dksJ2_clear_0 7 rfl rfl)
theorem dJ2_clear_10 : decode cJ2_clear 10 = .ok (.aload_n 0, 1) := dk_42 (dk_at dksJ2_clear_0 10 rfl rfl)
theorem dJ2_clear_11 : decode cJ2_clear 11 = .ok (.getfield 9, 3) := dk_180 0 9 (dk_at dksJ2_clear_0 11 rfl rfl)
theorem dJ2_clear_14 : decode cJ2_clear 14 = .ok (.astore_n 1, 1) := dk_76 (dk_at dksJ2_clear_0 14 rfl rfl)
theorem dJ2_clear_15 : decode cJ2_clear 15 = .ok (.aload_n 0, 1) := dk_42 (dk_at dksJ2_clear_0 15 rfl rfl)
theorem dJ2_clear_16 : decode cJ2_clear 16 = .ok (.getfield 48, 3) := dk_180 0 48 (dk_at dksJ2_clear_0 16 rfl rfl)
theorem dJ2_clear_19 : decode cJ2_clear 19 = .ok (.istore_n 2, 1) := dk_61 (dk_at dksJ2_clear_0 19 rfl rfl)
theorem dJ2_clear_20 : decode cJ2_clear 20 = .ok (.aload_n 0, 1) := dk_42 (dk_at dksJ2_clear_0 20 rfl rfl)
theorem dJ2_clear_21 : decode cJ2_clear 21 = .ok (.iconst 0, 1) := dk_3 (dk_at dksJ2_clear_0 21 rfl rfl)
theorem dJ2_clear_22 : decode cJ2_clear 22 = .ok (.dup_x1, 1) := dk_90 (dk_at dksJ2_clear_0 22 rfl rfl)
theorem dJ2_clear_23 : decode cJ2_clear 23 = .ok (.putfield 48, 3) := dk_181 0 48 (dk_at dksJ2_clear_1 0 rfl rfl)
theorem dJ2_clear_26 : decode cJ2_clear 26 = .ok (.istore_n 3, 1) := dk_62 (dk_at dksJ2_clear_1 3 rfl rfl)
theorem dJ2_clear_27 : decode cJ2_clear 27 = .ok (.iload_n 3, 1) := dk_29 (dk_at dksJ2_clear_1 4 rfl rfl)
theorem dJ2_clear_28 : decode cJ2_clear 28 = .ok (.iload_n 2, 1) := dk_28 (dk_at dksJ2_clear_1 5 rfl rfl)
theorem dJ2_clear_29 : decode cJ2_clear 29 = .ok (.if_icmp .ge 13, 3) := dk_162 0 13 (dk_at dksJ2_clear_1 6 rfl rfl)
theorem dJ2_clear_32 : decode cJ2_clear 32 = .ok (.aload_n 1, 1) := dk_43 (dk_at dksJ2_clear_1 9 rfl rfl)
theorem dJ2_clear_33 : decode cJ2_clear 33 = .ok (.iload_n 3, 1) := dk_29 (dk_at dksJ2_clear_1 10 rfl rfl)
theorem dJ2_clear_34 : decode cJ2_clear 34 = .ok (.aconst_null, 1) := dk_1 (dk_at dksJ2_clear_1 11 rfl rfl)
theorem dJ2_clear_35 : decode cJ2_clear 35 = .ok (.aastore, 1) := dk_83 (dk_at dksJ2_clear_1 12 rfl rfl)
theorem dJ2_clear_36 : decode cJ2_clear 36 = .ok (.iinc 3 1, 3) := dk_132 3 1 (dk_at dksJ2_clear_1 13 rfl rfl)
theorem dJ2_clear_39 : decode cJ2_clear 39 = .ok (.goto (-12), 3) := dk_167 255 244 (dk_at dksJ2_clear_1 16 rfl rfl)
theorem dJ2_clear_42 : decode cJ2_clear 42 = .ok (.return_, 1) := dk_177 (dk_at dksJ2_clear_1 19 rfl rfl)
abbrev cJ2_remove : ByteArray := prog_32_method_29_code
def yJ2_remove : MethodName := ⟨RJ2, "remove", "(I)Ljava/lang/Object;"⟩
def dkwJ2_remove_1 : List UInt8 := [45, 176]
abbrev dktJ2_remove_1 : List UInt8 := dkwJ2_remove_1 ++ []
def dkwJ2_remove_0 : List UInt8 := [27, 42, 180, 0, 48, 184, 0, 118, 87, 42, 180, 0, 9, 77, 44, 27, 50, 78, 42, 44, 27, 182, 0, 144]
abbrev dktJ2_remove_0 : List UInt8 := dkwJ2_remove_0 ++ dktJ2_remove_1
theorem dksJ2_remove_0 : cJ2_remove.data.toList.drop 0 = dktJ2_remove_0 := by decide +kernel
theorem dksJ2_remove_1 : cJ2_remove.data.toList.drop 24 = dktJ2_remove_1 := dk_seg dksJ2_remove_0 24 rfl rfl
theorem dJ2_remove_0 : decode cJ2_remove 0 = .ok (.iload_n 1, 1) := dk_27 (dk_at dksJ2_remove_0 0 rfl rfl)
theorem dJ2_remove_1 : decode cJ2_remove 1 = .ok (.aload_n 0, 1) := dk_42 (dk_at dksJ2_remove_0 1 rfl rfl)
theorem dJ2_remove_2 : decode cJ2_remove 2 = .ok (.getfield 48, 3) := dk_180 0 48 (dk_at dksJ2_remove_0 2 rfl rfl)
theorem dJ2_remove_5 : decode cJ2_remove 5 = .ok (.invokestatic 118, 3) := dk_184 0 118 (dk_at dksJ2_remove_0 5 rfl rfl)
theorem dJ2_remove_8 : decode cJ2_remove 8 = .ok (.pop, 1) := dk_87 (dk_at dksJ2_remove_0 8 rfl rfl)
theorem dJ2_remove_9 : decode cJ2_remove 9 = .ok (.aload_n 0, 1) := dk_42 (dk_at dksJ2_remove_0 9 rfl rfl)
theorem dJ2_remove_10 : decode cJ2_remove 10 = .ok (.getfield 9, 3) := dk_180 0 9 (dk_at dksJ2_remove_0 10 rfl rfl)
theorem dJ2_remove_13 : decode cJ2_remove 13 = .ok (.astore_n 2, 1) := dk_77 (dk_at dksJ2_remove_0 13 rfl rfl)
theorem dJ2_remove_14 : decode cJ2_remove 14 = .ok (.aload_n 2, 1) := dk_44 (dk_at dksJ2_remove_0 14 rfl rfl)
theorem dJ2_remove_15 : decode cJ2_remove 15 = .ok (.iload_n 1, 1) := dk_27 (dk_at dksJ2_remove_0 15 rfl rfl)
theorem dJ2_remove_16 : decode cJ2_remove 16 = .ok (.aaload, 1) := dk_50 (dk_at dksJ2_remove_0 16 rfl rfl)
theorem dJ2_remove_17 : decode cJ2_remove 17 = .ok (.astore_n 3, 1) := dk_78 (dk_at dksJ2_remove_0 17 rfl rfl)
theorem dJ2_remove_18 : decode cJ2_remove 18 = .ok (.aload_n 0, 1) := dk_42 (dk_at dksJ2_remove_0 18 rfl rfl)
theorem dJ2_remove_19 : decode cJ2_remove 19 = .ok (.aload_n 2, 1) := dk_44 (dk_at dksJ2_remove_0 19 rfl rfl)
theorem dJ2_remove_20 : decode cJ2_remove 20 = .ok (.iload_n 1, 1) := dk_27 (dk_at dksJ2_remove_0 20 rfl rfl)
theorem dJ2_remove_21 : decode cJ2_remove 21 = .ok (.invokevirtual 144, 3) := dk_182 0 144 (dk_at dksJ2_remove_0 21 rfl rfl)
theorem dJ2_remove_24 : decode cJ2_remove 24 = .ok (.aload_n 3, 1) := dk_45 (dk_at dksJ2_remove_1 0 rfl rfl)
theorem dJ2_remove_25 : decode cJ2_remove 25 = .ok (.areturn, 1) := dk_176 (dk_at dksJ2_remove_1 1 rfl rfl)
abbrev cJ2_fastRemove : ByteArray := prog_32_method_39_code
def yJ2_fastRemove : MethodName := ⟨RJ2, "fastRemove", "([Ljava/lang/Object;I)V"⟩
def dkwJ2_fastRemove_1 : List UInt8 := [4, 96, 43, 28, 29, 28, 100, 184, 0, 112, 43, 42, 29, 90, 181, 0, 48, 1, 83, 177]
abbrev dktJ2_fastRemove_1 : List UInt8 := dkwJ2_fastRemove_1 ++ []
def dkwJ2_fastRemove_0 : List UInt8 := [42, 89, 180, 0, 63, 4, 96, 181, 0, 63, 42, 180, 0, 48, 4, 100, 89, 62, 28, 164, 0, 15, 43, 28]
abbrev dktJ2_fastRemove_0 : List UInt8 := dkwJ2_fastRemove_0 ++ dktJ2_fastRemove_1
theorem dksJ2_fastRemove_0 : cJ2_fastRemove.data.toList.drop 0 = dktJ2_fastRemove_0 := by decide +kernel
theorem dksJ2_fastRemove_1 : cJ2_fastRemove.data.toList.drop 24 = dktJ2_fastRemove_1 := dk_seg dksJ2_fastRemove_0 24 rfl rfl
theorem dJ2_fastRemove_0 : decode cJ2_fastRemove 0 = .ok (.aload_n 0, 1) := dk_42 (dk_at dksJ2_fastRemove_0 0 rfl rfl)
theorem dJ2_fastRemove_1 : decode cJ2_fastRemove 1 = .ok (.dup, 1) := dk_89 (dk_at dksJ2_fastRemove_0 1 rfl rfl)
theorem dJ2_fastRemove_2 : decode cJ2_fastRemove 2 = .ok (.getfield 63, 3) := dk_180 0 63 (dk_at dksJ2_fastRemove_0 2 rfl rfl)
theorem dJ2_fastRemove_5 : decode cJ2_fastRemove 5 = .ok (.iconst 1, 1) := dk_4 (dk_at dksJ2_fastRemove_0 5 rfl rfl)
theorem dJ2_fastRemove_6 : decode cJ2_fastRemove 6 = .ok (.iadd, 1) := dk_96 (dk_at dksJ2_fastRemove_0 6 rfl rfl)
theorem dJ2_fastRemove_7 : decode cJ2_fastRemove 7 = .ok (.putfield 63, 3) := dk_181 0 63 (dk_at dksJ2_fastRemove_0 7 rfl rfl)
theorem dJ2_fastRemove_10 : decode cJ2_fastRemove 10 = .ok (.aload_n 0, 1) := dk_42 (dk_at dksJ2_fastRemove_0 10 rfl rfl)
theorem dJ2_fastRemove_11 : decode cJ2_fastRemove 11 = .ok (.getfield 48, 3) := dk_180 0 48 (dk_at dksJ2_fastRemove_0 11 rfl rfl)
theorem dJ2_fastRemove_14 : decode cJ2_fastRemove 14 = .ok (.iconst 1, 1) := dk_4 (dk_at dksJ2_fastRemove_0 14 rfl rfl)
theorem dJ2_fastRemove_15 : decode cJ2_fastRemove 15 = .ok (.isub, 1) := dk_100 (dk_at dksJ2_fastRemove_0 15 rfl rfl)
theorem dJ2_fastRemove_16 : decode cJ2_fastRemove 16 = .ok (.dup, 1) := dk_89 (dk_at dksJ2_fastRemove_0 16 rfl rfl)
theorem dJ2_fastRemove_17 : decode cJ2_fastRemove 17 = .ok (.istore_n 3, 1) := dk_62 (dk_at dksJ2_fastRemove_0 17 rfl rfl)
theorem dJ2_fastRemove_18 : decode cJ2_fastRemove 18 = .ok (.iload_n 2, 1) := dk_28 (dk_at dksJ2_fastRemove_0 18 rfl rfl)
theorem dJ2_fastRemove_19 : decode cJ2_fastRemove 19 = .ok (.if_icmp .le 15, 3) := dk_164 0 15 (dk_at dksJ2_fastRemove_0 19 rfl rfl)
theorem dJ2_fastRemove_22 : decode cJ2_fastRemove 22 = .ok (.aload_n 1, 1) := dk_43 (dk_at dksJ2_fastRemove_0 22 rfl rfl)
theorem dJ2_fastRemove_23 : decode cJ2_fastRemove 23 = .ok (.iload_n 2, 1) := dk_28 (dk_at dksJ2_fastRemove_0 23 rfl rfl)
theorem dJ2_fastRemove_24 : decode cJ2_fastRemove 24 = .ok (.iconst 1, 1) := dk_4 (dk_at dksJ2_fastRemove_1 0 rfl rfl)
theorem dJ2_fastRemove_25 : decode cJ2_fastRemove 25 = .ok (.iadd, 1) := dk_96 (dk_at dksJ2_fastRemove_1 1 rfl rfl)
theorem dJ2_fastRemove_26 : decode cJ2_fastRemove 26 = .ok (.aload_n 1, 1) := dk_43 (dk_at dksJ2_fastRemove_1 2 rfl rfl)
theorem dJ2_fastRemove_27 : decode cJ2_fastRemove 27 = .ok (.iload_n 2, 1) := dk_28 (dk_at dksJ2_fastRemove_1 3 rfl rfl)
theorem dJ2_fastRemove_28 : decode cJ2_fastRemove 28 = .ok (.iload_n 3, 1) := dk_29 (dk_at dksJ2_fastRemove_1 4 rfl rfl)
theorem dJ2_fastRemove_29 : decode cJ2_fastRemove 29 = .ok (.iload_n 2, 1) := dk_28 (dk_at dksJ2_fastRemove_1 5 rfl rfl)
theorem dJ2_fastRemove_30 : decode cJ2_fastRemove 30 = .ok (.isub, 1) := dk_100 (dk_at dksJ2_fastRemove_1 6 rfl rfl)
theorem dJ2_fastRemove_31 : decode cJ2_fastRemove 31 = .ok (.invokestatic 112, 3) := dk_184 0 112 (dk_at dksJ2_fastRemove_1 7 rfl rfl)
theorem dJ2_fastRemove_34 : decode cJ2_fastRemove 34 = .ok (.aload_n 1, 1) := dk_43 (dk_at dksJ2_fastRemove_1 10 rfl rfl)
theorem dJ2_fastRemove_35 : decode cJ2_fastRemove 35 = .ok (.aload_n 0, 1) := dk_42 (dk_at dksJ2_fastRemove_1 11 rfl rfl)
theorem dJ2_fastRemove_36 : decode cJ2_fastRemove 36 = .ok (.iload_n 3, 1) := dk_29 (dk_at dksJ2_fastRemove_1 12 rfl rfl)
theorem dJ2_fastRemove_37 : decode cJ2_fastRemove 37 = .ok (.dup_x1, 1) := dk_90 (dk_at dksJ2_fastRemove_1 13 rfl rfl)
theorem dJ2_fastRemove_38 : decode cJ2_fastRemove 38 = .ok (.putfield 48, 3) := dk_181 0 48 (dk_at dksJ2_fastRemove_1 14 rfl rfl)
theorem dJ2_fastRemove_41 : decode cJ2_fastRemove 41 = .ok (.aconst_null, 1) := dk_1 (dk_at dksJ2_fastRemove_1 17 rfl rfl)
theorem dJ2_fastRemove_42 : decode cJ2_fastRemove 42 = .ok (.aastore, 1) := dk_83 (dk_at dksJ2_fastRemove_1 18 rfl rfl)
theorem dJ2_fastRemove_43 : decode cJ2_fastRemove 43 = .ok (.return_, 1) := dk_177 (dk_at dksJ2_fastRemove_1 19 rfl rfl)
theorem q56 : (Jvm.Cond.initialized "java/util/ArrayList") ∈ lw_all := lw_g (lw_at lw_m1 4 rfl) rfl
theorem q93 : (Jvm.Cond.instantiable "java/util/ArrayList" (3 : Nat)) ∈ lw_all := lw_g (lw_at lw_m1 41 rfl) rfl
theorem q95 : (Jvm.Cond.instanceMethod ({ cls := "java/util/ArrayList", name := "<init>", desc := "()V" } : Jvm.MethodName)) ∈ lw_all := lw_g (lw_at lw_m1 43 rfl) rfl
theorem q96 : (Jvm.Cond.code ({ cls := "java/util/ArrayList", name := "<init>", desc := "()V" } : Jvm.MethodName) prog_32_method_2_code (1 : Nat) (Option.none : Option Jvm.ClassFile.FieldType)) ∈ lw_all := lw_g (lw_at lw_m1 44 rfl) rfl
theorem q97 : (Jvm.Cond.methodLink "java/util/ArrayList" (1 : Nat) ({ cls := "java/util/AbstractList", name := "<init>", desc := "()V" } : Jvm.MethodName)) ∈ lw_all := lw_g (lw_at lw_m1 45 rfl) rfl
theorem q104 : (Jvm.Cond.fieldLink "java/util/ArrayList" (39 : Nat) "java/util/ArrayList" "DEFAULTCAPACITY_EMPTY_ELEMENTDATA" "[Ljava/lang/Object;") ∈ lw_all := lw_g (lw_at lw_m1 52 rfl) rfl
theorem q105 : (Jvm.Cond.laysStatic "java/util/ArrayList" "DEFAULTCAPACITY_EMPTY_ELEMENTDATA" "[Ljava/lang/Object;") ∈ lw_tbl := lw_at lw_m1 53 rfl
theorem q106 : (Jvm.Cond.fieldLink "java/util/ArrayList" (9 : Nat) "java/util/ArrayList" "elementData" "[Ljava/lang/Object;") ∈ lw_all := lw_g (lw_at lw_m1 54 rfl) rfl
theorem q107 : (Jvm.Cond.fieldLink "java/util/ArrayList" (48 : Nat) "java/util/ArrayList" "size" "I") ∈ lw_all := lw_g (lw_at lw_m1 55 rfl) rfl
theorem q109 : (Jvm.Cond.fieldLink "java/util/ArrayList" (63 : Nat) "java/util/ArrayList" "modCount" "I") ∈ lw_all := lw_g (lw_at lw_m1 57 rfl) rfl
theorem q110 : (Jvm.Cond.sameField "java/util/ArrayList" "java/util/AbstractList" "modCount" "I") ∈ lw_all := lw_g (lw_at lw_m1 58 rfl) rfl
theorem q111 : (Jvm.Cond.lays "java/util/ArrayList" "java/util/ArrayList" "elementData" "[Ljava/lang/Object;") ∈ lw_all := lw_g (lw_at lw_m1 59 rfl) rfl
theorem q112 : (Jvm.Cond.soleField "java/util/ArrayList" "elementData") ∈ lw_all := lw_g (lw_at lw_m1 60 rfl) rfl
theorem q113 : (Jvm.Cond.lays "java/util/ArrayList" "java/util/ArrayList" "size" "I") ∈ lw_all := lw_g (lw_at lw_m1 61 rfl) rfl
theorem q114 : (Jvm.Cond.soleField "java/util/ArrayList" "size") ∈ lw_all := lw_g (lw_at lw_m1 62 rfl) rfl
theorem q115 : (Jvm.Cond.lays "java/util/ArrayList" "java/util/AbstractList" "modCount" "I") ∈ lw_all := lw_g (lw_at lw_m1 63 rfl) rfl
theorem q117 : (Jvm.Cond.superclass "java/util/ArrayList" "java/util/AbstractList") ∈ lw_all := lw_g (lw_at lw_m1 65 rfl) rfl
theorem q252 : (Jvm.Cond.instanceMethod ({ cls := "java/util/ArrayList", name := "add", desc := "(Ljava/lang/Object;)Z" } : Jvm.MethodName)) ∈ lw_all := lw_g (lw_at lw_m1 200 rfl) rfl
theorem q253 : (Jvm.Cond.selects "java/util/ArrayList" ({ cls := "java/util/ArrayList", name := "add", desc := "(Ljava/lang/Object;)Z" } : Jvm.MethodName) ({ cls := "java/util/ArrayList", name := "add", desc := "(Ljava/lang/Object;)Z" } : Jvm.MethodName)) ∈ lw_all := lw_g (lw_at lw_m1 201 rfl) rfl
theorem q254 : (Jvm.Cond.code ({ cls := "java/util/ArrayList", name := "add", desc := "(Ljava/lang/Object;)Z" } : Jvm.MethodName) prog_32_method_25_code (2 : Nat) (Option.some Jvm.ClassFile.FieldType.boolean)) ∈ lw_all := lw_g (lw_at lw_m1 202 rfl) rfl
theorem q255 : (Jvm.Cond.methodLink "java/util/ArrayList" (131 : Nat) ({ cls := "java/util/ArrayList", name := "add", desc := "(Ljava/lang/Object;[Ljava/lang/Object;I)V" } : Jvm.MethodName)) ∈ lw_all := lw_g (lw_at lw_m1 203 rfl) rfl
theorem q256 : (Jvm.Cond.privateMethod ({ cls := "java/util/ArrayList", name := "add", desc := "(Ljava/lang/Object;[Ljava/lang/Object;I)V" } : Jvm.MethodName)) ∈ lw_tbl := lw_at lw_m1 204 rfl
theorem q257 : (Jvm.Cond.instanceMethod ({ cls := "java/util/ArrayList", name := "add", desc := "(Ljava/lang/Object;[Ljava/lang/Object;I)V" } : Jvm.MethodName)) ∈ lw_all := lw_g (lw_at lw_m1 205 rfl) rfl
theorem q258 : (Jvm.Cond.code ({ cls := "java/util/ArrayList", name := "add", desc := "(Ljava/lang/Object;[Ljava/lang/Object;I)V" } : Jvm.MethodName) prog_32_method_24_code (4 : Nat) (Option.none : Option Jvm.ClassFile.FieldType)) ∈ lw_all := lw_g (lw_at lw_m1 206 rfl) rfl
theorem q259 : (Jvm.Cond.methodLink "java/util/ArrayList" (129 : Nat) ({ cls := "java/util/ArrayList", name := "grow", desc := "()[Ljava/lang/Object;" } : Jvm.MethodName)) ∈ lw_all := lw_g (lw_at lw_m1 207 rfl) rfl
theorem q260 : (Jvm.Cond.privateMethod ({ cls := "java/util/ArrayList", name := "grow", desc := "()[Ljava/lang/Object;" } : Jvm.MethodName)) ∈ lw_tbl := lw_at lw_m1 208 rfl
theorem q261 : (Jvm.Cond.instanceMethod ({ cls := "java/util/ArrayList", name := "grow", desc := "()[Ljava/lang/Object;" } : Jvm.MethodName)) ∈ lw_all := lw_g (lw_at lw_m1 209 rfl) rfl
theorem q262 : (Jvm.Cond.code ({ cls := "java/util/ArrayList", name := "grow", desc := "()[Ljava/lang/Object;" } : Jvm.MethodName) prog_32_method_7_code (1 : Nat) (Option.some (Jvm.ClassFile.FieldType.array (Jvm.ClassFile.FieldType.object "java/lang/Object")))) ∈ lw_all := lw_g (lw_at lw_m1 210 rfl) rfl
theorem q263 : (Jvm.Cond.methodLink "java/util/ArrayList" (69 : Nat) ({ cls := "java/util/ArrayList", name := "grow", desc := "(I)[Ljava/lang/Object;" } : Jvm.MethodName)) ∈ lw_all := lw_g (lw_at lw_m1 211 rfl) rfl
theorem q264 : (Jvm.Cond.privateMethod ({ cls := "java/util/ArrayList", name := "grow", desc := "(I)[Ljava/lang/Object;" } : Jvm.MethodName)) ∈ lw_tbl := lw_at lw_m1 212 rfl
theorem q265 : (Jvm.Cond.instanceMethod ({ cls := "java/util/ArrayList", name := "grow", desc := "(I)[Ljava/lang/Object;" } : Jvm.MethodName)) ∈ lw_all := lw_g (lw_at lw_m1 213 rfl) rfl
theorem q266 : (Jvm.Cond.code ({ cls := "java/util/ArrayList", name := "grow", desc := "(I)[Ljava/lang/Object;" } : Jvm.MethodName) prog_32_method_6_code (4 : Nat) (Option.some (Jvm.ClassFile.FieldType.array (Jvm.ClassFile.FieldType.object "java/lang/Object")))) ∈ lw_all := lw_g (lw_at lw_m1 214 rfl) rfl
theorem q267 : (Jvm.Cond.methodLink "java/util/ArrayList" (73 : Nat) ({ cls := "jdk/internal/util/ArraysSupport", name := "newLength", desc := "(III)I" } : Jvm.MethodName)) ∈ lw_all := lw_g (lw_at lw_m1 215 rfl) rfl
theorem q277 : (Jvm.Cond.methodLink "java/util/ArrayList" (66 : Nat) ({ cls := "java/util/Arrays", name := "copyOf", desc := "([Ljava/lang/Object;I)[Ljava/lang/Object;" } : Jvm.MethodName)) ∈ lw_all := lw_g (lw_at lw_m1 225 rfl) rfl
theorem q299 : (Jvm.Cond.selects "java/util/ArrayList" ({ cls := "java/lang/Object", name := "getClass", desc := "()Ljava/lang/Class;" } : Jvm.MethodName) ({ cls := "java/lang/Object", name := "getClass", desc := "()Ljava/lang/Class;" } : Jvm.MethodName)) ∈ lw_all := lw_g (lw_at lw_m2 7 rfl) rfl
theorem q314 : (Jvm.Cond.methodLink "java/util/ArrayList" (79 : Nat) ({ cls := "java/lang/Math", name := "max", desc := "(II)I" } : Jvm.MethodName)) ∈ lw_all := lw_g (lw_at lw_m2 22 rfl) rfl
theorem q315 : (Jvm.Cond.classLink "java/util/ArrayList" (7 : Nat) "java/lang/Object") ∈ lw_all := lw_g (lw_at lw_m2 23 rfl) rfl
theorem q361 : (Jvm.Cond.instanceMethod ({ cls := "java/util/ArrayList", name := "size", desc := "()I" } : Jvm.MethodName)) ∈ lw_all := lw_g (lw_at lw_m2 69 rfl) rfl
theorem q362 : (Jvm.Cond.selects "java/util/ArrayList" ({ cls := "java/util/ArrayList", name := "size", desc := "()I" } : Jvm.MethodName) ({ cls := "java/util/ArrayList", name := "size", desc := "()I" } : Jvm.MethodName)) ∈ lw_all := lw_g (lw_at lw_m2 70 rfl) rfl
theorem q363 : (Jvm.Cond.code ({ cls := "java/util/ArrayList", name := "size", desc := "()I" } : Jvm.MethodName) prog_32_method_8_code (1 : Nat) (Option.some Jvm.ClassFile.FieldType.int)) ∈ lw_all := lw_g (lw_at lw_m2 71 rfl) rfl
theorem q369 : (Jvm.Cond.instanceMethod ({ cls := "java/util/ArrayList", name := "get", desc := "(I)Ljava/lang/Object;" } : Jvm.MethodName)) ∈ lw_all := lw_g (lw_at lw_m2 77 rfl) rfl
theorem q370 : (Jvm.Cond.selects "java/util/ArrayList" ({ cls := "java/util/ArrayList", name := "get", desc := "(I)Ljava/lang/Object;" } : Jvm.MethodName) ({ cls := "java/util/ArrayList", name := "get", desc := "(I)Ljava/lang/Object;" } : Jvm.MethodName)) ∈ lw_all := lw_g (lw_at lw_m2 78 rfl) rfl
theorem q371 : (Jvm.Cond.code ({ cls := "java/util/ArrayList", name := "get", desc := "(I)Ljava/lang/Object;" } : Jvm.MethodName) prog_32_method_20_code (2 : Nat) (Option.some (Jvm.ClassFile.FieldType.object "java/lang/Object"))) ∈ lw_all := lw_g (lw_at lw_m2 79 rfl) rfl
theorem q372 : (Jvm.Cond.methodLink "java/util/ArrayList" (118 : Nat) ({ cls := "java/util/Objects", name := "checkIndex", desc := "(II)I" } : Jvm.MethodName)) ∈ lw_all := lw_g (lw_at lw_m2 80 rfl) rfl
theorem q378 : (Jvm.Cond.methodLink "java/util/ArrayList" (123 : Nat) ({ cls := "java/util/ArrayList", name := "elementData", desc := "(I)Ljava/lang/Object;" } : Jvm.MethodName)) ∈ lw_all := lw_g (lw_at lw_m2 86 rfl) rfl
theorem q379 : (Jvm.Cond.instanceMethod ({ cls := "java/util/ArrayList", name := "elementData", desc := "(I)Ljava/lang/Object;" } : Jvm.MethodName)) ∈ lw_all := lw_g (lw_at lw_m2 87 rfl) rfl
theorem q380 : (Jvm.Cond.selects "java/util/ArrayList" ({ cls := "java/util/ArrayList", name := "elementData", desc := "(I)Ljava/lang/Object;" } : Jvm.MethodName) ({ cls := "java/util/ArrayList", name := "elementData", desc := "(I)Ljava/lang/Object;" } : Jvm.MethodName)) ∈ lw_all := lw_g (lw_at lw_m2 88 rfl) rfl
theorem q381 : (Jvm.Cond.code ({ cls := "java/util/ArrayList", name := "elementData", desc := "(I)Ljava/lang/Object;" } : Jvm.MethodName) prog_32_method_18_code (2 : Nat) (Option.some (Jvm.ClassFile.FieldType.object "java/lang/Object"))) ∈ lw_all := lw_g (lw_at lw_m2 89 rfl) rfl
theorem q779 : (Jvm.Cond.instanceMethod ({ cls := "java/util/ArrayList", name := "clear", desc := "()V" } : Jvm.MethodName)) ∈ lw_all := lw_g (lw_at lw_m4 7 rfl) rfl
theorem q780 : (Jvm.Cond.selects "java/util/ArrayList" ({ cls := "java/util/ArrayList", name := "clear", desc := "()V" } : Jvm.MethodName) ({ cls := "java/util/ArrayList", name := "clear", desc := "()V" } : Jvm.MethodName)) ∈ lw_all := lw_g (lw_at lw_m4 8 rfl) rfl
theorem q781 : (Jvm.Cond.code ({ cls := "java/util/ArrayList", name := "clear", desc := "()V" } : Jvm.MethodName) prog_32_method_40_code (4 : Nat) (Option.none : Option Jvm.ClassFile.FieldType)) ∈ lw_all := lw_g (lw_at lw_m4 9 rfl) rfl
theorem q1000 : (Jvm.Cond.instanceMethod ({ cls := "java/util/ArrayList", name := "remove", desc := "(I)Ljava/lang/Object;" } : Jvm.MethodName)) ∈ lw_all := lw_g (lw_at lw_m4 228 rfl) rfl
theorem q1001 : (Jvm.Cond.selects "java/util/ArrayList" ({ cls := "java/util/ArrayList", name := "remove", desc := "(I)Ljava/lang/Object;" } : Jvm.MethodName) ({ cls := "java/util/ArrayList", name := "remove", desc := "(I)Ljava/lang/Object;" } : Jvm.MethodName)) ∈ lw_all := lw_g (lw_at lw_m4 229 rfl) rfl
theorem q1002 : (Jvm.Cond.code ({ cls := "java/util/ArrayList", name := "remove", desc := "(I)Ljava/lang/Object;" } : Jvm.MethodName) prog_32_method_29_code (4 : Nat) (Option.some (Jvm.ClassFile.FieldType.object "java/lang/Object"))) ∈ lw_all := lw_g (lw_at lw_m4 230 rfl) rfl
theorem q1003 : (Jvm.Cond.methodLink "java/util/ArrayList" (144 : Nat) ({ cls := "java/util/ArrayList", name := "fastRemove", desc := "([Ljava/lang/Object;I)V" } : Jvm.MethodName)) ∈ lw_all := lw_g (lw_at lw_m4 231 rfl) rfl
theorem q1004 : (Jvm.Cond.privateMethod ({ cls := "java/util/ArrayList", name := "fastRemove", desc := "([Ljava/lang/Object;I)V" } : Jvm.MethodName)) ∈ lw_tbl := lw_at lw_m4 232 rfl
theorem q1005 : (Jvm.Cond.instanceMethod ({ cls := "java/util/ArrayList", name := "fastRemove", desc := "([Ljava/lang/Object;I)V" } : Jvm.MethodName)) ∈ lw_all := lw_g (lw_at lw_m4 233 rfl) rfl
theorem q1006 : (Jvm.Cond.code ({ cls := "java/util/ArrayList", name := "fastRemove", desc := "([Ljava/lang/Object;I)V" } : Jvm.MethodName) prog_32_method_39_code (4 : Nat) (Option.none : Option Jvm.ClassFile.FieldType)) ∈ lw_all := lw_g (lw_at lw_m4 234 rfl) rfl
theorem q1007 : (Jvm.Cond.methodLink "java/util/ArrayList" (112 : Nat) ({ cls := "java/lang/System", name := "arraycopy", desc := "(Ljava/lang/Object;ILjava/lang/Object;II)V" } : Jvm.MethodName)) ∈ lw_all := lw_g (lw_at lw_m4 235 rfl) rfl
theorem q1620 : (Jvm.Cond.castable "java/util/ArrayList" "java/lang/Object") ∈ lw_tbl := lw_at lw_m7 128 rfl
theorem in_J2 : ∀ w ∈ wsJ20, w ∈ lw_all := lw_in wsJ20 [115, 111, 113] (by decide +kernel) (by decide +kernel)

/-! jdk/internal/util/ArraysSupport -/
set_option maxRecDepth 100000
def RJ3 : String := "jdk/internal/util/ArraysSupport"
abbrev cJ3_newLength : ByteArray := prog_40_method_27_code
def yJ3_newLength : MethodName := ⟨RJ3, "newLength", "(III)I"⟩
def dkwJ3_newLength_1 : List UInt8 := [184, 0, 201, 172]
abbrev dktJ3_newLength_1 : List UInt8 := dkwJ3_newLength_1 ++ []
def dkwJ3_newLength_0 : List UInt8 := [26, 27, 28, 184, 0, 194, 96, 62, 3, 29, 162, 0, 11, 29, 18, 200, 163, 0, 5, 29, 172, 26, 27]
abbrev dktJ3_newLength_0 : List UInt8 := dkwJ3_newLength_0 ++ dktJ3_newLength_1
theorem dksJ3_newLength_0 : cJ3_newLength.data.toList.drop 0 = dktJ3_newLength_0 := by decide +kernel
theorem dksJ3_newLength_1 : cJ3_newLength.data.toList.drop 23 = dktJ3_newLength_1 := dk_seg dksJ3_newLength_0 23 rfl rfl
theorem dJ3_newLength_0 : decode cJ3_newLength 0 = .ok (.iload_n 0, 1) := dk_26 (dk_at dksJ3_newLength_0 0 rfl rfl)
theorem dJ3_newLength_1 : decode cJ3_newLength 1 = .ok (.iload_n 1, 1) := dk_27 (dk_at dksJ3_newLength_0 1 rfl rfl)
theorem dJ3_newLength_2 : decode cJ3_newLength 2 = .ok (.iload_n 2, 1) := dk_28 (dk_at dksJ3_newLength_0 2 rfl rfl)
theorem dJ3_newLength_3 : decode cJ3_newLength 3 = .ok (.invokestatic 194, 3) := dk_184 0 194 (dk_at dksJ3_newLength_0 3 rfl rfl)
theorem dJ3_newLength_6 : decode cJ3_newLength 6 = .ok (.iadd, 1) := dk_96 (dk_at dksJ3_newLength_0 6 rfl rfl)
theorem dJ3_newLength_7 : decode cJ3_newLength 7 = .ok (.istore_n 3, 1) := dk_62 (dk_at dksJ3_newLength_0 7 rfl rfl)
theorem dJ3_newLength_8 : decode cJ3_newLength 8 = .ok (.iconst 0, 1) := dk_3 (dk_at dksJ3_newLength_0 8 rfl rfl)
theorem dJ3_newLength_9 : decode cJ3_newLength 9 = .ok (.iload_n 3, 1) := dk_29 (dk_at dksJ3_newLength_0 9 rfl rfl)
theorem dJ3_newLength_10 : decode cJ3_newLength 10 = .ok (.if_icmp .ge 11, 3) := dk_162 0 11 (dk_at dksJ3_newLength_0 10 rfl rfl)
theorem dJ3_newLength_13 : decode cJ3_newLength 13 = .ok (.iload_n 3, 1) := dk_29 (dk_at dksJ3_newLength_0 13 rfl rfl)
theorem dJ3_newLength_14 : decode cJ3_newLength 14 = .ok (.ldc 200, 2) := dk_18 200 (dk_at dksJ3_newLength_0 14 rfl rfl)
theorem dJ3_newLength_16 : decode cJ3_newLength 16 = .ok (.if_icmp .gt 5, 3) := dk_163 0 5 (dk_at dksJ3_newLength_0 16 rfl rfl)
theorem dJ3_newLength_19 : decode cJ3_newLength 19 = .ok (.iload_n 3, 1) := dk_29 (dk_at dksJ3_newLength_0 19 rfl rfl)
theorem dJ3_newLength_20 : decode cJ3_newLength 20 = .ok (.ireturn, 1) := dk_172 (dk_at dksJ3_newLength_0 20 rfl rfl)
theorem dJ3_newLength_21 : decode cJ3_newLength 21 = .ok (.iload_n 0, 1) := dk_26 (dk_at dksJ3_newLength_0 21 rfl rfl)
theorem dJ3_newLength_22 : decode cJ3_newLength 22 = .ok (.iload_n 1, 1) := dk_27 (dk_at dksJ3_newLength_0 22 rfl rfl)
theorem dJ3_newLength_23 : decode cJ3_newLength 23 = .ok (.invokestatic 201, 3) := dk_184 0 201 (dk_at dksJ3_newLength_1 0 rfl rfl)
theorem dJ3_newLength_26 : decode cJ3_newLength 26 = .ok (.ireturn, 1) := dk_172 (dk_at dksJ3_newLength_1 3 rfl rfl)
abbrev cJ3_hugeLength : ByteArray := prog_40_method_28_code
def yJ3_hugeLength : MethodName := ⟨RJ3, "hugeLength", "(II)I"⟩
def dkwJ3_hugeLength_2 : List UInt8 := [191, 28, 18, 200, 163, 0, 6, 18, 200, 172, 28, 172]
abbrev dktJ3_hugeLength_2 : List UInt8 := dkwJ3_hugeLength_2 ++ []
def dkwJ3_hugeLength_1 : List UInt8 := [26, 182, 0, 98, 18, 208, 182, 0, 94, 27, 182, 0, 98, 18, 210, 182, 0, 94, 182, 0, 101, 183, 0, 212]
abbrev dktJ3_hugeLength_1 : List UInt8 := dkwJ3_hugeLength_1 ++ dktJ3_hugeLength_2
def dkwJ3_hugeLength_0 : List UInt8 := [26, 27, 96, 61, 28, 156, 0, 44, 187, 0, 204, 89, 187, 0, 89, 89, 183, 0, 91, 18, 206, 182, 0, 94]
abbrev dktJ3_hugeLength_0 : List UInt8 := dkwJ3_hugeLength_0 ++ dktJ3_hugeLength_1
theorem dksJ3_hugeLength_0 : cJ3_hugeLength.data.toList.drop 0 = dktJ3_hugeLength_0 := by decide +kernel
theorem dksJ3_hugeLength_1 : cJ3_hugeLength.data.toList.drop 24 = dktJ3_hugeLength_1 := dk_seg dksJ3_hugeLength_0 24 rfl rfl
theorem dksJ3_hugeLength_2 : cJ3_hugeLength.data.toList.drop 48 = dktJ3_hugeLength_2 := dk_seg dksJ3_hugeLength_1 24 rfl rfl
theorem dJ3_hugeLength_0 : decode cJ3_hugeLength 0 = .ok (.iload_n 0, 1) := dk_26 (dk_at dksJ3_hugeLength_0 0 rfl rfl)
theorem dJ3_hugeLength_1 : decode cJ3_hugeLength 1 = .ok (.iload_n 1, 1) := dk_27 (dk_at dksJ3_hugeLength_0 1 rfl rfl)
theorem dJ3_hugeLength_2 : decode cJ3_hugeLength 2 = .ok (.iadd, 1) := dk_96 (dk_at dksJ3_hugeLength_0 2 rfl rfl)
theorem dJ3_hugeLength_3 : decode cJ3_hugeLength 3 = .ok (.istore_n 2, 1) := dk_61 (dk_at dksJ3_hugeLength_0 3 rfl rfl)
theorem dJ3_hugeLength_4 : decode cJ3_hugeLength 4 = .ok (.iload_n 2, 1) := dk_28 (dk_at dksJ3_hugeLength_0 4 rfl rfl)
theorem dJ3_hugeLength_5 : decode cJ3_hugeLength 5 = .ok (.ifCond .ge 44, 3) := dk_156 0 44 (dk_at dksJ3_hugeLength_0 5 rfl rfl)
theorem dJ3_hugeLength_8 : decode cJ3_hugeLength 8 = .ok (.new 204, 3) := dk_187 0 204 (dk_at dksJ3_hugeLength_0 8 rfl rfl)
theorem dJ3_hugeLength_11 : decode cJ3_hugeLength 11 = .ok (.dup, 1) := dk_89 (dk_at dksJ3_hugeLength_0 11 rfl rfl)
theorem dJ3_hugeLength_12 : decode cJ3_hugeLength 12 = .ok (.new 89, 3) := dk_187 0 89 (dk_at dksJ3_hugeLength_0 12 rfl rfl)
theorem dJ3_hugeLength_15 : decode cJ3_hugeLength 15 = .ok (.dup, 1) := dk_89 (dk_at dksJ3_hugeLength_0 15 rfl rfl)
theorem dJ3_hugeLength_16 : decode cJ3_hugeLength 16 = .ok (.invokespecial 91, 3) := dk_183 0 91 (dk_at dksJ3_hugeLength_0 16 rfl rfl)
theorem dJ3_hugeLength_19 : decode cJ3_hugeLength 19 = .ok (.ldc 206, 2) := dk_18 206 (dk_at dksJ3_hugeLength_0 19 rfl rfl)
theorem dJ3_hugeLength_21 : decode cJ3_hugeLength 21 = .ok (.invokevirtual 94, 3) := dk_182 0 94 (dk_at dksJ3_hugeLength_0 21 rfl rfl)
theorem dJ3_hugeLength_24 : decode cJ3_hugeLength 24 = .ok (.iload_n 0, 1) := dk_26 (dk_at dksJ3_hugeLength_1 0 rfl rfl)
theorem dJ3_hugeLength_25 : decode cJ3_hugeLength 25 = .ok (.invokevirtual 98, 3) := dk_182 0 98 (dk_at dksJ3_hugeLength_1 1 rfl rfl)
theorem dJ3_hugeLength_28 : decode cJ3_hugeLength 28 = .ok (.ldc 208, 2) := dk_18 208 (dk_at dksJ3_hugeLength_1 4 rfl rfl)
theorem dJ3_hugeLength_30 : decode cJ3_hugeLength 30 = .ok (.invokevirtual 94, 3) := dk_182 0 94 (dk_at dksJ3_hugeLength_1 6 rfl rfl)
theorem dJ3_hugeLength_33 : decode cJ3_hugeLength 33 = .ok (.iload_n 1, 1) := dk_27 (dk_at dksJ3_hugeLength_1 9 rfl rfl)
theorem dJ3_hugeLength_34 : decode cJ3_hugeLength 34 = .ok (.invokevirtual 98, 3) := dk_182 0 98 (dk_at dksJ3_hugeLength_1 10 rfl rfl)
theorem dJ3_hugeLength_37 : decode cJ3_hugeLength 37 = .ok (.ldc 210, 2) := dk_18 210 (dk_at dksJ3_hugeLength_1 13 rfl rfl)
theorem dJ3_hugeLength_39 : decode cJ3_hugeLength 39 = .ok (.invokevirtual 94, 3) := dk_182 0 94 (dk_at dksJ3_hugeLength_1 15 rfl rfl)
theorem dJ3_hugeLength_42 : decode cJ3_hugeLength 42 = .ok (.invokevirtual 101, 3) := dk_182 0 101 (dk_at dksJ3_hugeLength_1 18 rfl rfl)
theorem dJ3_hugeLength_45 : decode cJ3_hugeLength 45 = .ok (.invokespecial 212, 3) := dk_183 0 212 (dk_at dksJ3_hugeLength_1 21 rfl rfl)
theorem dJ3_hugeLength_48 : decode cJ3_hugeLength 48 = .ok (.athrow, 1) := dk_191 (dk_at dksJ3_hugeLength_2 0 rfl rfl)
theorem dJ3_hugeLength_49 : decode cJ3_hugeLength 49 = .ok (.iload_n 2, 1) := dk_28 (dk_at dksJ3_hugeLength_2 1 rfl rfl)
theorem dJ3_hugeLength_50 : decode cJ3_hugeLength 50 = .ok (.ldc 200, 2) := dk_18 200 (dk_at dksJ3_hugeLength_2 2 rfl rfl)
theorem dJ3_hugeLength_52 : decode cJ3_hugeLength 52 = .ok (.if_icmp .gt 6, 3) := dk_163 0 6 (dk_at dksJ3_hugeLength_2 4 rfl rfl)
theorem dJ3_hugeLength_55 : decode cJ3_hugeLength 55 = .ok (.ldc 200, 2) := dk_18 200 (dk_at dksJ3_hugeLength_2 7 rfl rfl)
theorem dJ3_hugeLength_57 : decode cJ3_hugeLength 57 = .ok (.ireturn, 1) := dk_172 (dk_at dksJ3_hugeLength_2 9 rfl rfl)
theorem dJ3_hugeLength_58 : decode cJ3_hugeLength 58 = .ok (.iload_n 2, 1) := dk_28 (dk_at dksJ3_hugeLength_2 10 rfl rfl)
theorem dJ3_hugeLength_59 : decode cJ3_hugeLength 59 = .ok (.ireturn, 1) := dk_172 (dk_at dksJ3_hugeLength_2 11 rfl rfl)
theorem q61 : (Jvm.Cond.initialized "jdk/internal/util/ArraysSupport") ∈ lw_all := lw_g (lw_at lw_m1 9 rfl) rfl
theorem q268 : (Jvm.Cond.static ({ cls := "jdk/internal/util/ArraysSupport", name := "newLength", desc := "(III)I" } : Jvm.MethodName)) ∈ lw_all := lw_g (lw_at lw_m1 216 rfl) rfl
theorem q269 : (Jvm.Cond.code ({ cls := "jdk/internal/util/ArraysSupport", name := "newLength", desc := "(III)I" } : Jvm.MethodName) prog_40_method_27_code (4 : Nat) (Option.some Jvm.ClassFile.FieldType.int)) ∈ lw_all := lw_g (lw_at lw_m1 217 rfl) rfl
theorem q270 : (Jvm.Cond.methodLink "jdk/internal/util/ArraysSupport" (194 : Nat) ({ cls := "java/lang/Math", name := "max", desc := "(II)I" } : Jvm.MethodName)) ∈ lw_all := lw_g (lw_at lw_m1 218 rfl) rfl
theorem q273 : (Jvm.Cond.constant "jdk/internal/util/ArraysSupport" (200 : Nat) (2147483639 : Int32)) ∈ lw_all := lw_g (lw_at lw_m1 221 rfl) rfl
theorem q274 : (Jvm.Cond.methodLink "jdk/internal/util/ArraysSupport" (201 : Nat) ({ cls := "jdk/internal/util/ArraysSupport", name := "hugeLength", desc := "(II)I" } : Jvm.MethodName)) ∈ lw_all := lw_g (lw_at lw_m1 222 rfl) rfl
theorem q275 : (Jvm.Cond.static ({ cls := "jdk/internal/util/ArraysSupport", name := "hugeLength", desc := "(II)I" } : Jvm.MethodName)) ∈ lw_all := lw_g (lw_at lw_m1 223 rfl) rfl
theorem q276 : (Jvm.Cond.code ({ cls := "jdk/internal/util/ArraysSupport", name := "hugeLength", desc := "(II)I" } : Jvm.MethodName) prog_40_method_28_code (3 : Nat) (Option.some Jvm.ClassFile.FieldType.int)) ∈ lw_all := lw_g (lw_at lw_m1 224 rfl) rfl

/-! java/lang/Math -/
set_option maxRecDepth 100000
def RJ4 : String := "java/lang/Math"
abbrev cJ4_max : ByteArray := prog_24_method_65_code
def yJ4_max : MethodName := ⟨RJ4, "max", "(II)I"⟩
def dkwJ4_max_0 : List UInt8 := [26, 27, 161, 0, 7, 26, 167, 0, 4, 27, 172]
abbrev dktJ4_max_0 : List UInt8 := dkwJ4_max_0 ++ []
theorem dksJ4_max_0 : cJ4_max.data.toList.drop 0 = dktJ4_max_0 := by decide +kernel
theorem dJ4_max_0 : decode cJ4_max 0 = .ok (.iload_n 0, 1) := dk_26 (dk_at dksJ4_max_0 0 rfl rfl)
theorem dJ4_max_1 : decode cJ4_max 1 = .ok (.iload_n 1, 1) := dk_27 (dk_at dksJ4_max_0 1 rfl rfl)
theorem dJ4_max_2 : decode cJ4_max 2 = .ok (.if_icmp .lt 7, 3) := dk_161 0 7 (dk_at dksJ4_max_0 2 rfl rfl)
theorem dJ4_max_5 : decode cJ4_max 5 = .ok (.iload_n 0, 1) := dk_26 (dk_at dksJ4_max_0 5 rfl rfl)
theorem dJ4_max_6 : decode cJ4_max 6 = .ok (.goto 4, 3) := dk_167 0 4 (dk_at dksJ4_max_0 6 rfl rfl)
theorem dJ4_max_9 : decode cJ4_max 9 = .ok (.iload_n 1, 1) := dk_27 (dk_at dksJ4_max_0 9 rfl rfl)
theorem dJ4_max_10 : decode cJ4_max 10 = .ok (.ireturn, 1) := dk_172 (dk_at dksJ4_max_0 10 rfl rfl)
abbrev cJ4_min : ByteArray := prog_24_method_69_code
def yJ4_min : MethodName := ⟨RJ4, "min", "(II)I"⟩
def dkwJ4_min_0 : List UInt8 := [26, 27, 163, 0, 7, 26, 167, 0, 4, 27, 172]
abbrev dktJ4_min_0 : List UInt8 := dkwJ4_min_0 ++ []
theorem dksJ4_min_0 : cJ4_min.data.toList.drop 0 = dktJ4_min_0 := by decide +kernel
theorem dJ4_min_0 : decode cJ4_min 0 = .ok (.iload_n 0, 1) := dk_26 (dk_at dksJ4_min_0 0 rfl rfl)
theorem dJ4_min_1 : decode cJ4_min 1 = .ok (.iload_n 1, 1) := dk_27 (dk_at dksJ4_min_0 1 rfl rfl)
theorem dJ4_min_2 : decode cJ4_min 2 = .ok (.if_icmp .gt 7, 3) := dk_163 0 7 (dk_at dksJ4_min_0 2 rfl rfl)
theorem dJ4_min_5 : decode cJ4_min 5 = .ok (.iload_n 0, 1) := dk_26 (dk_at dksJ4_min_0 5 rfl rfl)
theorem dJ4_min_6 : decode cJ4_min 6 = .ok (.goto 4, 3) := dk_167 0 4 (dk_at dksJ4_min_0 6 rfl rfl)
theorem dJ4_min_9 : decode cJ4_min 9 = .ok (.iload_n 1, 1) := dk_27 (dk_at dksJ4_min_0 9 rfl rfl)
theorem dJ4_min_10 : decode cJ4_min 10 = .ok (.ireturn, 1) := dk_172 (dk_at dksJ4_min_0 10 rfl rfl)
abbrev cJ4_abs : ByteArray := prog_24_method_59_code
def yJ4_abs : MethodName := ⟨RJ4, "abs", "(I)I"⟩
def dkwJ4_abs_0 : List UInt8 := [26, 156, 0, 8, 26, 116, 167, 0, 4, 26, 172]
abbrev dktJ4_abs_0 : List UInt8 := dkwJ4_abs_0 ++ []
theorem dksJ4_abs_0 : cJ4_abs.data.toList.drop 0 = dktJ4_abs_0 := by decide +kernel
theorem dJ4_abs_0 : decode cJ4_abs 0 = .ok (.iload_n 0, 1) := dk_26 (dk_at dksJ4_abs_0 0 rfl rfl)
theorem dJ4_abs_1 : decode cJ4_abs 1 = .ok (.ifCond .ge 8, 3) := dk_156 0 8 (dk_at dksJ4_abs_0 1 rfl rfl)
theorem dJ4_abs_4 : decode cJ4_abs 4 = .ok (.iload_n 0, 1) := dk_26 (dk_at dksJ4_abs_0 4 rfl rfl)
theorem dJ4_abs_5 : decode cJ4_abs 5 = .ok (.ineg, 1) := dk_116 (dk_at dksJ4_abs_0 5 rfl rfl)
theorem dJ4_abs_6 : decode cJ4_abs 6 = .ok (.goto 4, 3) := dk_167 0 4 (dk_at dksJ4_abs_0 6 rfl rfl)
theorem dJ4_abs_9 : decode cJ4_abs 9 = .ok (.iload_n 0, 1) := dk_26 (dk_at dksJ4_abs_0 9 rfl rfl)
theorem dJ4_abs_10 : decode cJ4_abs 10 = .ok (.ireturn, 1) := dk_172 (dk_at dksJ4_abs_0 10 rfl rfl)
theorem q62 : (Jvm.Cond.initialized "java/lang/Math") ∈ lw_all := lw_g (lw_at lw_m1 10 rfl) rfl
theorem q271 : (Jvm.Cond.static ({ cls := "java/lang/Math", name := "max", desc := "(II)I" } : Jvm.MethodName)) ∈ lw_all := lw_g (lw_at lw_m1 219 rfl) rfl
theorem q272 : (Jvm.Cond.code ({ cls := "java/lang/Math", name := "max", desc := "(II)I" } : Jvm.MethodName) prog_24_method_65_code (2 : Nat) (Option.some Jvm.ClassFile.FieldType.int)) ∈ lw_all := lw_g (lw_at lw_m1 220 rfl) rfl
theorem q309 : (Jvm.Cond.static ({ cls := "java/lang/Math", name := "min", desc := "(II)I" } : Jvm.MethodName)) ∈ lw_all := lw_g (lw_at lw_m2 17 rfl) rfl
theorem q310 : (Jvm.Cond.code ({ cls := "java/lang/Math", name := "min", desc := "(II)I" } : Jvm.MethodName) prog_24_method_69_code (2 : Nat) (Option.some Jvm.ClassFile.FieldType.int)) ∈ lw_all := lw_g (lw_at lw_m2 18 rfl) rfl
theorem q452 : (Jvm.Cond.static ({ cls := "java/lang/Math", name := "abs", desc := "(I)I" } : Jvm.MethodName)) ∈ lw_all := lw_g (lw_at lw_m2 160 rfl) rfl
theorem q453 : (Jvm.Cond.code ({ cls := "java/lang/Math", name := "abs", desc := "(I)I" } : Jvm.MethodName) prog_24_method_59_code (1 : Nat) (Option.some Jvm.ClassFile.FieldType.int)) ∈ lw_all := lw_g (lw_at lw_m2 161 rfl) rfl

/-! java/util/Arrays -/
set_option maxRecDepth 100000
def RJ5 : String := "java/util/Arrays"
abbrev cJ5_copyOf : ByteArray := prog_33_method_119_code
def yJ5_copyOf : MethodName := ⟨RJ5, "copyOf", "([Ljava/lang/Object;I)[Ljava/lang/Object;"⟩
def dkwJ5_copyOf_0 : List UInt8 := [42, 27, 42, 182, 0, 86, 184, 1, 44, 176]
abbrev dktJ5_copyOf_0 : List UInt8 := dkwJ5_copyOf_0 ++ []
theorem dksJ5_copyOf_0 : cJ5_copyOf.data.toList.drop 0 = dktJ5_copyOf_0 := by decide +kernel
theorem dJ5_copyOf_0 : decode cJ5_copyOf 0 = .ok (.aload_n 0, 1) := dk_42 (dk_at dksJ5_copyOf_0 0 rfl rfl)
theorem dJ5_copyOf_1 : decode cJ5_copyOf 1 = .ok (.iload_n 1, 1) := dk_27 (dk_at dksJ5_copyOf_0 1 rfl rfl)
theorem dJ5_copyOf_2 : decode cJ5_copyOf 2 = .ok (.aload_n 0, 1) := dk_42 (dk_at dksJ5_copyOf_0 2 rfl rfl)
theorem dJ5_copyOf_3 : decode cJ5_copyOf 3 = .ok (.invokevirtual 86, 3) := dk_182 0 86 (dk_at dksJ5_copyOf_0 3 rfl rfl)
theorem dJ5_copyOf_6 : decode cJ5_copyOf 6 = .ok (.invokestatic 300, 3) := dk_184 1 44 (dk_at dksJ5_copyOf_0 6 rfl rfl)
theorem dJ5_copyOf_9 : decode cJ5_copyOf 9 = .ok (.areturn, 1) := dk_176 (dk_at dksJ5_copyOf_0 9 rfl rfl)
abbrev cJ5_copyOf_2 : ByteArray := prog_33_method_120_code
def yJ5_copyOf_2 : MethodName := ⟨RJ5, "copyOf", "([Ljava/lang/Object;ILjava/lang/Class;)[Ljava/lang/Object;"⟩
def dkwJ5_copyOf_2_1 : List UInt8 := [78, 42, 3, 45, 3, 42, 190, 27, 184, 1, 48, 184, 0, 150, 45, 176]
abbrev dktJ5_copyOf_2_1 : List UInt8 := dkwJ5_copyOf_2_1 ++ []
def dkwJ5_copyOf_2_0 : List UInt8 := [44, 18, 110, 166, 0, 10, 27, 189, 0, 2, 167, 0, 14, 44, 182, 0, 90, 27, 184, 0, 95, 192, 0, 110]
abbrev dktJ5_copyOf_2_0 : List UInt8 := dkwJ5_copyOf_2_0 ++ dktJ5_copyOf_2_1
theorem dksJ5_copyOf_2_0 : cJ5_copyOf_2.data.toList.drop 0 = dktJ5_copyOf_2_0 := by decide +kernel
theorem dksJ5_copyOf_2_1 : cJ5_copyOf_2.data.toList.drop 24 = dktJ5_copyOf_2_1 := dk_seg dksJ5_copyOf_2_0 24 rfl rfl
theorem dJ5_copyOf_2_0 : decode cJ5_copyOf_2 0 = .ok (.aload_n 2, 1) := dk_44 (dk_at dksJ5_copyOf_2_0 0 rfl rfl)
theorem dJ5_copyOf_2_1 : decode cJ5_copyOf_2 1 = .ok (.ldc 110, 2) := dk_18 110 (dk_at dksJ5_copyOf_2_0 1 rfl rfl)
theorem dJ5_copyOf_2_3 : decode cJ5_copyOf_2 3 = .ok (.if_acmp .ne 10, 3) := dk_166 0 10 (dk_at dksJ5_copyOf_2_0 3 rfl rfl)
theorem dJ5_copyOf_2_6 : decode cJ5_copyOf_2 6 = .ok (.iload_n 1, 1) := dk_27 (dk_at dksJ5_copyOf_2_0 6 rfl rfl)
theorem dJ5_copyOf_2_7 : decode cJ5_copyOf_2 7 = .ok (.anewarray 2, 3) := dk_189 0 2 (dk_at dksJ5_copyOf_2_0 7 rfl rfl)
theorem dJ5_copyOf_2_10 : decode cJ5_copyOf_2 10 = .ok (.goto 14, 3) := dk_167 0 14 (dk_at dksJ5_copyOf_2_0 10 rfl rfl)
theorem dJ5_copyOf_2_13 : decode cJ5_copyOf_2 13 = .ok (.aload_n 2, 1) := dk_44 (dk_at dksJ5_copyOf_2_0 13 rfl rfl)
theorem dJ5_copyOf_2_14 : decode cJ5_copyOf_2 14 = .ok (.invokevirtual 90, 3) := dk_182 0 90 (dk_at dksJ5_copyOf_2_0 14 rfl rfl)
theorem dJ5_copyOf_2_17 : decode cJ5_copyOf_2 17 = .ok (.iload_n 1, 1) := dk_27 (dk_at dksJ5_copyOf_2_0 17 rfl rfl)
theorem dJ5_copyOf_2_18 : decode cJ5_copyOf_2 18 = .ok (.invokestatic 95, 3) := dk_184 0 95 (dk_at dksJ5_copyOf_2_0 18 rfl rfl)
theorem dJ5_copyOf_2_21 : decode cJ5_copyOf_2 21 = .ok (.checkcast 110, 3) := dk_192 0 110 (dk_at dksJ5_copyOf_2_0 21 rfl rfl)
theorem dJ5_copyOf_2_24 : decode cJ5_copyOf_2 24 = .ok (.astore_n 3, 1) := dk_78 (dk_at dksJ5_copyOf_2_1 0 rfl rfl)
theorem dJ5_copyOf_2_25 : decode cJ5_copyOf_2 25 = .ok (.aload_n 0, 1) := dk_42 (dk_at dksJ5_copyOf_2_1 1 rfl rfl)
theorem dJ5_copyOf_2_26 : decode cJ5_copyOf_2 26 = .ok (.iconst 0, 1) := dk_3 (dk_at dksJ5_copyOf_2_1 2 rfl rfl)
theorem dJ5_copyOf_2_27 : decode cJ5_copyOf_2 27 = .ok (.aload_n 3, 1) := dk_45 (dk_at dksJ5_copyOf_2_1 3 rfl rfl)
theorem dJ5_copyOf_2_28 : decode cJ5_copyOf_2 28 = .ok (.iconst 0, 1) := dk_3 (dk_at dksJ5_copyOf_2_1 4 rfl rfl)
theorem dJ5_copyOf_2_29 : decode cJ5_copyOf_2 29 = .ok (.aload_n 0, 1) := dk_42 (dk_at dksJ5_copyOf_2_1 5 rfl rfl)
theorem dJ5_copyOf_2_30 : decode cJ5_copyOf_2 30 = .ok (.arraylength, 1) := dk_190 (dk_at dksJ5_copyOf_2_1 6 rfl rfl)
theorem dJ5_copyOf_2_31 : decode cJ5_copyOf_2 31 = .ok (.iload_n 1, 1) := dk_27 (dk_at dksJ5_copyOf_2_1 7 rfl rfl)
theorem dJ5_copyOf_2_32 : decode cJ5_copyOf_2 32 = .ok (.invokestatic 304, 3) := dk_184 1 48 (dk_at dksJ5_copyOf_2_1 8 rfl rfl)
theorem dJ5_copyOf_2_35 : decode cJ5_copyOf_2 35 = .ok (.invokestatic 150, 3) := dk_184 0 150 (dk_at dksJ5_copyOf_2_1 11 rfl rfl)
theorem dJ5_copyOf_2_38 : decode cJ5_copyOf_2 38 = .ok (.aload_n 3, 1) := dk_45 (dk_at dksJ5_copyOf_2_1 14 rfl rfl)
theorem dJ5_copyOf_2_39 : decode cJ5_copyOf_2 39 = .ok (.areturn, 1) := dk_176 (dk_at dksJ5_copyOf_2_1 15 rfl rfl)
theorem q63 : (Jvm.Cond.initialized "java/util/Arrays") ∈ lw_all := lw_g (lw_at lw_m1 11 rfl) rfl
theorem q278 : (Jvm.Cond.static ({ cls := "java/util/Arrays", name := "copyOf", desc := "([Ljava/lang/Object;I)[Ljava/lang/Object;" } : Jvm.MethodName)) ∈ lw_all := lw_g (lw_at lw_m1 226 rfl) rfl
theorem q279 : (Jvm.Cond.code ({ cls := "java/util/Arrays", name := "copyOf", desc := "([Ljava/lang/Object;I)[Ljava/lang/Object;" } : Jvm.MethodName) prog_33_method_119_code (2 : Nat) (Option.some (Jvm.ClassFile.FieldType.array (Jvm.ClassFile.FieldType.object "java/lang/Object")))) ∈ lw_all := lw_g (lw_at lw_m1 227 rfl) rfl
theorem q280 : (Jvm.Cond.methodLink "java/util/Arrays" (86 : Nat) ({ cls := "java/lang/Object", name := "getClass", desc := "()Ljava/lang/Class;" } : Jvm.MethodName)) ∈ lw_all := lw_g (lw_at lw_m1 228 rfl) rfl
theorem q302 : (Jvm.Cond.methodLink "java/util/Arrays" (300 : Nat) ({ cls := "java/util/Arrays", name := "copyOf", desc := "([Ljava/lang/Object;ILjava/lang/Class;)[Ljava/lang/Object;" } : Jvm.MethodName)) ∈ lw_all := lw_g (lw_at lw_m2 10 rfl) rfl
theorem q303 : (Jvm.Cond.static ({ cls := "java/util/Arrays", name := "copyOf", desc := "([Ljava/lang/Object;ILjava/lang/Class;)[Ljava/lang/Object;" } : Jvm.MethodName)) ∈ lw_all := lw_g (lw_at lw_m2 11 rfl) rfl
theorem q304 : (Jvm.Cond.code ({ cls := "java/util/Arrays", name := "copyOf", desc := "([Ljava/lang/Object;ILjava/lang/Class;)[Ljava/lang/Object;" } : Jvm.MethodName) prog_33_method_120_code (4 : Nat) (Option.some (Jvm.ClassFile.FieldType.array (Jvm.ClassFile.FieldType.object "java/lang/Object")))) ∈ lw_all := lw_g (lw_at lw_m2 12 rfl) rfl
theorem q305 : (Jvm.Cond.classLink "java/util/Arrays" (110 : Nat) "[Ljava/lang/Object;") ∈ lw_all := lw_g (lw_at lw_m2 13 rfl) rfl
theorem q307 : (Jvm.Cond.classLink "java/util/Arrays" (2 : Nat) "java/lang/Object") ∈ lw_all := lw_g (lw_at lw_m2 15 rfl) rfl
theorem q308 : (Jvm.Cond.methodLink "java/util/Arrays" (304 : Nat) ({ cls := "java/lang/Math", name := "min", desc := "(II)I" } : Jvm.MethodName)) ∈ lw_all := lw_g (lw_at lw_m2 16 rfl) rfl
theorem q311 : (Jvm.Cond.methodLink "java/util/Arrays" (150 : Nat) ({ cls := "java/lang/System", name := "arraycopy", desc := "(Ljava/lang/Object;ILjava/lang/Object;II)V" } : Jvm.MethodName)) ∈ lw_all := lw_g (lw_at lw_m2 19 rfl) rfl

/-! java/lang/Throwable -/
set_option maxRecDepth 100000
def RJ6 : String := "java/lang/Throwable"
def TJ6 : u_T := fun k => match k with
  | 0 => ("java/lang/Throwable", "cause", "Ljava/lang/Throwable;", false)
  | 1 => ("java/lang/Throwable", "stackTrace", "[Ljava/lang/StackTraceElement;", false)
  | 2 => ("java/lang/Throwable", "suppressedExceptions", "Ljava/util/List;", false)
  | 3 => ("java/lang/Throwable", "detailMessage", "Ljava/lang/String;", false)
  | _ => ("java/lang/Throwable", "backtrace", "Ljava/lang/Object;", false)
def tyJ6 : Nat → FieldType := fun k => match k with
  | 0 => .object "java/lang/Throwable"
  | 1 => .array (.object "java/lang/StackTraceElement")
  | 2 => .object "java/util/List"
  | 3 => .object "java/lang/String"
  | _ => .object "java/lang/Object"
abbrev wsJ60 : List Cond := u_ws RJ6 TJ6 5
theorem nmJ6 : ∀ a, a < 5 → ∀ b, b < 5 → a ≠ b → (TJ6 a).2.1 ≠ (TJ6 b).2.1 := by decide +kernel
theorem tyJ6_ok : ∀ k, k < 5 → parseFieldDescriptor (TJ6 k).2.2.1 = some (tyJ6 k) := by decide +kernel
abbrev cJ6_init : ByteArray := prog_28_method_1_code
def yJ6_init : MethodName := ⟨RJ6, "<init>", "()V"⟩
def dkwJ6_init_1 : List UInt8 := [182, 0, 27, 87, 177]
abbrev dktJ6_init_1 : List UInt8 := dkwJ6_init_1 ++ []
def dkwJ6_init_0 : List UInt8 := [42, 183, 0, 1, 42, 42, 181, 0, 7, 42, 178, 0, 13, 181, 0, 17, 42, 178, 0, 20, 181, 0, 24, 42]
abbrev dktJ6_init_0 : List UInt8 := dkwJ6_init_0 ++ dktJ6_init_1
theorem dksJ6_init_0 : cJ6_init.data.toList.drop 0 = dktJ6_init_0 := by decide +kernel
theorem dksJ6_init_1 : cJ6_init.data.toList.drop 24 = dktJ6_init_1 := dk_seg dksJ6_init_0 24 rfl rfl
theorem dJ6_init_0 : decode cJ6_init 0 = .ok (.aload_n 0, 1) := dk_42 (dk_at dksJ6_init_0 0 rfl rfl)
theorem dJ6_init_1 : decode cJ6_init 1 = .ok (.invokespecial 1, 3) := dk_183 0 1 (dk_at dksJ6_init_0 1 rfl rfl)
theorem dJ6_init_4 : decode cJ6_init 4 = .ok (.aload_n 0, 1) := dk_42 (dk_at dksJ6_init_0 4 rfl rfl)
theorem dJ6_init_5 : decode cJ6_init 5 = .ok (.aload_n 0, 1) := dk_42 (dk_at dksJ6_init_0 5 rfl rfl)
theorem dJ6_init_6 : decode cJ6_init 6 = .ok (.putfield 7, 3) := dk_181 0 7 (dk_at dksJ6_init_0 6 rfl rfl)
theorem dJ6_init_9 : decode cJ6_init 9 = .ok (.aload_n 0, 1) := dk_42 (dk_at dksJ6_init_0 9 rfl rfl)
theorem dJ6_init_10 : decode cJ6_init 10 = .ok (.getstatic 13, 3) := dk_178 0 13 (dk_at dksJ6_init_0 10 rfl rfl)
theorem dJ6_init_13 : decode cJ6_init 13 = .ok (.putfield 17, 3) := dk_181 0 17 (dk_at dksJ6_init_0 13 rfl rfl)
theorem dJ6_init_16 : decode cJ6_init 16 = .ok (.aload_n 0, 1) := dk_42 (dk_at dksJ6_init_0 16 rfl rfl)
theorem dJ6_init_17 : decode cJ6_init 17 = .ok (.getstatic 20, 3) := dk_178 0 20 (dk_at dksJ6_init_0 17 rfl rfl)
theorem dJ6_init_20 : decode cJ6_init 20 = .ok (.putfield 24, 3) := dk_181 0 24 (dk_at dksJ6_init_0 20 rfl rfl)
theorem dJ6_init_23 : decode cJ6_init 23 = .ok (.aload_n 0, 1) := dk_42 (dk_at dksJ6_init_0 23 rfl rfl)
theorem dJ6_init_24 : decode cJ6_init 24 = .ok (.invokevirtual 27, 3) := dk_182 0 27 (dk_at dksJ6_init_1 0 rfl rfl)
theorem dJ6_init_27 : decode cJ6_init 27 = .ok (.pop, 1) := dk_87 (dk_at dksJ6_init_1 3 rfl rfl)
theorem dJ6_init_28 : decode cJ6_init 28 = .ok (.return_, 1) := dk_177 (dk_at dksJ6_init_1 4 rfl rfl)
abbrev cJ6_init_2 : ByteArray := prog_28_method_2_code
def yJ6_init_2 : MethodName := ⟨RJ6, "<init>", "(Ljava/lang/String;)V"⟩
def dkwJ6_init_2_1 : List UInt8 := [182, 0, 27, 87, 42, 43, 181, 0, 31, 177]
abbrev dktJ6_init_2_1 : List UInt8 := dkwJ6_init_2_1 ++ []
def dkwJ6_init_2_0 : List UInt8 := [42, 183, 0, 1, 42, 42, 181, 0, 7, 42, 178, 0, 13, 181, 0, 17, 42, 178, 0, 20, 181, 0, 24, 42]
abbrev dktJ6_init_2_0 : List UInt8 := dkwJ6_init_2_0 ++ dktJ6_init_2_1
theorem dksJ6_init_2_0 : cJ6_init_2.data.toList.drop 0 = dktJ6_init_2_0 := by decide +kernel
theorem dksJ6_init_2_1 : cJ6_init_2.data.toList.drop 24 = dktJ6_init_2_1 := dk_seg dksJ6_init_2_0 24 rfl rfl
theorem dJ6_init_2_0 : decode cJ6_init_2 0 = .ok (.aload_n 0, 1) := dk_42 (dk_at dksJ6_init_2_0 0 rfl rfl)
theorem dJ6_init_2_1 : decode cJ6_init_2 1 = .ok (.invokespecial 1, 3) := dk_183 0 1 (dk_at dksJ6_init_2_0 1 rfl rfl)
theorem dJ6_init_2_4 : decode cJ6_init_2 4 = .ok (.aload_n 0, 1) := dk_42 (dk_at dksJ6_init_2_0 4 rfl rfl)
theorem dJ6_init_2_5 : decode cJ6_init_2 5 = .ok (.aload_n 0, 1) := dk_42 (dk_at dksJ6_init_2_0 5 rfl rfl)
theorem dJ6_init_2_6 : decode cJ6_init_2 6 = .ok (.putfield 7, 3) := dk_181 0 7 (dk_at dksJ6_init_2_0 6 rfl rfl)
theorem dJ6_init_2_9 : decode cJ6_init_2 9 = .ok (.aload_n 0, 1) := dk_42 (dk_at dksJ6_init_2_0 9 rfl rfl)
theorem dJ6_init_2_10 : decode cJ6_init_2 10 = .ok (.getstatic 13, 3) := dk_178 0 13 (dk_at dksJ6_init_2_0 10 rfl rfl)
theorem dJ6_init_2_13 : decode cJ6_init_2 13 = .ok (.putfield 17, 3) := dk_181 0 17 (dk_at dksJ6_init_2_0 13 rfl rfl)
theorem dJ6_init_2_16 : decode cJ6_init_2 16 = .ok (.aload_n 0, 1) := dk_42 (dk_at dksJ6_init_2_0 16 rfl rfl)
theorem dJ6_init_2_17 : decode cJ6_init_2 17 = .ok (.getstatic 20, 3) := dk_178 0 20 (dk_at dksJ6_init_2_0 17 rfl rfl)
theorem dJ6_init_2_20 : decode cJ6_init_2 20 = .ok (.putfield 24, 3) := dk_181 0 24 (dk_at dksJ6_init_2_0 20 rfl rfl)
theorem dJ6_init_2_23 : decode cJ6_init_2 23 = .ok (.aload_n 0, 1) := dk_42 (dk_at dksJ6_init_2_0 23 rfl rfl)
theorem dJ6_init_2_24 : decode cJ6_init_2 24 = .ok (.invokevirtual 27, 3) := dk_182 0 27 (dk_at dksJ6_init_2_1 0 rfl rfl)
theorem dJ6_init_2_27 : decode cJ6_init_2 27 = .ok (.pop, 1) := dk_87 (dk_at dksJ6_init_2_1 3 rfl rfl)
theorem dJ6_init_2_28 : decode cJ6_init_2 28 = .ok (.aload_n 0, 1) := dk_42 (dk_at dksJ6_init_2_1 4 rfl rfl)
theorem dJ6_init_2_29 : decode cJ6_init_2 29 = .ok (.aload_n 1, 1) := dk_43 (dk_at dksJ6_init_2_1 5 rfl rfl)
theorem dJ6_init_2_30 : decode cJ6_init_2 30 = .ok (.putfield 31, 3) := dk_181 0 31 (dk_at dksJ6_init_2_1 6 rfl rfl)
theorem dJ6_init_2_33 : decode cJ6_init_2 33 = .ok (.return_, 1) := dk_177 (dk_at dksJ6_init_2_1 9 rfl rfl)
theorem q66 : (Jvm.Cond.initialized "java/lang/Throwable") ∈ lw_all := lw_g (lw_at lw_m1 14 rfl) rfl
theorem q559 : (Jvm.Cond.declares ({ cls := "java/lang/Throwable", name := "<init>", desc := "()V" } : Jvm.MethodName)) ∈ lw_tbl := lw_at lw_m3 27 rfl
theorem q560 : (Jvm.Cond.declares ({ cls := "java/lang/Throwable", name := "<init>", desc := "(Ljava/lang/String;)V" } : Jvm.MethodName)) ∈ lw_tbl := lw_at lw_m3 28 rfl
theorem q564 : (Jvm.Cond.lays "java/lang/Throwable" "java/lang/Throwable" "cause" "Ljava/lang/Throwable;") ∈ lw_all := lw_g (lw_at lw_m3 32 rfl) rfl
theorem q566 : (Jvm.Cond.lays "java/lang/Throwable" "java/lang/Throwable" "stackTrace" "[Ljava/lang/StackTraceElement;") ∈ lw_all := lw_g (lw_at lw_m3 34 rfl) rfl
theorem q568 : (Jvm.Cond.lays "java/lang/Throwable" "java/lang/Throwable" "suppressedExceptions" "Ljava/util/List;") ∈ lw_all := lw_g (lw_at lw_m3 36 rfl) rfl
theorem q570 : (Jvm.Cond.lays "java/lang/Throwable" "java/lang/Throwable" "detailMessage" "Ljava/lang/String;") ∈ lw_all := lw_g (lw_at lw_m3 38 rfl) rfl
theorem q572 : (Jvm.Cond.lays "java/lang/Throwable" "java/lang/Throwable" "backtrace" "Ljava/lang/Object;") ∈ lw_all := lw_g (lw_at lw_m3 40 rfl) rfl
theorem q573 : (Jvm.Cond.fieldLink "java/lang/Throwable" (198 : Nat) "java/lang/Throwable" "backtrace" "Ljava/lang/Object;") ∈ lw_all := lw_g (lw_at lw_m3 41 rfl) rfl
theorem q574 : (Jvm.Cond.superclass "java/lang/Throwable" "java/lang/Object") ∈ lw_all := lw_g (lw_at lw_m3 42 rfl) rfl
theorem q575 : (Jvm.Cond.instanceMethod ({ cls := "java/lang/Throwable", name := "<init>", desc := "()V" } : Jvm.MethodName)) ∈ lw_all := lw_g (lw_at lw_m3 43 rfl) rfl
theorem q576 : (Jvm.Cond.code ({ cls := "java/lang/Throwable", name := "<init>", desc := "()V" } : Jvm.MethodName) prog_28_method_1_code (1 : Nat) (Option.none : Option Jvm.ClassFile.FieldType)) ∈ lw_all := lw_g (lw_at lw_m3 44 rfl) rfl
theorem q577 : (Jvm.Cond.methodLink "java/lang/Throwable" (1 : Nat) ({ cls := "java/lang/Object", name := "<init>", desc := "()V" } : Jvm.MethodName)) ∈ lw_all := lw_g (lw_at lw_m3 45 rfl) rfl
theorem q578 : (Jvm.Cond.fieldLink "java/lang/Throwable" (13 : Nat) "java/lang/Throwable" "UNASSIGNED_STACK" "[Ljava/lang/StackTraceElement;") ∈ lw_all := lw_g (lw_at lw_m3 46 rfl) rfl
theorem q579 : (Jvm.Cond.laysStatic "java/lang/Throwable" "UNASSIGNED_STACK" "[Ljava/lang/StackTraceElement;") ∈ lw_tbl := lw_at lw_m3 47 rfl
theorem q580 : (Jvm.Cond.fieldLink "java/lang/Throwable" (20 : Nat) "java/lang/Throwable" "SUPPRESSED_SENTINEL" "Ljava/util/List;") ∈ lw_all := lw_g (lw_at lw_m3 48 rfl) rfl
theorem q581 : (Jvm.Cond.laysStatic "java/lang/Throwable" "SUPPRESSED_SENTINEL" "Ljava/util/List;") ∈ lw_tbl := lw_at lw_m3 49 rfl
theorem q582 : (Jvm.Cond.methodLink "java/lang/Throwable" (27 : Nat) ({ cls := "java/lang/Throwable", name := "fillInStackTrace", desc := "()Ljava/lang/Throwable;" } : Jvm.MethodName)) ∈ lw_all := lw_g (lw_at lw_m3 50 rfl) rfl
theorem q583 : (Jvm.Cond.instanceMethod ({ cls := "java/lang/Throwable", name := "fillInStackTrace", desc := "()Ljava/lang/Throwable;" } : Jvm.MethodName)) ∈ lw_all := lw_g (lw_at lw_m3 51 rfl) rfl
theorem q584 : (Jvm.Cond.sameMethod "java/lang/Throwable" "java/lang/Throwable" "fillInStackTrace" "()Ljava/lang/Throwable;") ∈ lw_all := lw_g (lw_at lw_m3 52 rfl) rfl
theorem q591 : (Jvm.Cond.codeSync ({ cls := "java/lang/Throwable", name := "fillInStackTrace", desc := "()Ljava/lang/Throwable;" } : Jvm.MethodName) prog_28_method_18_code (1 : Nat) (Option.some (Jvm.ClassFile.FieldType.object "java/lang/Throwable"))) ∈ lw_all := lw_g (lw_at lw_m3 59 rfl) rfl
theorem q592 : (Jvm.Cond.methodLink "java/lang/Throwable" (202 : Nat) ({ cls := "java/lang/Throwable", name := "fillInStackTrace", desc := "(I)Ljava/lang/Throwable;" } : Jvm.MethodName)) ∈ lw_all := lw_g (lw_at lw_m3 60 rfl) rfl
theorem q593 : (Jvm.Cond.privateMethod ({ cls := "java/lang/Throwable", name := "fillInStackTrace", desc := "(I)Ljava/lang/Throwable;" } : Jvm.MethodName)) ∈ lw_tbl := lw_at lw_m3 61 rfl
theorem q594 : (Jvm.Cond.instanceMethod ({ cls := "java/lang/Throwable", name := "fillInStackTrace", desc := "(I)Ljava/lang/Throwable;" } : Jvm.MethodName)) ∈ lw_all := lw_g (lw_at lw_m3 62 rfl) rfl
theorem q595 : (Jvm.Cond.instantiable "java/lang/Throwable" (6 : Nat)) ∈ lw_all := lw_g (lw_at lw_m3 63 rfl) rfl
theorem q596 : (Jvm.Cond.native ({ cls := "java/lang/Throwable", name := "fillInStackTrace", desc := "(I)Ljava/lang/Throwable;" } : Jvm.MethodName)) ∈ lw_all := lw_g (lw_at lw_m3 64 rfl) rfl
theorem q607 : (Jvm.Cond.fieldLink "java/lang/Throwable" (198 : Nat) "java/lang/Throwable" "backtrace" "Ljava/lang/Object;") ∈ lw_all := lw_g (lw_at lw_m3 75 rfl) rfl
theorem q608 : (Jvm.Cond.fieldLink "java/lang/Throwable" (31 : Nat) "java/lang/Throwable" "detailMessage" "Ljava/lang/String;") ∈ lw_all := lw_g (lw_at lw_m3 76 rfl) rfl
theorem q609 : (Jvm.Cond.fieldLink "java/lang/Throwable" (7 : Nat) "java/lang/Throwable" "cause" "Ljava/lang/Throwable;") ∈ lw_all := lw_g (lw_at lw_m3 77 rfl) rfl
theorem q610 : (Jvm.Cond.fieldLink "java/lang/Throwable" (17 : Nat) "java/lang/Throwable" "stackTrace" "[Ljava/lang/StackTraceElement;") ∈ lw_all := lw_g (lw_at lw_m3 78 rfl) rfl
theorem q611 : (Jvm.Cond.fieldLink "java/lang/Throwable" (24 : Nat) "java/lang/Throwable" "suppressedExceptions" "Ljava/util/List;") ∈ lw_all := lw_g (lw_at lw_m3 79 rfl) rfl
theorem q612 : (Jvm.Cond.soleField "java/lang/Throwable" "backtrace") ∈ lw_all := lw_g (lw_at lw_m3 80 rfl) rfl
theorem q613 : (Jvm.Cond.soleField "java/lang/Throwable" "detailMessage") ∈ lw_all := lw_g (lw_at lw_m3 81 rfl) rfl
theorem q614 : (Jvm.Cond.soleField "java/lang/Throwable" "cause") ∈ lw_all := lw_g (lw_at lw_m3 82 rfl) rfl
theorem q615 : (Jvm.Cond.soleField "java/lang/Throwable" "stackTrace") ∈ lw_all := lw_g (lw_at lw_m3 83 rfl) rfl
theorem q617 : (Jvm.Cond.soleField "java/lang/Throwable" "depth") ∈ lw_all := lw_g (lw_at lw_m3 85 rfl) rfl
theorem q618 : (Jvm.Cond.soleField "java/lang/Throwable" "suppressedExceptions") ∈ lw_all := lw_g (lw_at lw_m3 86 rfl) rfl
theorem q882 : (Jvm.Cond.instanceMethod ({ cls := "java/lang/Throwable", name := "<init>", desc := "(Ljava/lang/String;)V" } : Jvm.MethodName)) ∈ lw_all := lw_g (lw_at lw_m4 110 rfl) rfl
theorem q883 : (Jvm.Cond.code ({ cls := "java/lang/Throwable", name := "<init>", desc := "(Ljava/lang/String;)V" } : Jvm.MethodName) prog_28_method_2_code (2 : Nat) (Option.none : Option Jvm.ClassFile.FieldType)) ∈ lw_all := lw_g (lw_at lw_m4 111 rfl) rfl
theorem q1610 : (Jvm.Cond.sameMethod "java/lang/Throwable" "java/lang/Throwable" "fillInStackTrace" "(I)Ljava/lang/Throwable;") ∈ lw_all := lw_g (lw_at lw_m7 118 rfl) rfl
theorem q1636 : (Jvm.Cond.castable "java/lang/Throwable" "java/lang/Object") ∈ lw_tbl := lw_at lw_m7 144 rfl
theorem in_J6 : ∀ w ∈ wsJ60, w ∈ lw_all := lw_in wsJ60 [564, 566, 568, 570, 572] (by decide +kernel) (by decide +kernel)

/-! java/lang/Exception -/
set_option maxRecDepth 100000
def RJ7 : String := "java/lang/Exception"
abbrev cJ7_init : ByteArray := prog_19_method_1_code
def yJ7_init : MethodName := ⟨RJ7, "<init>", "()V"⟩
theorem dJ7_init_0 : decode cJ7_init 0 = .ok (.aload_n 0, 1) := by decide +kernel
theorem dJ7_init_1 : decode cJ7_init 1 = .ok (.invokespecial 1, 3) := by decide +kernel
theorem dJ7_init_4 : decode cJ7_init 4 = .ok (.return_, 1) := by decide +kernel
abbrev cJ7_init_2 : ByteArray := prog_19_method_2_code
def yJ7_init_2 : MethodName := ⟨RJ7, "<init>", "(Ljava/lang/String;)V"⟩
def dkwJ7_init_2_0 : List UInt8 := [42, 43, 183, 0, 7, 177]
abbrev dktJ7_init_2_0 : List UInt8 := dkwJ7_init_2_0 ++ []
theorem dksJ7_init_2_0 : cJ7_init_2.data.toList.drop 0 = dktJ7_init_2_0 := by decide +kernel
theorem dJ7_init_2_0 : decode cJ7_init_2 0 = .ok (.aload_n 0, 1) := dk_42 (dk_at dksJ7_init_2_0 0 rfl rfl)
theorem dJ7_init_2_1 : decode cJ7_init_2 1 = .ok (.aload_n 1, 1) := dk_43 (dk_at dksJ7_init_2_0 1 rfl rfl)
theorem dJ7_init_2_2 : decode cJ7_init_2 2 = .ok (.invokespecial 7, 3) := dk_183 0 7 (dk_at dksJ7_init_2_0 2 rfl rfl)
theorem dJ7_init_2_5 : decode cJ7_init_2 5 = .ok (.return_, 1) := dk_177 (dk_at dksJ7_init_2_0 5 rfl rfl)
theorem q67 : (Jvm.Cond.initialized "java/lang/Exception") ∈ lw_all := lw_g (lw_at lw_m1 15 rfl) rfl
theorem q557 : (Jvm.Cond.declares ({ cls := "java/lang/Exception", name := "<init>", desc := "()V" } : Jvm.MethodName)) ∈ lw_tbl := lw_at lw_m3 25 rfl
theorem q558 : (Jvm.Cond.declares ({ cls := "java/lang/Exception", name := "<init>", desc := "(Ljava/lang/String;)V" } : Jvm.MethodName)) ∈ lw_tbl := lw_at lw_m3 26 rfl
theorem q604 : (Jvm.Cond.instanceMethod ({ cls := "java/lang/Exception", name := "<init>", desc := "()V" } : Jvm.MethodName)) ∈ lw_all := lw_g (lw_at lw_m3 72 rfl) rfl
theorem q605 : (Jvm.Cond.code ({ cls := "java/lang/Exception", name := "<init>", desc := "()V" } : Jvm.MethodName) prog_19_method_1_code (1 : Nat) (Option.none : Option Jvm.ClassFile.FieldType)) ∈ lw_all := lw_g (lw_at lw_m3 73 rfl) rfl
theorem q606 : (Jvm.Cond.methodLink "java/lang/Exception" (1 : Nat) ({ cls := "java/lang/Throwable", name := "<init>", desc := "()V" } : Jvm.MethodName)) ∈ lw_all := lw_g (lw_at lw_m3 74 rfl) rfl
theorem q879 : (Jvm.Cond.instanceMethod ({ cls := "java/lang/Exception", name := "<init>", desc := "(Ljava/lang/String;)V" } : Jvm.MethodName)) ∈ lw_all := lw_g (lw_at lw_m4 107 rfl) rfl
theorem q880 : (Jvm.Cond.code ({ cls := "java/lang/Exception", name := "<init>", desc := "(Ljava/lang/String;)V" } : Jvm.MethodName) prog_19_method_2_code (2 : Nat) (Option.none : Option Jvm.ClassFile.FieldType)) ∈ lw_all := lw_g (lw_at lw_m4 108 rfl) rfl
theorem q881 : (Jvm.Cond.methodLink "java/lang/Exception" (7 : Nat) ({ cls := "java/lang/Throwable", name := "<init>", desc := "(Ljava/lang/String;)V" } : Jvm.MethodName)) ∈ lw_all := lw_g (lw_at lw_m4 109 rfl) rfl

/-! java/lang/RuntimeException -/
set_option maxRecDepth 100000
def RJ8 : String := "java/lang/RuntimeException"
abbrev cJ8_init : ByteArray := prog_25_method_1_code
def yJ8_init : MethodName := ⟨RJ8, "<init>", "()V"⟩
theorem dJ8_init_0 : decode cJ8_init 0 = .ok (.aload_n 0, 1) := by decide +kernel
theorem dJ8_init_1 : decode cJ8_init 1 = .ok (.invokespecial 1, 3) := by decide +kernel
theorem dJ8_init_4 : decode cJ8_init 4 = .ok (.return_, 1) := by decide +kernel
abbrev cJ8_init_2 : ByteArray := prog_25_method_2_code
def yJ8_init_2 : MethodName := ⟨RJ8, "<init>", "(Ljava/lang/String;)V"⟩
def dkwJ8_init_2_0 : List UInt8 := [42, 43, 183, 0, 7, 177]
abbrev dktJ8_init_2_0 : List UInt8 := dkwJ8_init_2_0 ++ []
theorem dksJ8_init_2_0 : cJ8_init_2.data.toList.drop 0 = dktJ8_init_2_0 := by decide +kernel
theorem dJ8_init_2_0 : decode cJ8_init_2 0 = .ok (.aload_n 0, 1) := dk_42 (dk_at dksJ8_init_2_0 0 rfl rfl)
theorem dJ8_init_2_1 : decode cJ8_init_2 1 = .ok (.aload_n 1, 1) := dk_43 (dk_at dksJ8_init_2_0 1 rfl rfl)
theorem dJ8_init_2_2 : decode cJ8_init_2 2 = .ok (.invokespecial 7, 3) := dk_183 0 7 (dk_at dksJ8_init_2_0 2 rfl rfl)
theorem dJ8_init_2_5 : decode cJ8_init_2 5 = .ok (.return_, 1) := dk_177 (dk_at dksJ8_init_2_0 5 rfl rfl)
theorem q68 : (Jvm.Cond.initialized "java/lang/RuntimeException") ∈ lw_all := lw_g (lw_at lw_m1 16 rfl) rfl
theorem q555 : (Jvm.Cond.declares ({ cls := "java/lang/RuntimeException", name := "<init>", desc := "()V" } : Jvm.MethodName)) ∈ lw_tbl := lw_at lw_m3 23 rfl
theorem q556 : (Jvm.Cond.declares ({ cls := "java/lang/RuntimeException", name := "<init>", desc := "(Ljava/lang/String;)V" } : Jvm.MethodName)) ∈ lw_tbl := lw_at lw_m3 24 rfl
theorem q601 : (Jvm.Cond.instanceMethod ({ cls := "java/lang/RuntimeException", name := "<init>", desc := "()V" } : Jvm.MethodName)) ∈ lw_all := lw_g (lw_at lw_m3 69 rfl) rfl
theorem q602 : (Jvm.Cond.code ({ cls := "java/lang/RuntimeException", name := "<init>", desc := "()V" } : Jvm.MethodName) prog_25_method_1_code (1 : Nat) (Option.none : Option Jvm.ClassFile.FieldType)) ∈ lw_all := lw_g (lw_at lw_m3 70 rfl) rfl
theorem q603 : (Jvm.Cond.methodLink "java/lang/RuntimeException" (1 : Nat) ({ cls := "java/lang/Exception", name := "<init>", desc := "()V" } : Jvm.MethodName)) ∈ lw_all := lw_g (lw_at lw_m3 71 rfl) rfl
theorem q876 : (Jvm.Cond.instanceMethod ({ cls := "java/lang/RuntimeException", name := "<init>", desc := "(Ljava/lang/String;)V" } : Jvm.MethodName)) ∈ lw_all := lw_g (lw_at lw_m4 104 rfl) rfl
theorem q877 : (Jvm.Cond.code ({ cls := "java/lang/RuntimeException", name := "<init>", desc := "(Ljava/lang/String;)V" } : Jvm.MethodName) prog_25_method_2_code (2 : Nat) (Option.none : Option Jvm.ClassFile.FieldType)) ∈ lw_all := lw_g (lw_at lw_m4 105 rfl) rfl
theorem q878 : (Jvm.Cond.methodLink "java/lang/RuntimeException" (7 : Nat) ({ cls := "java/lang/Exception", name := "<init>", desc := "(Ljava/lang/String;)V" } : Jvm.MethodName)) ∈ lw_all := lw_g (lw_at lw_m4 106 rfl) rfl

/-! java/lang/IllegalArgumentException -/
set_option maxRecDepth 100000
def RJ9 : String := "java/lang/IllegalArgumentException"
def TJ9 : u_T := fun k => match k with
  | 0 => ("java/lang/Throwable", "cause", "Ljava/lang/Throwable;", false)
  | 1 => ("java/lang/Throwable", "stackTrace", "[Ljava/lang/StackTraceElement;", false)
  | 2 => ("java/lang/Throwable", "suppressedExceptions", "Ljava/util/List;", false)
  | 3 => ("java/lang/Throwable", "detailMessage", "Ljava/lang/String;", false)
  | 4 => ("java/lang/Throwable", "backtrace", "Ljava/lang/Object;", false)
  | _ => ("java/lang/Throwable", "depth", "I", false)
def tyJ9 : Nat → FieldType := fun k => match k with
  | 0 => .object "java/lang/Throwable"
  | 1 => .array (.object "java/lang/StackTraceElement")
  | 2 => .object "java/util/List"
  | 3 => .object "java/lang/String"
  | 4 => .object "java/lang/Object"
  | _ => .int
abbrev wsJ90 : List Cond := u_ws RJ9 TJ9 6
theorem nmJ9 : ∀ a, a < 6 → ∀ b, b < 6 → a ≠ b → (TJ9 a).2.1 ≠ (TJ9 b).2.1 := by decide +kernel
theorem tyJ9_ok : ∀ k, k < 6 → parseFieldDescriptor (TJ9 k).2.2.1 = some (tyJ9 k) := by decide +kernel
abbrev cJ9_init : ByteArray := prog_20_method_1_code
def yJ9_init : MethodName := ⟨RJ9, "<init>", "()V"⟩
theorem dJ9_init_0 : decode cJ9_init 0 = .ok (.aload_n 0, 1) := by decide +kernel
theorem dJ9_init_1 : decode cJ9_init 1 = .ok (.invokespecial 1, 3) := by decide +kernel
theorem dJ9_init_4 : decode cJ9_init 4 = .ok (.return_, 1) := by decide +kernel
theorem q69 : (Jvm.Cond.initialized "java/lang/IllegalArgumentException") ∈ lw_all := lw_g (lw_at lw_m1 17 rfl) rfl
theorem q295 : (Jvm.Cond.selects "java/lang/IllegalArgumentException" ({ cls := "java/lang/Object", name := "getClass", desc := "()Ljava/lang/Class;" } : Jvm.MethodName) ({ cls := "java/lang/Object", name := "getClass", desc := "()Ljava/lang/Class;" } : Jvm.MethodName)) ∈ lw_all := lw_g (lw_at lw_m2 3 rfl) rfl
theorem q553 : (Jvm.Cond.instantiable "java/lang/IllegalArgumentException" (6 : Nat)) ∈ lw_all := lw_g (lw_at lw_m3 21 rfl) rfl
theorem q554 : (Jvm.Cond.castable "java/lang/IllegalArgumentException" "java/lang/IllegalArgumentException") ∈ lw_tbl := lw_at lw_m3 22 rfl
theorem q561 : (Jvm.Cond.selects "java/lang/IllegalArgumentException" ({ cls := "java/lang/Throwable", name := "fillInStackTrace", desc := "(I)Ljava/lang/Throwable;" } : Jvm.MethodName) ({ cls := "java/lang/Throwable", name := "fillInStackTrace", desc := "(I)Ljava/lang/Throwable;" } : Jvm.MethodName)) ∈ lw_all := lw_g (lw_at lw_m3 29 rfl) rfl
theorem q562 : (Jvm.Cond.selects "java/lang/IllegalArgumentException" ({ cls := "java/lang/Throwable", name := "fillInStackTrace", desc := "()Ljava/lang/Throwable;" } : Jvm.MethodName) ({ cls := "java/lang/Throwable", name := "fillInStackTrace", desc := "()Ljava/lang/Throwable;" } : Jvm.MethodName)) ∈ lw_all := lw_g (lw_at lw_m3 30 rfl) rfl
theorem q563 : (Jvm.Cond.lays "java/lang/IllegalArgumentException" "java/lang/Throwable" "cause" "Ljava/lang/Throwable;") ∈ lw_all := lw_g (lw_at lw_m3 31 rfl) rfl
theorem q565 : (Jvm.Cond.lays "java/lang/IllegalArgumentException" "java/lang/Throwable" "stackTrace" "[Ljava/lang/StackTraceElement;") ∈ lw_all := lw_g (lw_at lw_m3 33 rfl) rfl
theorem q567 : (Jvm.Cond.lays "java/lang/IllegalArgumentException" "java/lang/Throwable" "suppressedExceptions" "Ljava/util/List;") ∈ lw_all := lw_g (lw_at lw_m3 35 rfl) rfl
theorem q569 : (Jvm.Cond.lays "java/lang/IllegalArgumentException" "java/lang/Throwable" "detailMessage" "Ljava/lang/String;") ∈ lw_all := lw_g (lw_at lw_m3 37 rfl) rfl
theorem q571 : (Jvm.Cond.lays "java/lang/IllegalArgumentException" "java/lang/Throwable" "backtrace" "Ljava/lang/Object;") ∈ lw_all := lw_g (lw_at lw_m3 39 rfl) rfl
theorem q598 : (Jvm.Cond.instanceMethod ({ cls := "java/lang/IllegalArgumentException", name := "<init>", desc := "()V" } : Jvm.MethodName)) ∈ lw_all := lw_g (lw_at lw_m3 66 rfl) rfl
theorem q599 : (Jvm.Cond.code ({ cls := "java/lang/IllegalArgumentException", name := "<init>", desc := "()V" } : Jvm.MethodName) prog_20_method_1_code (1 : Nat) (Option.none : Option Jvm.ClassFile.FieldType)) ∈ lw_all := lw_g (lw_at lw_m3 67 rfl) rfl
theorem q600 : (Jvm.Cond.methodLink "java/lang/IllegalArgumentException" (1 : Nat) ({ cls := "java/lang/RuntimeException", name := "<init>", desc := "()V" } : Jvm.MethodName)) ∈ lw_all := lw_g (lw_at lw_m3 68 rfl) rfl
theorem q616 : (Jvm.Cond.lays "java/lang/IllegalArgumentException" "java/lang/Throwable" "depth" "I") ∈ lw_all := lw_g (lw_at lw_m3 84 rfl) rfl
theorem q619 : (Jvm.Cond.superclass "java/lang/IllegalArgumentException" "java/lang/RuntimeException") ∈ lw_all := lw_g (lw_at lw_m3 87 rfl) rfl
theorem q1624 : (Jvm.Cond.castable "java/lang/IllegalArgumentException" "java/lang/Object") ∈ lw_tbl := lw_at lw_m7 132 rfl
theorem in_J9 : ∀ w ∈ wsJ90, w ∈ lw_all := lw_in wsJ90 [563, 565, 567, 569, 571, 616] (by decide +kernel) (by decide +kernel)

/-! java/lang/IllegalStateException -/
set_option maxRecDepth 100000
def RJ10 : String := "java/lang/IllegalStateException"
def TJ10 : u_T := fun k => match k with
  | 0 => ("java/lang/Throwable", "cause", "Ljava/lang/Throwable;", false)
  | 1 => ("java/lang/Throwable", "stackTrace", "[Ljava/lang/StackTraceElement;", false)
  | 2 => ("java/lang/Throwable", "suppressedExceptions", "Ljava/util/List;", false)
  | 3 => ("java/lang/Throwable", "detailMessage", "Ljava/lang/String;", false)
  | 4 => ("java/lang/Throwable", "backtrace", "Ljava/lang/Object;", false)
  | _ => ("java/lang/Throwable", "depth", "I", false)
def tyJ10 : Nat → FieldType := fun k => match k with
  | 0 => .object "java/lang/Throwable"
  | 1 => .array (.object "java/lang/StackTraceElement")
  | 2 => .object "java/util/List"
  | 3 => .object "java/lang/String"
  | 4 => .object "java/lang/Object"
  | _ => .int
abbrev wsJ100 : List Cond := u_ws RJ10 TJ10 6
theorem nmJ10 : ∀ a, a < 6 → ∀ b, b < 6 → a ≠ b → (TJ10 a).2.1 ≠ (TJ10 b).2.1 := by decide +kernel
theorem tyJ10_ok : ∀ k, k < 6 → parseFieldDescriptor (TJ10 k).2.2.1 = some (tyJ10 k) := by decide +kernel
abbrev cJ10_init : ByteArray := prog_21_method_1_code
def yJ10_init : MethodName := ⟨RJ10, "<init>", "()V"⟩
theorem dJ10_init_0 : decode cJ10_init 0 = .ok (.aload_n 0, 1) := by decide +kernel
theorem dJ10_init_1 : decode cJ10_init 1 = .ok (.invokespecial 1, 3) := by decide +kernel
theorem dJ10_init_4 : decode cJ10_init 4 = .ok (.return_, 1) := by decide +kernel
theorem q70 : (Jvm.Cond.initialized "java/lang/IllegalStateException") ∈ lw_all := lw_g (lw_at lw_m1 18 rfl) rfl
theorem q296 : (Jvm.Cond.selects "java/lang/IllegalStateException" ({ cls := "java/lang/Object", name := "getClass", desc := "()Ljava/lang/Class;" } : Jvm.MethodName) ({ cls := "java/lang/Object", name := "getClass", desc := "()Ljava/lang/Class;" } : Jvm.MethodName)) ∈ lw_all := lw_g (lw_at lw_m2 4 rfl) rfl
theorem q587 : (Jvm.Cond.selects "java/lang/IllegalStateException" ({ cls := "java/lang/Throwable", name := "fillInStackTrace", desc := "()Ljava/lang/Throwable;" } : Jvm.MethodName) ({ cls := "java/lang/Throwable", name := "fillInStackTrace", desc := "()Ljava/lang/Throwable;" } : Jvm.MethodName)) ∈ lw_all := lw_g (lw_at lw_m3 55 rfl) rfl
theorem q736 : (Jvm.Cond.instantiable "java/lang/IllegalStateException" (6 : Nat)) ∈ lw_all := lw_g (lw_at lw_m3 204 rfl) rfl
theorem q737 : (Jvm.Cond.castable "java/lang/IllegalStateException" "java/lang/IllegalStateException") ∈ lw_tbl := lw_at lw_m3 205 rfl
theorem q738 : (Jvm.Cond.selects "java/lang/IllegalStateException" ({ cls := "java/lang/Throwable", name := "fillInStackTrace", desc := "(I)Ljava/lang/Throwable;" } : Jvm.MethodName) ({ cls := "java/lang/Throwable", name := "fillInStackTrace", desc := "(I)Ljava/lang/Throwable;" } : Jvm.MethodName)) ∈ lw_all := lw_g (lw_at lw_m3 206 rfl) rfl
theorem q739 : (Jvm.Cond.lays "java/lang/IllegalStateException" "java/lang/Throwable" "cause" "Ljava/lang/Throwable;") ∈ lw_all := lw_g (lw_at lw_m3 207 rfl) rfl
theorem q740 : (Jvm.Cond.lays "java/lang/IllegalStateException" "java/lang/Throwable" "stackTrace" "[Ljava/lang/StackTraceElement;") ∈ lw_all := lw_g (lw_at lw_m3 208 rfl) rfl
theorem q741 : (Jvm.Cond.lays "java/lang/IllegalStateException" "java/lang/Throwable" "suppressedExceptions" "Ljava/util/List;") ∈ lw_all := lw_g (lw_at lw_m3 209 rfl) rfl
theorem q742 : (Jvm.Cond.lays "java/lang/IllegalStateException" "java/lang/Throwable" "detailMessage" "Ljava/lang/String;") ∈ lw_all := lw_g (lw_at lw_m3 210 rfl) rfl
theorem q743 : (Jvm.Cond.lays "java/lang/IllegalStateException" "java/lang/Throwable" "backtrace" "Ljava/lang/Object;") ∈ lw_all := lw_g (lw_at lw_m3 211 rfl) rfl
theorem q745 : (Jvm.Cond.instanceMethod ({ cls := "java/lang/IllegalStateException", name := "<init>", desc := "()V" } : Jvm.MethodName)) ∈ lw_all := lw_g (lw_at lw_m3 213 rfl) rfl
theorem q746 : (Jvm.Cond.code ({ cls := "java/lang/IllegalStateException", name := "<init>", desc := "()V" } : Jvm.MethodName) prog_21_method_1_code (1 : Nat) (Option.none : Option Jvm.ClassFile.FieldType)) ∈ lw_all := lw_g (lw_at lw_m3 214 rfl) rfl
theorem q747 : (Jvm.Cond.methodLink "java/lang/IllegalStateException" (1 : Nat) ({ cls := "java/lang/RuntimeException", name := "<init>", desc := "()V" } : Jvm.MethodName)) ∈ lw_all := lw_g (lw_at lw_m3 215 rfl) rfl
theorem q748 : (Jvm.Cond.lays "java/lang/IllegalStateException" "java/lang/Throwable" "depth" "I") ∈ lw_all := lw_g (lw_at lw_m3 216 rfl) rfl
theorem q749 : (Jvm.Cond.superclass "java/lang/IllegalStateException" "java/lang/RuntimeException") ∈ lw_all := lw_g (lw_at lw_m3 217 rfl) rfl
theorem q1625 : (Jvm.Cond.castable "java/lang/IllegalStateException" "java/lang/Object") ∈ lw_tbl := lw_at lw_m7 133 rfl
theorem in_J10 : ∀ w ∈ wsJ100, w ∈ lw_all := lw_in wsJ100 [739, 740, 741, 742, 743, 748] (by decide +kernel) (by decide +kernel)

/-! java/util/Objects -/
set_option maxRecDepth 100000
def RJ11 : String := "java/util/Objects"
abbrev cJ11_checkIndex : ByteArray := prog_37_method_17_code
def yJ11_checkIndex : MethodName := ⟨RJ11, "checkIndex", "(II)I"⟩
def dkwJ11_checkIndex_0 : List UInt8 := [26, 27, 1, 184, 0, 105, 172]
abbrev dktJ11_checkIndex_0 : List UInt8 := dkwJ11_checkIndex_0 ++ []
theorem dksJ11_checkIndex_0 : cJ11_checkIndex.data.toList.drop 0 = dktJ11_checkIndex_0 := by decide +kernel
theorem dJ11_checkIndex_0 : decode cJ11_checkIndex 0 = .ok (.iload_n 0, 1) := dk_26 (dk_at dksJ11_checkIndex_0 0 rfl rfl)
theorem dJ11_checkIndex_1 : decode cJ11_checkIndex 1 = .ok (.iload_n 1, 1) := dk_27 (dk_at dksJ11_checkIndex_0 1 rfl rfl)
theorem dJ11_checkIndex_2 : decode cJ11_checkIndex 2 = .ok (.aconst_null, 1) := dk_1 (dk_at dksJ11_checkIndex_0 2 rfl rfl)
theorem dJ11_checkIndex_3 : decode cJ11_checkIndex 3 = .ok (.invokestatic 105, 3) := dk_184 0 105 (dk_at dksJ11_checkIndex_0 3 rfl rfl)
theorem dJ11_checkIndex_6 : decode cJ11_checkIndex 6 = .ok (.ireturn, 1) := dk_172 (dk_at dksJ11_checkIndex_0 6 rfl rfl)
theorem q72 : (Jvm.Cond.initialized "java/util/Objects") ∈ lw_all := lw_g (lw_at lw_m1 20 rfl) rfl
theorem q373 : (Jvm.Cond.static ({ cls := "java/util/Objects", name := "checkIndex", desc := "(II)I" } : Jvm.MethodName)) ∈ lw_all := lw_g (lw_at lw_m2 81 rfl) rfl
theorem q374 : (Jvm.Cond.code ({ cls := "java/util/Objects", name := "checkIndex", desc := "(II)I" } : Jvm.MethodName) prog_37_method_17_code (2 : Nat) (Option.some Jvm.ClassFile.FieldType.int)) ∈ lw_all := lw_g (lw_at lw_m2 82 rfl) rfl
theorem q375 : (Jvm.Cond.methodLink "java/util/Objects" (105 : Nat) ({ cls := "jdk/internal/util/Preconditions", name := "checkIndex", desc := "(IILjava/util/function/BiFunction;)I" } : Jvm.MethodName)) ∈ lw_all := lw_g (lw_at lw_m2 83 rfl) rfl

/-! jdk/internal/util/Preconditions -/
set_option maxRecDepth 100000
def RJ12 : String := "jdk/internal/util/Preconditions"
abbrev cJ12_checkIndex : ByteArray := prog_41_method_11_code
def yJ12_checkIndex : MethodName := ⟨RJ12, "checkIndex", "(IILjava/util/function/BiFunction;)I"⟩
def dkwJ12_checkIndex_0 : List UInt8 := [26, 155, 0, 8, 26, 27, 161, 0, 10, 44, 26, 27, 184, 0, 95, 191, 26, 172]
abbrev dktJ12_checkIndex_0 : List UInt8 := dkwJ12_checkIndex_0 ++ []
theorem dksJ12_checkIndex_0 : cJ12_checkIndex.data.toList.drop 0 = dktJ12_checkIndex_0 := by decide +kernel
theorem dJ12_checkIndex_0 : decode cJ12_checkIndex 0 = .ok (.iload_n 0, 1) := dk_26 (dk_at dksJ12_checkIndex_0 0 rfl rfl)
theorem dJ12_checkIndex_1 : decode cJ12_checkIndex 1 = .ok (.ifCond .lt 8, 3) := dk_155 0 8 (dk_at dksJ12_checkIndex_0 1 rfl rfl)
theorem dJ12_checkIndex_4 : decode cJ12_checkIndex 4 = .ok (.iload_n 0, 1) := dk_26 (dk_at dksJ12_checkIndex_0 4 rfl rfl)
theorem dJ12_checkIndex_5 : decode cJ12_checkIndex 5 = .ok (.iload_n 1, 1) := dk_27 (dk_at dksJ12_checkIndex_0 5 rfl rfl)
theorem dJ12_checkIndex_6 : decode cJ12_checkIndex 6 = .ok (.if_icmp .lt 10, 3) := dk_161 0 10 (dk_at dksJ12_checkIndex_0 6 rfl rfl)
theorem dJ12_checkIndex_9 : decode cJ12_checkIndex 9 = .ok (.aload_n 2, 1) := dk_44 (dk_at dksJ12_checkIndex_0 9 rfl rfl)
theorem dJ12_checkIndex_10 : decode cJ12_checkIndex 10 = .ok (.iload_n 0, 1) := dk_26 (dk_at dksJ12_checkIndex_0 10 rfl rfl)
theorem dJ12_checkIndex_11 : decode cJ12_checkIndex 11 = .ok (.iload_n 1, 1) := dk_27 (dk_at dksJ12_checkIndex_0 11 rfl rfl)
theorem dJ12_checkIndex_12 : decode cJ12_checkIndex 12 = .ok (.invokestatic 95, 3) := dk_184 0 95 (dk_at dksJ12_checkIndex_0 12 rfl rfl)
theorem dJ12_checkIndex_15 : decode cJ12_checkIndex 15 = .ok (.athrow, 1) := dk_191 (dk_at dksJ12_checkIndex_0 15 rfl rfl)
theorem dJ12_checkIndex_16 : decode cJ12_checkIndex 16 = .ok (.iload_n 0, 1) := dk_26 (dk_at dksJ12_checkIndex_0 16 rfl rfl)
theorem dJ12_checkIndex_17 : decode cJ12_checkIndex 17 = .ok (.ireturn, 1) := dk_172 (dk_at dksJ12_checkIndex_0 17 rfl rfl)
theorem q73 : (Jvm.Cond.initialized "jdk/internal/util/Preconditions") ∈ lw_all := lw_g (lw_at lw_m1 21 rfl) rfl
theorem q376 : (Jvm.Cond.static ({ cls := "jdk/internal/util/Preconditions", name := "checkIndex", desc := "(IILjava/util/function/BiFunction;)I" } : Jvm.MethodName)) ∈ lw_all := lw_g (lw_at lw_m2 84 rfl) rfl
theorem q377 : (Jvm.Cond.code ({ cls := "jdk/internal/util/Preconditions", name := "checkIndex", desc := "(IILjava/util/function/BiFunction;)I" } : Jvm.MethodName) prog_41_method_11_code (3 : Nat) (Option.some Jvm.ClassFile.FieldType.int)) ∈ lw_all := lw_g (lw_at lw_m2 85 rfl) rfl

/-! java/lang/IndexOutOfBoundsException -/
set_option maxRecDepth 100000
def RJ13 : String := "java/lang/IndexOutOfBoundsException"
def TJ13 : u_T := fun k => match k with
  | 0 => ("java/lang/Throwable", "cause", "Ljava/lang/Throwable;", false)
  | 1 => ("java/lang/Throwable", "stackTrace", "[Ljava/lang/StackTraceElement;", false)
  | 2 => ("java/lang/Throwable", "suppressedExceptions", "Ljava/util/List;", false)
  | 3 => ("java/lang/Throwable", "detailMessage", "Ljava/lang/String;", false)
  | 4 => ("java/lang/Throwable", "backtrace", "Ljava/lang/Object;", false)
  | _ => ("java/lang/Throwable", "depth", "I", false)
def tyJ13 : Nat → FieldType := fun k => match k with
  | 0 => .object "java/lang/Throwable"
  | 1 => .array (.object "java/lang/StackTraceElement")
  | 2 => .object "java/util/List"
  | 3 => .object "java/lang/String"
  | 4 => .object "java/lang/Object"
  | _ => .int
abbrev wsJ130 : List Cond := u_ws RJ13 TJ13 6
theorem nmJ13 : ∀ a, a < 6 → ∀ b, b < 6 → a ≠ b → (TJ13 a).2.1 ≠ (TJ13 b).2.1 := by decide +kernel
theorem tyJ13_ok : ∀ k, k < 6 → parseFieldDescriptor (TJ13 k).2.2.1 = some (tyJ13 k) := by decide +kernel
abbrev cJ13_init : ByteArray := prog_22_method_2_code
def yJ13_init : MethodName := ⟨RJ13, "<init>", "(Ljava/lang/String;)V"⟩
def dkwJ13_init_0 : List UInt8 := [42, 43, 183, 0, 7, 177]
abbrev dktJ13_init_0 : List UInt8 := dkwJ13_init_0 ++ []
theorem dksJ13_init_0 : cJ13_init.data.toList.drop 0 = dktJ13_init_0 := by decide +kernel
theorem dJ13_init_0 : decode cJ13_init 0 = .ok (.aload_n 0, 1) := dk_42 (dk_at dksJ13_init_0 0 rfl rfl)
theorem dJ13_init_1 : decode cJ13_init 1 = .ok (.aload_n 1, 1) := dk_43 (dk_at dksJ13_init_0 1 rfl rfl)
theorem dJ13_init_2 : decode cJ13_init 2 = .ok (.invokespecial 7, 3) := dk_183 0 7 (dk_at dksJ13_init_0 2 rfl rfl)
theorem dJ13_init_5 : decode cJ13_init 5 = .ok (.return_, 1) := dk_177 (dk_at dksJ13_init_0 5 rfl rfl)
abbrev cJ13_init_2 : ByteArray := prog_22_method_1_code
def yJ13_init_2 : MethodName := ⟨RJ13, "<init>", "()V"⟩
theorem dJ13_init_2_0 : decode cJ13_init_2 0 = .ok (.aload_n 0, 1) := by decide +kernel
theorem dJ13_init_2_1 : decode cJ13_init_2 1 = .ok (.invokespecial 1, 3) := by decide +kernel
theorem dJ13_init_2_4 : decode cJ13_init_2 4 = .ok (.return_, 1) := by decide +kernel
theorem q77 : (Jvm.Cond.initialized "java/lang/IndexOutOfBoundsException") ∈ lw_all := lw_g (lw_at lw_m1 25 rfl) rfl
theorem q297 : (Jvm.Cond.selects "java/lang/IndexOutOfBoundsException" ({ cls := "java/lang/Object", name := "getClass", desc := "()Ljava/lang/Class;" } : Jvm.MethodName) ({ cls := "java/lang/Object", name := "getClass", desc := "()Ljava/lang/Class;" } : Jvm.MethodName)) ∈ lw_all := lw_g (lw_at lw_m2 5 rfl) rfl
theorem q588 : (Jvm.Cond.selects "java/lang/IndexOutOfBoundsException" ({ cls := "java/lang/Throwable", name := "fillInStackTrace", desc := "()Ljava/lang/Throwable;" } : Jvm.MethodName) ({ cls := "java/lang/Throwable", name := "fillInStackTrace", desc := "()Ljava/lang/Throwable;" } : Jvm.MethodName)) ∈ lw_all := lw_g (lw_at lw_m3 56 rfl) rfl
theorem q873 : (Jvm.Cond.instanceMethod ({ cls := "java/lang/IndexOutOfBoundsException", name := "<init>", desc := "(Ljava/lang/String;)V" } : Jvm.MethodName)) ∈ lw_all := lw_g (lw_at lw_m4 101 rfl) rfl
theorem q874 : (Jvm.Cond.code ({ cls := "java/lang/IndexOutOfBoundsException", name := "<init>", desc := "(Ljava/lang/String;)V" } : Jvm.MethodName) prog_22_method_2_code (2 : Nat) (Option.none : Option Jvm.ClassFile.FieldType)) ∈ lw_all := lw_g (lw_at lw_m4 102 rfl) rfl
theorem q875 : (Jvm.Cond.methodLink "java/lang/IndexOutOfBoundsException" (7 : Nat) ({ cls := "java/lang/RuntimeException", name := "<init>", desc := "(Ljava/lang/String;)V" } : Jvm.MethodName)) ∈ lw_all := lw_g (lw_at lw_m4 103 rfl) rfl
theorem q892 : (Jvm.Cond.declares ({ cls := "java/lang/IndexOutOfBoundsException", name := "<init>", desc := "()V" } : Jvm.MethodName)) ∈ lw_tbl := lw_at lw_m4 120 rfl
theorem q893 : (Jvm.Cond.declares ({ cls := "java/lang/IndexOutOfBoundsException", name := "<init>", desc := "(Ljava/lang/String;)V" } : Jvm.MethodName)) ∈ lw_tbl := lw_at lw_m4 121 rfl
theorem q911 : (Jvm.Cond.instantiable "java/lang/IndexOutOfBoundsException" (6 : Nat)) ∈ lw_all := lw_g (lw_at lw_m4 139 rfl) rfl
theorem q912 : (Jvm.Cond.castable "java/lang/IndexOutOfBoundsException" "java/lang/IndexOutOfBoundsException") ∈ lw_tbl := lw_at lw_m4 140 rfl
theorem q913 : (Jvm.Cond.selects "java/lang/IndexOutOfBoundsException" ({ cls := "java/lang/Throwable", name := "fillInStackTrace", desc := "(I)Ljava/lang/Throwable;" } : Jvm.MethodName) ({ cls := "java/lang/Throwable", name := "fillInStackTrace", desc := "(I)Ljava/lang/Throwable;" } : Jvm.MethodName)) ∈ lw_all := lw_g (lw_at lw_m4 141 rfl) rfl
theorem q914 : (Jvm.Cond.lays "java/lang/IndexOutOfBoundsException" "java/lang/Throwable" "cause" "Ljava/lang/Throwable;") ∈ lw_all := lw_g (lw_at lw_m4 142 rfl) rfl
theorem q915 : (Jvm.Cond.lays "java/lang/IndexOutOfBoundsException" "java/lang/Throwable" "stackTrace" "[Ljava/lang/StackTraceElement;") ∈ lw_all := lw_g (lw_at lw_m4 143 rfl) rfl
theorem q916 : (Jvm.Cond.lays "java/lang/IndexOutOfBoundsException" "java/lang/Throwable" "suppressedExceptions" "Ljava/util/List;") ∈ lw_all := lw_g (lw_at lw_m4 144 rfl) rfl
theorem q917 : (Jvm.Cond.lays "java/lang/IndexOutOfBoundsException" "java/lang/Throwable" "detailMessage" "Ljava/lang/String;") ∈ lw_all := lw_g (lw_at lw_m4 145 rfl) rfl
theorem q918 : (Jvm.Cond.lays "java/lang/IndexOutOfBoundsException" "java/lang/Throwable" "backtrace" "Ljava/lang/Object;") ∈ lw_all := lw_g (lw_at lw_m4 146 rfl) rfl
theorem q920 : (Jvm.Cond.instanceMethod ({ cls := "java/lang/IndexOutOfBoundsException", name := "<init>", desc := "()V" } : Jvm.MethodName)) ∈ lw_all := lw_g (lw_at lw_m4 148 rfl) rfl
theorem q921 : (Jvm.Cond.code ({ cls := "java/lang/IndexOutOfBoundsException", name := "<init>", desc := "()V" } : Jvm.MethodName) prog_22_method_1_code (1 : Nat) (Option.none : Option Jvm.ClassFile.FieldType)) ∈ lw_all := lw_g (lw_at lw_m4 149 rfl) rfl
theorem q922 : (Jvm.Cond.methodLink "java/lang/IndexOutOfBoundsException" (1 : Nat) ({ cls := "java/lang/RuntimeException", name := "<init>", desc := "()V" } : Jvm.MethodName)) ∈ lw_all := lw_g (lw_at lw_m4 150 rfl) rfl
theorem q923 : (Jvm.Cond.lays "java/lang/IndexOutOfBoundsException" "java/lang/Throwable" "depth" "I") ∈ lw_all := lw_g (lw_at lw_m4 151 rfl) rfl
theorem q924 : (Jvm.Cond.superclass "java/lang/IndexOutOfBoundsException" "java/lang/RuntimeException") ∈ lw_all := lw_g (lw_at lw_m4 152 rfl) rfl
theorem q1631 : (Jvm.Cond.castable "java/lang/IndexOutOfBoundsException" "java/lang/Object") ∈ lw_tbl := lw_at lw_m7 139 rfl
theorem in_J13 : ∀ w ∈ wsJ130, w ∈ lw_all := lw_in wsJ130 [914, 915, 916, 917, 918, 923] (by decide +kernel) (by decide +kernel)

/-! java/lang/ArrayIndexOutOfBoundsException -/
set_option maxRecDepth 100000
def RJ14 : String := "java/lang/ArrayIndexOutOfBoundsException"
def TJ14 : u_T := fun k => match k with
  | 0 => ("java/lang/Throwable", "backtrace", "Ljava/lang/Object;", false)
  | 1 => ("java/lang/Throwable", "detailMessage", "Ljava/lang/String;", false)
  | 2 => ("java/lang/Throwable", "cause", "Ljava/lang/Throwable;", false)
  | 3 => ("java/lang/Throwable", "stackTrace", "[Ljava/lang/StackTraceElement;", false)
  | 4 => ("java/lang/Throwable", "depth", "I", false)
  | _ => ("java/lang/Throwable", "suppressedExceptions", "Ljava/util/List;", false)
def tyJ14 : Nat → FieldType := fun k => match k with
  | 0 => .object "java/lang/Object"
  | 1 => .object "java/lang/String"
  | 2 => .object "java/lang/Throwable"
  | 3 => .array (.object "java/lang/StackTraceElement")
  | 4 => .int
  | _ => .object "java/util/List"
abbrev wsJ140 : List Cond := u_ws RJ14 TJ14 6
theorem nmJ14 : ∀ a, a < 6 → ∀ b, b < 6 → a ≠ b → (TJ14 a).2.1 ≠ (TJ14 b).2.1 := by decide +kernel
theorem tyJ14_ok : ∀ k, k < 6 → parseFieldDescriptor (TJ14 k).2.2.1 = some (tyJ14 k) := by decide +kernel
abbrev cJ14_init : ByteArray := prog_17_method_2_code
def yJ14_init : MethodName := ⟨RJ14, "<init>", "(Ljava/lang/String;)V"⟩
def dkwJ14_init_0 : List UInt8 := [42, 43, 183, 0, 7, 177]
abbrev dktJ14_init_0 : List UInt8 := dkwJ14_init_0 ++ []
theorem dksJ14_init_0 : cJ14_init.data.toList.drop 0 = dktJ14_init_0 := by decide +kernel
theorem dJ14_init_0 : decode cJ14_init 0 = .ok (.aload_n 0, 1) := dk_42 (dk_at dksJ14_init_0 0 rfl rfl)
theorem dJ14_init_1 : decode cJ14_init 1 = .ok (.aload_n 1, 1) := dk_43 (dk_at dksJ14_init_0 1 rfl rfl)
theorem dJ14_init_2 : decode cJ14_init 2 = .ok (.invokespecial 7, 3) := dk_183 0 7 (dk_at dksJ14_init_0 2 rfl rfl)
theorem dJ14_init_5 : decode cJ14_init 5 = .ok (.return_, 1) := dk_177 (dk_at dksJ14_init_0 5 rfl rfl)
theorem q78 : (Jvm.Cond.initialized "java/lang/ArrayIndexOutOfBoundsException") ∈ lw_all := lw_g (lw_at lw_m1 26 rfl) rfl
theorem q294 : (Jvm.Cond.selects "java/lang/ArrayIndexOutOfBoundsException" ({ cls := "java/lang/Object", name := "getClass", desc := "()Ljava/lang/Class;" } : Jvm.MethodName) ({ cls := "java/lang/Object", name := "getClass", desc := "()Ljava/lang/Class;" } : Jvm.MethodName)) ∈ lw_all := lw_g (lw_at lw_m2 2 rfl) rfl
theorem q586 : (Jvm.Cond.selects "java/lang/ArrayIndexOutOfBoundsException" ({ cls := "java/lang/Throwable", name := "fillInStackTrace", desc := "()Ljava/lang/Throwable;" } : Jvm.MethodName) ({ cls := "java/lang/Throwable", name := "fillInStackTrace", desc := "()Ljava/lang/Throwable;" } : Jvm.MethodName)) ∈ lw_all := lw_g (lw_at lw_m3 54 rfl) rfl
theorem q869 : (Jvm.Cond.instantiable "java/lang/ArrayIndexOutOfBoundsException" (6 : Nat)) ∈ lw_all := lw_g (lw_at lw_m4 97 rfl) rfl
theorem q870 : (Jvm.Cond.instanceMethod ({ cls := "java/lang/ArrayIndexOutOfBoundsException", name := "<init>", desc := "(Ljava/lang/String;)V" } : Jvm.MethodName)) ∈ lw_all := lw_g (lw_at lw_m4 98 rfl) rfl
theorem q871 : (Jvm.Cond.code ({ cls := "java/lang/ArrayIndexOutOfBoundsException", name := "<init>", desc := "(Ljava/lang/String;)V" } : Jvm.MethodName) prog_17_method_2_code (2 : Nat) (Option.none : Option Jvm.ClassFile.FieldType)) ∈ lw_all := lw_g (lw_at lw_m4 99 rfl) rfl
theorem q872 : (Jvm.Cond.methodLink "java/lang/ArrayIndexOutOfBoundsException" (7 : Nat) ({ cls := "java/lang/IndexOutOfBoundsException", name := "<init>", desc := "(Ljava/lang/String;)V" } : Jvm.MethodName)) ∈ lw_all := lw_g (lw_at lw_m4 100 rfl) rfl
theorem q884 : (Jvm.Cond.lays "java/lang/ArrayIndexOutOfBoundsException" "java/lang/Throwable" "backtrace" "Ljava/lang/Object;") ∈ lw_all := lw_g (lw_at lw_m4 112 rfl) rfl
theorem q885 : (Jvm.Cond.lays "java/lang/ArrayIndexOutOfBoundsException" "java/lang/Throwable" "detailMessage" "Ljava/lang/String;") ∈ lw_all := lw_g (lw_at lw_m4 113 rfl) rfl
theorem q886 : (Jvm.Cond.lays "java/lang/ArrayIndexOutOfBoundsException" "java/lang/Throwable" "cause" "Ljava/lang/Throwable;") ∈ lw_all := lw_g (lw_at lw_m4 114 rfl) rfl
theorem q887 : (Jvm.Cond.lays "java/lang/ArrayIndexOutOfBoundsException" "java/lang/Throwable" "stackTrace" "[Ljava/lang/StackTraceElement;") ∈ lw_all := lw_g (lw_at lw_m4 115 rfl) rfl
theorem q888 : (Jvm.Cond.lays "java/lang/ArrayIndexOutOfBoundsException" "java/lang/Throwable" "depth" "I") ∈ lw_all := lw_g (lw_at lw_m4 116 rfl) rfl
theorem q889 : (Jvm.Cond.lays "java/lang/ArrayIndexOutOfBoundsException" "java/lang/Throwable" "suppressedExceptions" "Ljava/util/List;") ∈ lw_all := lw_g (lw_at lw_m4 117 rfl) rfl
theorem q890 : (Jvm.Cond.superclass "java/lang/ArrayIndexOutOfBoundsException" "java/lang/IndexOutOfBoundsException") ∈ lw_all := lw_g (lw_at lw_m4 118 rfl) rfl
theorem q891 : (Jvm.Cond.castable "java/lang/ArrayIndexOutOfBoundsException" "java/lang/ArrayIndexOutOfBoundsException") ∈ lw_tbl := lw_at lw_m4 119 rfl
theorem q894 : (Jvm.Cond.selects "java/lang/ArrayIndexOutOfBoundsException" ({ cls := "java/lang/Throwable", name := "fillInStackTrace", desc := "(I)Ljava/lang/Throwable;" } : Jvm.MethodName) ({ cls := "java/lang/Throwable", name := "fillInStackTrace", desc := "(I)Ljava/lang/Throwable;" } : Jvm.MethodName)) ∈ lw_all := lw_g (lw_at lw_m4 122 rfl) rfl
theorem q1612 : (Jvm.Cond.castable "java/lang/ArrayIndexOutOfBoundsException" "java/lang/IndexOutOfBoundsException") ∈ lw_tbl := lw_at lw_m7 120 rfl
theorem q1630 : (Jvm.Cond.castable "java/lang/ArrayIndexOutOfBoundsException" "java/lang/Object") ∈ lw_tbl := lw_at lw_m7 138 rfl
theorem in_J14 : ∀ w ∈ wsJ140, w ∈ lw_all := lw_in wsJ140 [884, 885, 886, 887, 888, 889] (by decide +kernel) (by decide +kernel)

/-! java/lang/String -/
set_option maxRecDepth 100000
def RJ15 : String := "java/lang/String"
def TJ15 : u_T := fun k => match k with
  | 0 => ("java/lang/String", "value", "[B", true)
  | _ => ("java/lang/String", "coder", "B", true)
def tyJ15 : Nat → FieldType := fun k => match k with
  | 0 => .array .byte
  | _ => .byte
abbrev wsJ150 : List Cond := u_ws RJ15 TJ15 2
theorem nmJ15 : ∀ a, a < 2 → ∀ b, b < 2 → a ≠ b → (TJ15 a).2.1 ≠ (TJ15 b).2.1 := by decide +kernel
theorem tyJ15_ok : ∀ k, k < 2 → parseFieldDescriptor (TJ15 k).2.2.1 = some (tyJ15 k) := by decide +kernel
theorem q79 : (Jvm.Cond.initialized "java/lang/String") ∈ lw_all := lw_g (lw_at lw_m1 27 rfl) rfl
theorem q895 : (Jvm.Cond.instantiable "java/lang/String" (4 : Nat)) ∈ lw_all := lw_g (lw_at lw_m4 123 rfl) rfl
theorem q897 : (Jvm.Cond.laysFinal "java/lang/String" "java/lang/String" "value" "[B") ∈ lw_all := lw_g (lw_at lw_m4 125 rfl) rfl
theorem q898 : (Jvm.Cond.soleField "java/lang/String" "value") ∈ lw_all := lw_g (lw_at lw_m4 126 rfl) rfl
theorem q899 : (Jvm.Cond.laysFinal "java/lang/String" "java/lang/String" "coder" "B") ∈ lw_all := lw_g (lw_at lw_m4 127 rfl) rfl
theorem q900 : (Jvm.Cond.soleField "java/lang/String" "coder") ∈ lw_all := lw_g (lw_at lw_m4 128 rfl) rfl
theorem q1637 : (Jvm.Cond.castable "java/lang/String" "java/lang/Object") ∈ lw_tbl := lw_at lw_m7 145 rfl
theorem in_J15 : ∀ w ∈ wsJ150, w ∈ lw_all := lw_in wsJ150 [897, 899] (by decide +kernel) (by decide +kernel)

/-! java/lang/UnsupportedOperationException -/
set_option maxRecDepth 100000
def RJ16 : String := "java/lang/UnsupportedOperationException"
def TJ16 : u_T := fun k => match k with
  | 0 => ("java/lang/Throwable", "cause", "Ljava/lang/Throwable;", false)
  | 1 => ("java/lang/Throwable", "stackTrace", "[Ljava/lang/StackTraceElement;", false)
  | 2 => ("java/lang/Throwable", "suppressedExceptions", "Ljava/util/List;", false)
  | 3 => ("java/lang/Throwable", "detailMessage", "Ljava/lang/String;", false)
  | 4 => ("java/lang/Throwable", "backtrace", "Ljava/lang/Object;", false)
  | _ => ("java/lang/Throwable", "depth", "I", false)
def tyJ16 : Nat → FieldType := fun k => match k with
  | 0 => .object "java/lang/Throwable"
  | 1 => .array (.object "java/lang/StackTraceElement")
  | 2 => .object "java/util/List"
  | 3 => .object "java/lang/String"
  | 4 => .object "java/lang/Object"
  | _ => .int
abbrev wsJ160 : List Cond := u_ws RJ16 TJ16 6
theorem nmJ16 : ∀ a, a < 6 → ∀ b, b < 6 → a ≠ b → (TJ16 a).2.1 ≠ (TJ16 b).2.1 := by decide +kernel
theorem tyJ16_ok : ∀ k, k < 6 → parseFieldDescriptor (TJ16 k).2.2.1 = some (tyJ16 k) := by decide +kernel
abbrev cJ16_init : ByteArray := prog_29_method_1_code
def yJ16_init : MethodName := ⟨RJ16, "<init>", "()V"⟩
theorem dJ16_init_0 : decode cJ16_init 0 = .ok (.aload_n 0, 1) := by decide +kernel
theorem dJ16_init_1 : decode cJ16_init 1 = .ok (.invokespecial 1, 3) := by decide +kernel
theorem dJ16_init_4 : decode cJ16_init 4 = .ok (.return_, 1) := by decide +kernel
theorem q80 : (Jvm.Cond.initialized "java/lang/UnsupportedOperationException") ∈ lw_all := lw_g (lw_at lw_m1 28 rfl) rfl
theorem q298 : (Jvm.Cond.selects "java/lang/UnsupportedOperationException" ({ cls := "java/lang/Object", name := "getClass", desc := "()Ljava/lang/Class;" } : Jvm.MethodName) ({ cls := "java/lang/Object", name := "getClass", desc := "()Ljava/lang/Class;" } : Jvm.MethodName)) ∈ lw_all := lw_g (lw_at lw_m2 6 rfl) rfl
theorem q589 : (Jvm.Cond.selects "java/lang/UnsupportedOperationException" ({ cls := "java/lang/Throwable", name := "fillInStackTrace", desc := "()Ljava/lang/Throwable;" } : Jvm.MethodName) ({ cls := "java/lang/Throwable", name := "fillInStackTrace", desc := "()Ljava/lang/Throwable;" } : Jvm.MethodName)) ∈ lw_all := lw_g (lw_at lw_m3 57 rfl) rfl
theorem q946 : (Jvm.Cond.instantiable "java/lang/UnsupportedOperationException" (6 : Nat)) ∈ lw_all := lw_g (lw_at lw_m4 174 rfl) rfl
theorem q947 : (Jvm.Cond.castable "java/lang/UnsupportedOperationException" "java/lang/UnsupportedOperationException") ∈ lw_tbl := lw_at lw_m4 175 rfl
theorem q948 : (Jvm.Cond.selects "java/lang/UnsupportedOperationException" ({ cls := "java/lang/Throwable", name := "fillInStackTrace", desc := "(I)Ljava/lang/Throwable;" } : Jvm.MethodName) ({ cls := "java/lang/Throwable", name := "fillInStackTrace", desc := "(I)Ljava/lang/Throwable;" } : Jvm.MethodName)) ∈ lw_all := lw_g (lw_at lw_m4 176 rfl) rfl
theorem q949 : (Jvm.Cond.lays "java/lang/UnsupportedOperationException" "java/lang/Throwable" "cause" "Ljava/lang/Throwable;") ∈ lw_all := lw_g (lw_at lw_m4 177 rfl) rfl
theorem q950 : (Jvm.Cond.lays "java/lang/UnsupportedOperationException" "java/lang/Throwable" "stackTrace" "[Ljava/lang/StackTraceElement;") ∈ lw_all := lw_g (lw_at lw_m4 178 rfl) rfl
theorem q951 : (Jvm.Cond.lays "java/lang/UnsupportedOperationException" "java/lang/Throwable" "suppressedExceptions" "Ljava/util/List;") ∈ lw_all := lw_g (lw_at lw_m4 179 rfl) rfl
theorem q952 : (Jvm.Cond.lays "java/lang/UnsupportedOperationException" "java/lang/Throwable" "detailMessage" "Ljava/lang/String;") ∈ lw_all := lw_g (lw_at lw_m4 180 rfl) rfl
theorem q953 : (Jvm.Cond.lays "java/lang/UnsupportedOperationException" "java/lang/Throwable" "backtrace" "Ljava/lang/Object;") ∈ lw_all := lw_g (lw_at lw_m4 181 rfl) rfl
theorem q955 : (Jvm.Cond.instanceMethod ({ cls := "java/lang/UnsupportedOperationException", name := "<init>", desc := "()V" } : Jvm.MethodName)) ∈ lw_all := lw_g (lw_at lw_m4 183 rfl) rfl
theorem q956 : (Jvm.Cond.code ({ cls := "java/lang/UnsupportedOperationException", name := "<init>", desc := "()V" } : Jvm.MethodName) prog_29_method_1_code (1 : Nat) (Option.none : Option Jvm.ClassFile.FieldType)) ∈ lw_all := lw_g (lw_at lw_m4 184 rfl) rfl
theorem q957 : (Jvm.Cond.methodLink "java/lang/UnsupportedOperationException" (1 : Nat) ({ cls := "java/lang/RuntimeException", name := "<init>", desc := "()V" } : Jvm.MethodName)) ∈ lw_all := lw_g (lw_at lw_m4 185 rfl) rfl
theorem q958 : (Jvm.Cond.lays "java/lang/UnsupportedOperationException" "java/lang/Throwable" "depth" "I") ∈ lw_all := lw_g (lw_at lw_m4 186 rfl) rfl
theorem q959 : (Jvm.Cond.superclass "java/lang/UnsupportedOperationException" "java/lang/RuntimeException") ∈ lw_all := lw_g (lw_at lw_m4 187 rfl) rfl
theorem q1632 : (Jvm.Cond.castable "java/lang/UnsupportedOperationException" "java/lang/Object") ∈ lw_tbl := lw_at lw_m7 140 rfl
theorem in_J16 : ∀ w ∈ wsJ160, w ∈ lw_all := lw_in wsJ160 [949, 950, 951, 952, 953, 958] (by decide +kernel) (by decide +kernel)

/-! java/util/NoSuchElementException -/
set_option maxRecDepth 100000
def RJ17 : String := "java/util/NoSuchElementException"
def TJ17 : u_T := fun k => match k with
  | 0 => ("java/lang/Throwable", "cause", "Ljava/lang/Throwable;", false)
  | 1 => ("java/lang/Throwable", "stackTrace", "[Ljava/lang/StackTraceElement;", false)
  | 2 => ("java/lang/Throwable", "suppressedExceptions", "Ljava/util/List;", false)
  | 3 => ("java/lang/Throwable", "detailMessage", "Ljava/lang/String;", false)
  | 4 => ("java/lang/Throwable", "backtrace", "Ljava/lang/Object;", false)
  | _ => ("java/lang/Throwable", "depth", "I", false)
def tyJ17 : Nat → FieldType := fun k => match k with
  | 0 => .object "java/lang/Throwable"
  | 1 => .array (.object "java/lang/StackTraceElement")
  | 2 => .object "java/util/List"
  | 3 => .object "java/lang/String"
  | 4 => .object "java/lang/Object"
  | _ => .int
abbrev wsJ170 : List Cond := u_ws RJ17 TJ17 6
theorem nmJ17 : ∀ a, a < 6 → ∀ b, b < 6 → a ≠ b → (TJ17 a).2.1 ≠ (TJ17 b).2.1 := by decide +kernel
theorem tyJ17_ok : ∀ k, k < 6 → parseFieldDescriptor (TJ17 k).2.2.1 = some (tyJ17 k) := by decide +kernel
abbrev cJ17_init : ByteArray := prog_36_method_1_code
def yJ17_init : MethodName := ⟨RJ17, "<init>", "()V"⟩
theorem dJ17_init_0 : decode cJ17_init 0 = .ok (.aload_n 0, 1) := by decide +kernel
theorem dJ17_init_1 : decode cJ17_init 1 = .ok (.invokespecial 1, 3) := by decide +kernel
theorem dJ17_init_4 : decode cJ17_init 4 = .ok (.return_, 1) := by decide +kernel
theorem q82 : (Jvm.Cond.initialized "java/util/NoSuchElementException") ∈ lw_all := lw_g (lw_at lw_m1 30 rfl) rfl
theorem q300 : (Jvm.Cond.selects "java/util/NoSuchElementException" ({ cls := "java/lang/Object", name := "getClass", desc := "()Ljava/lang/Class;" } : Jvm.MethodName) ({ cls := "java/lang/Object", name := "getClass", desc := "()Ljava/lang/Class;" } : Jvm.MethodName)) ∈ lw_all := lw_g (lw_at lw_m2 8 rfl) rfl
theorem q590 : (Jvm.Cond.selects "java/util/NoSuchElementException" ({ cls := "java/lang/Throwable", name := "fillInStackTrace", desc := "()Ljava/lang/Throwable;" } : Jvm.MethodName) ({ cls := "java/lang/Throwable", name := "fillInStackTrace", desc := "()Ljava/lang/Throwable;" } : Jvm.MethodName)) ∈ lw_all := lw_g (lw_at lw_m3 58 rfl) rfl
theorem q985 : (Jvm.Cond.instantiable "java/util/NoSuchElementException" (6 : Nat)) ∈ lw_all := lw_g (lw_at lw_m4 213 rfl) rfl
theorem q986 : (Jvm.Cond.castable "java/util/NoSuchElementException" "java/util/NoSuchElementException") ∈ lw_tbl := lw_at lw_m4 214 rfl
theorem q987 : (Jvm.Cond.selects "java/util/NoSuchElementException" ({ cls := "java/lang/Throwable", name := "fillInStackTrace", desc := "(I)Ljava/lang/Throwable;" } : Jvm.MethodName) ({ cls := "java/lang/Throwable", name := "fillInStackTrace", desc := "(I)Ljava/lang/Throwable;" } : Jvm.MethodName)) ∈ lw_all := lw_g (lw_at lw_m4 215 rfl) rfl
theorem q988 : (Jvm.Cond.lays "java/util/NoSuchElementException" "java/lang/Throwable" "cause" "Ljava/lang/Throwable;") ∈ lw_all := lw_g (lw_at lw_m4 216 rfl) rfl
theorem q989 : (Jvm.Cond.lays "java/util/NoSuchElementException" "java/lang/Throwable" "stackTrace" "[Ljava/lang/StackTraceElement;") ∈ lw_all := lw_g (lw_at lw_m4 217 rfl) rfl
theorem q990 : (Jvm.Cond.lays "java/util/NoSuchElementException" "java/lang/Throwable" "suppressedExceptions" "Ljava/util/List;") ∈ lw_all := lw_g (lw_at lw_m4 218 rfl) rfl
theorem q991 : (Jvm.Cond.lays "java/util/NoSuchElementException" "java/lang/Throwable" "detailMessage" "Ljava/lang/String;") ∈ lw_all := lw_g (lw_at lw_m4 219 rfl) rfl
theorem q992 : (Jvm.Cond.lays "java/util/NoSuchElementException" "java/lang/Throwable" "backtrace" "Ljava/lang/Object;") ∈ lw_all := lw_g (lw_at lw_m4 220 rfl) rfl
theorem q994 : (Jvm.Cond.instanceMethod ({ cls := "java/util/NoSuchElementException", name := "<init>", desc := "()V" } : Jvm.MethodName)) ∈ lw_all := lw_g (lw_at lw_m4 222 rfl) rfl
theorem q995 : (Jvm.Cond.code ({ cls := "java/util/NoSuchElementException", name := "<init>", desc := "()V" } : Jvm.MethodName) prog_36_method_1_code (1 : Nat) (Option.none : Option Jvm.ClassFile.FieldType)) ∈ lw_all := lw_g (lw_at lw_m4 223 rfl) rfl
theorem q996 : (Jvm.Cond.methodLink "java/util/NoSuchElementException" (1 : Nat) ({ cls := "java/lang/RuntimeException", name := "<init>", desc := "()V" } : Jvm.MethodName)) ∈ lw_all := lw_g (lw_at lw_m4 224 rfl) rfl
theorem q997 : (Jvm.Cond.lays "java/util/NoSuchElementException" "java/lang/Throwable" "depth" "I") ∈ lw_all := lw_g (lw_at lw_m4 225 rfl) rfl
theorem q998 : (Jvm.Cond.superclass "java/util/NoSuchElementException" "java/lang/RuntimeException") ∈ lw_all := lw_g (lw_at lw_m4 226 rfl) rfl
theorem q1634 : (Jvm.Cond.castable "java/util/NoSuchElementException" "java/lang/Object") ∈ lw_tbl := lw_at lw_m7 142 rfl
theorem in_J17 : ∀ w ∈ wsJ170, w ∈ lw_all := lw_in wsJ170 [988, 989, 990, 991, 992, 997] (by decide +kernel) (by decide +kernel)

/-! java/lang/ArithmeticException -/
set_option maxRecDepth 100000
def RJ18 : String := "java/lang/ArithmeticException"
def TJ18 : u_T := fun k => match k with
  | 0 => ("java/lang/Throwable", "backtrace", "Ljava/lang/Object;", false)
  | 1 => ("java/lang/Throwable", "detailMessage", "Ljava/lang/String;", false)
  | 2 => ("java/lang/Throwable", "cause", "Ljava/lang/Throwable;", false)
  | 3 => ("java/lang/Throwable", "stackTrace", "[Ljava/lang/StackTraceElement;", false)
  | 4 => ("java/lang/Throwable", "depth", "I", false)
  | _ => ("java/lang/Throwable", "suppressedExceptions", "Ljava/util/List;", false)
def tyJ18 : Nat → FieldType := fun k => match k with
  | 0 => .object "java/lang/Object"
  | 1 => .object "java/lang/String"
  | 2 => .object "java/lang/Throwable"
  | 3 => .array (.object "java/lang/StackTraceElement")
  | 4 => .int
  | _ => .object "java/util/List"
abbrev wsJ180 : List Cond := u_ws RJ18 TJ18 6
theorem nmJ18 : ∀ a, a < 6 → ∀ b, b < 6 → a ≠ b → (TJ18 a).2.1 ≠ (TJ18 b).2.1 := by decide +kernel
theorem tyJ18_ok : ∀ k, k < 6 → parseFieldDescriptor (TJ18 k).2.2.1 = some (tyJ18 k) := by decide +kernel
abbrev cJ18_init : ByteArray := prog_16_method_2_code
def yJ18_init : MethodName := ⟨RJ18, "<init>", "(Ljava/lang/String;)V"⟩
def dkwJ18_init_0 : List UInt8 := [42, 43, 183, 0, 7, 177]
abbrev dktJ18_init_0 : List UInt8 := dkwJ18_init_0 ++ []
theorem dksJ18_init_0 : cJ18_init.data.toList.drop 0 = dktJ18_init_0 := by decide +kernel
theorem dJ18_init_0 : decode cJ18_init 0 = .ok (.aload_n 0, 1) := dk_42 (dk_at dksJ18_init_0 0 rfl rfl)
theorem dJ18_init_1 : decode cJ18_init 1 = .ok (.aload_n 1, 1) := dk_43 (dk_at dksJ18_init_0 1 rfl rfl)
theorem dJ18_init_2 : decode cJ18_init 2 = .ok (.invokespecial 7, 3) := dk_183 0 7 (dk_at dksJ18_init_0 2 rfl rfl)
theorem dJ18_init_5 : decode cJ18_init 5 = .ok (.return_, 1) := dk_177 (dk_at dksJ18_init_0 5 rfl rfl)
abbrev cJ18_init_2 : ByteArray := prog_16_method_1_code
def yJ18_init_2 : MethodName := ⟨RJ18, "<init>", "()V"⟩
theorem dJ18_init_2_0 : decode cJ18_init_2 0 = .ok (.aload_n 0, 1) := by decide +kernel
theorem dJ18_init_2_1 : decode cJ18_init_2 1 = .ok (.invokespecial 1, 3) := by decide +kernel
theorem dJ18_init_2_4 : decode cJ18_init_2 4 = .ok (.return_, 1) := by decide +kernel
theorem q83 : (Jvm.Cond.initialized "java/lang/ArithmeticException") ∈ lw_all := lw_g (lw_at lw_m1 31 rfl) rfl
theorem q293 : (Jvm.Cond.selects "java/lang/ArithmeticException" ({ cls := "java/lang/Object", name := "getClass", desc := "()Ljava/lang/Class;" } : Jvm.MethodName) ({ cls := "java/lang/Object", name := "getClass", desc := "()Ljava/lang/Class;" } : Jvm.MethodName)) ∈ lw_all := lw_g (lw_at lw_m2 1 rfl) rfl
theorem q585 : (Jvm.Cond.selects "java/lang/ArithmeticException" ({ cls := "java/lang/Throwable", name := "fillInStackTrace", desc := "()Ljava/lang/Throwable;" } : Jvm.MethodName) ({ cls := "java/lang/Throwable", name := "fillInStackTrace", desc := "()Ljava/lang/Throwable;" } : Jvm.MethodName)) ∈ lw_all := lw_g (lw_at lw_m3 53 rfl) rfl
theorem q1194 : (Jvm.Cond.instantiable "java/lang/ArithmeticException" (6 : Nat)) ∈ lw_all := lw_g (lw_at lw_m5 182 rfl) rfl
theorem q1195 : (Jvm.Cond.instanceMethod ({ cls := "java/lang/ArithmeticException", name := "<init>", desc := "(Ljava/lang/String;)V" } : Jvm.MethodName)) ∈ lw_all := lw_g (lw_at lw_m5 183 rfl) rfl
theorem q1196 : (Jvm.Cond.code ({ cls := "java/lang/ArithmeticException", name := "<init>", desc := "(Ljava/lang/String;)V" } : Jvm.MethodName) prog_16_method_2_code (2 : Nat) (Option.none : Option Jvm.ClassFile.FieldType)) ∈ lw_all := lw_g (lw_at lw_m5 184 rfl) rfl
theorem q1197 : (Jvm.Cond.methodLink "java/lang/ArithmeticException" (7 : Nat) ({ cls := "java/lang/RuntimeException", name := "<init>", desc := "(Ljava/lang/String;)V" } : Jvm.MethodName)) ∈ lw_all := lw_g (lw_at lw_m5 185 rfl) rfl
theorem q1198 : (Jvm.Cond.lays "java/lang/ArithmeticException" "java/lang/Throwable" "backtrace" "Ljava/lang/Object;") ∈ lw_all := lw_g (lw_at lw_m5 186 rfl) rfl
theorem q1199 : (Jvm.Cond.lays "java/lang/ArithmeticException" "java/lang/Throwable" "detailMessage" "Ljava/lang/String;") ∈ lw_all := lw_g (lw_at lw_m5 187 rfl) rfl
theorem q1200 : (Jvm.Cond.lays "java/lang/ArithmeticException" "java/lang/Throwable" "cause" "Ljava/lang/Throwable;") ∈ lw_all := lw_g (lw_at lw_m5 188 rfl) rfl
theorem q1201 : (Jvm.Cond.lays "java/lang/ArithmeticException" "java/lang/Throwable" "stackTrace" "[Ljava/lang/StackTraceElement;") ∈ lw_all := lw_g (lw_at lw_m5 189 rfl) rfl
theorem q1202 : (Jvm.Cond.lays "java/lang/ArithmeticException" "java/lang/Throwable" "depth" "I") ∈ lw_all := lw_g (lw_at lw_m5 190 rfl) rfl
theorem q1203 : (Jvm.Cond.lays "java/lang/ArithmeticException" "java/lang/Throwable" "suppressedExceptions" "Ljava/util/List;") ∈ lw_all := lw_g (lw_at lw_m5 191 rfl) rfl
theorem q1204 : (Jvm.Cond.superclass "java/lang/ArithmeticException" "java/lang/RuntimeException") ∈ lw_all := lw_g (lw_at lw_m5 192 rfl) rfl
theorem q1205 : (Jvm.Cond.castable "java/lang/ArithmeticException" "java/lang/ArithmeticException") ∈ lw_tbl := lw_at lw_m5 193 rfl
theorem q1206 : (Jvm.Cond.selects "java/lang/ArithmeticException" ({ cls := "java/lang/Throwable", name := "fillInStackTrace", desc := "(I)Ljava/lang/Throwable;" } : Jvm.MethodName) ({ cls := "java/lang/Throwable", name := "fillInStackTrace", desc := "(I)Ljava/lang/Throwable;" } : Jvm.MethodName)) ∈ lw_all := lw_g (lw_at lw_m5 194 rfl) rfl
theorem q1217 : (Jvm.Cond.instanceMethod ({ cls := "java/lang/ArithmeticException", name := "<init>", desc := "()V" } : Jvm.MethodName)) ∈ lw_all := lw_g (lw_at lw_m5 205 rfl) rfl
theorem q1218 : (Jvm.Cond.code ({ cls := "java/lang/ArithmeticException", name := "<init>", desc := "()V" } : Jvm.MethodName) prog_16_method_1_code (1 : Nat) (Option.none : Option Jvm.ClassFile.FieldType)) ∈ lw_all := lw_g (lw_at lw_m5 206 rfl) rfl
theorem q1219 : (Jvm.Cond.methodLink "java/lang/ArithmeticException" (1 : Nat) ({ cls := "java/lang/RuntimeException", name := "<init>", desc := "()V" } : Jvm.MethodName)) ∈ lw_all := lw_g (lw_at lw_m5 207 rfl) rfl
theorem q1635 : (Jvm.Cond.castable "java/lang/ArithmeticException" "java/lang/Object") ∈ lw_tbl := lw_at lw_m7 143 rfl
theorem in_J18 : ∀ w ∈ wsJ180, w ∈ lw_all := lw_in wsJ180 [1198, 1199, 1200, 1201, 1202, 1203] (by decide +kernel) (by decide +kernel)

/-! java/lang/Object -/
set_option maxRecDepth 100000
def RJ19 : String := "java/lang/Object"
abbrev cJ19_init : ByteArray := object_method_1_code
def yJ19_init : MethodName := ⟨RJ19, "<init>", "()V"⟩
theorem dJ19_init_0 : decode cJ19_init 0 = .ok (.return_, 1) := by decide +kernel
theorem q90 : (Jvm.Cond.instanceMethod ({ cls := "java/lang/Object", name := "<init>", desc := "()V" } : Jvm.MethodName)) ∈ lw_all := lw_g (lw_at lw_m1 38 rfl) rfl
theorem q91 : (Jvm.Cond.code ({ cls := "java/lang/Object", name := "<init>", desc := "()V" } : Jvm.MethodName) object_method_1_code (1 : Nat) (Option.none : Option Jvm.ClassFile.FieldType)) ∈ lw_all := lw_g (lw_at lw_m1 39 rfl) rfl
theorem q281 : (Jvm.Cond.instanceMethod ({ cls := "java/lang/Object", name := "getClass", desc := "()Ljava/lang/Class;" } : Jvm.MethodName)) ∈ lw_all := lw_g (lw_at lw_m1 229 rfl) rfl
theorem q282 : (Jvm.Cond.sameMethod "java/lang/Object" "java/lang/Object" "getClass" "()Ljava/lang/Class;") ∈ lw_all := lw_g (lw_at lw_m1 230 rfl) rfl
theorem q301 : (Jvm.Cond.native ({ cls := "java/lang/Object", name := "getClass", desc := "()Ljava/lang/Class;" } : Jvm.MethodName)) ∈ lw_all := lw_g (lw_at lw_m2 9 rfl) rfl
theorem q1611 : (Jvm.Cond.initialized "java/lang/Object") ∈ lw_all := lw_g (lw_at lw_m7 119 rfl) rfl
theorem q1640 : (Jvm.Cond.declares ({ cls := "java/lang/Object", name := "getClass", desc := "()Ljava/lang/Class;" } : Jvm.MethodName)) ∈ lw_tbl := lw_at lw_m7 148 rfl
theorem q1648 : (Jvm.Cond.instantiable "java/lang/Object" (0 : Nat)) ∈ lw_all := lw_g (lw_at lw_m7 156 rfl) rfl

theorem q1096 : (Jvm.Cond.interfaceMethod "ToneGraph$Choice" "ToneGraph$Choice" "means" "(LToneGraph$Voice;)Z") ∈ lw_tbl := lw_at lw_m5 84 rfl
set_option maxRecDepth 100000
theorem q1097 : (Jvm.Cond.declares ({ cls := "ToneGraph$Choice", name := "means", desc := "(LToneGraph$Voice;)Z" } : Jvm.MethodName)) ∈ lw_tbl := lw_at lw_m5 85 rfl

theorem q471 : (Jvm.Cond.interfaceMethod "ToneGraph$Wave" "ToneGraph$Wave" "at" "(I)I") ∈ lw_tbl := lw_at lw_m2 179 rfl
set_option maxRecDepth 100000
theorem q472 : (Jvm.Cond.declares ({ cls := "ToneGraph$Wave", name := "at", desc := "(I)I" } : Jvm.MethodName)) ∈ lw_tbl := lw_at lw_m2 180 rfl

theorem q1644 : (Jvm.Cond.castable "[B" "java/lang/Object") ∈ lw_tbl := lw_at lw_m7 152 rfl
set_option maxRecDepth 100000

theorem q1647 : (Jvm.Cond.castable "[D" "java/lang/Object") ∈ lw_tbl := lw_at lw_m7 155 rfl
set_option maxRecDepth 100000

theorem q1642 : (Jvm.Cond.castable "[I" "java/lang/Object") ∈ lw_tbl := lw_at lw_m7 150 rfl
set_option maxRecDepth 100000

theorem q1646 : (Jvm.Cond.castable "[J" "java/lang/Object") ∈ lw_tbl := lw_at lw_m7 154 rfl
set_option maxRecDepth 100000

theorem q1641 : (Jvm.Cond.castable "[LToneGraph$Voice;" "java/lang/Object") ∈ lw_tbl := lw_at lw_m7 149 rfl
set_option maxRecDepth 100000

theorem q1638 : (Jvm.Cond.sameMethod "[Ljava/lang/Object;" "java/lang/Object" "getClass" "()Ljava/lang/Class;") ∈ lw_all := lw_g (lw_at lw_m7 146 rfl) rfl
set_option maxRecDepth 100000
theorem q1639 : (Jvm.Cond.selects "[Ljava/lang/Object;" ({ cls := "java/lang/Object", name := "getClass", desc := "()Ljava/lang/Class;" } : Jvm.MethodName) ({ cls := "java/lang/Object", name := "getClass", desc := "()Ljava/lang/Class;" } : Jvm.MethodName)) ∈ lw_all := lw_g (lw_at lw_m7 147 rfl) rfl
theorem q1643 : (Jvm.Cond.castable "[Ljava/lang/Object;" "java/lang/Object") ∈ lw_tbl := lw_at lw_m7 151 rfl

theorem q1645 : (Jvm.Cond.castable "[Z" "java/lang/Object") ∈ lw_tbl := lw_at lw_m7 153 rfl
set_option maxRecDepth 100000

theorem q64 : (Jvm.Cond.initialized "java/lang/System") ∈ lw_all := lw_g (lw_at lw_m1 12 rfl) rfl
set_option maxRecDepth 100000
theorem q312 : (Jvm.Cond.static ({ cls := "java/lang/System", name := "arraycopy", desc := "(Ljava/lang/Object;ILjava/lang/Object;II)V" } : Jvm.MethodName)) ∈ lw_all := lw_g (lw_at lw_m2 20 rfl) rfl
theorem q313 : (Jvm.Cond.native ({ cls := "java/lang/System", name := "arraycopy", desc := "(Ljava/lang/Object;ILjava/lang/Object;II)V" } : Jvm.MethodName)) ∈ lw_all := lw_g (lw_at lw_m2 21 rfl) rfl

theorem q158 : (Jvm.Cond.arrayOver (Jvm.ClassFile.FieldType.object "ToneGraph$Voice")) ∈ lw_tbl := lw_at lw_m1 106 rfl
set_option maxRecDepth 100000
theorem q207 : (Jvm.Cond.arrayClass Jvm.ClassFile.FieldType.int) ∈ lw_all := lw_g (lw_at lw_m1 155 rfl) rfl
theorem q306 : (Jvm.Cond.arrayOver (Jvm.ClassFile.FieldType.object "java/lang/Object")) ∈ lw_tbl := lw_at lw_m2 14 rfl
theorem q896 : (Jvm.Cond.arrayClass Jvm.ClassFile.FieldType.byte) ∈ lw_all := lw_g (lw_at lw_m4 124 rfl) rfl
theorem q1320 : (Jvm.Cond.arrayClass Jvm.ClassFile.FieldType.boolean) ∈ lw_all := lw_g (lw_at lw_m6 68 rfl) rfl
theorem q1608 : (Jvm.Cond.arrayClass Jvm.ClassFile.FieldType.long) ∈ lw_all := lw_g (lw_at lw_m7 116 rfl) rfl
theorem q1609 : (Jvm.Cond.arrayClass Jvm.ClassFile.FieldType.double) ∈ lw_all := lw_g (lw_at lw_m7 117 rfl) rfl
