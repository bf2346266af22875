/-! ===== String: names; coder, isLatin1 ===== -/
abbrev cJ6_coder : ByteArray := prog_41_method_152_code
def yJ6_coder : MethodName := ⟨"java/lang/String", "coder", "()B"⟩
abbrev YJ6_coder : rhY := (yJ6_coder, cJ6_coder, 1, (some .byte))
def dtJ6_coder : rhDt := [[(0, .getstatic 38, 3), (3, .ifCond .eq 10, 3), (6, .aload_n 0, 1), (7, .getfield 15, 3), (10, .goto 4, 3), (13, .iconst 1, 1), (14, .ireturn, 1)]]
theorem tdJ6_coder : rh_dok cJ6_coder dtJ6_coder := rh_dtc_ok (by decide +kernel)
theorem q293 : (Jvm.Cond.initialized "java/lang/String") ∈ lw_all := lw_g (lw_at lw_m1 40 rfl) rfl
theorem q2607 : (Jvm.Cond.instanceMethod ({ cls := "java/lang/String", name := "coder", desc := "()B" } : Jvm.MethodName)) ∈ lw_all := lw_g (lw_at lw_m10 194 rfl) rfl
theorem q2608 : (Jvm.Cond.selects "java/lang/String" ({ cls := "java/lang/String", name := "coder", desc := "()B" } : Jvm.MethodName) ({ cls := "java/lang/String", name := "coder", desc := "()B" } : Jvm.MethodName)) ∈ lw_all := lw_g (lw_at lw_m10 195 rfl) rfl
theorem q2609 : (Jvm.Cond.code ({ cls := "java/lang/String", name := "coder", desc := "()B" } : Jvm.MethodName) prog_41_method_152_code (1 : Nat) (Option.some Jvm.ClassFile.FieldType.byte)) ∈ lw_all := lw_g (lw_at lw_m10 196 rfl) rfl
theorem kJ6_coder : rh_kV YJ6_coder "java/lang/String" 0 := ⟨q2607, q2608, q293, q2609, by decide +kernel, by decide, rfl⟩
abbrev cJ6_isLatin1 : ByteArray := prog_41_method_154_code
def yJ6_isLatin1 : MethodName := ⟨"java/lang/String", "isLatin1", "()Z"⟩
abbrev YJ6_isLatin1 : rhY := (yJ6_isLatin1, cJ6_isLatin1, 1, (some .boolean))
def dtJ6_isLatin1 : rhDt := [[(0, .getstatic 38, 3), (3, .ifCond .eq 14, 3), (6, .aload_n 0, 1), (7, .getfield 15, 3), (10, .ifCond .ne 7, 3), (13, .iconst 1, 1), (14, .goto 4, 3), (17, .iconst 0, 1), (18, .ireturn, 1)]]
theorem tdJ6_isLatin1 : rh_dok cJ6_isLatin1 dtJ6_isLatin1 := rh_dtc_ok (by decide +kernel)
theorem q2617 : (Jvm.Cond.instanceMethod ({ cls := "java/lang/String", name := "isLatin1", desc := "()Z" } : Jvm.MethodName)) ∈ lw_all := lw_g (lw_at lw_m10 204 rfl) rfl
theorem q2618 : (Jvm.Cond.selects "java/lang/String" ({ cls := "java/lang/String", name := "isLatin1", desc := "()Z" } : Jvm.MethodName) ({ cls := "java/lang/String", name := "isLatin1", desc := "()Z" } : Jvm.MethodName)) ∈ lw_all := lw_g (lw_at lw_m10 205 rfl) rfl
theorem q2619 : (Jvm.Cond.code ({ cls := "java/lang/String", name := "isLatin1", desc := "()Z" } : Jvm.MethodName) prog_41_method_154_code (1 : Nat) (Option.some Jvm.ClassFile.FieldType.boolean)) ∈ lw_all := lw_g (lw_at lw_m10 206 rfl) rfl
theorem kJ6_isLatin1 : rh_kV YJ6_isLatin1 "java/lang/String" 0 := ⟨q2617, q2618, q293, q2619, by decide +kernel, by decide, rfl⟩
abbrev cJ6_length : ByteArray := prog_41_method_54_code
def yJ6_length : MethodName := ⟨"java/lang/String", "length", "()I"⟩
abbrev YJ6_length : rhY := (yJ6_length, cJ6_length, 1, (some .int))
def dtJ6_length : rhDt := [[(0, .aload_n 0, 1), (1, .getfield 9, 3), (4, .arraylength, 1), (5, .aload_n 0, 1), (6, .invokevirtual 335, 3), (9, .ishr, 1), (10, .ireturn, 1)]]
theorem tdJ6_length : rh_dok cJ6_length dtJ6_length := rh_dtc_ok (by decide +kernel)
theorem q2603 : (Jvm.Cond.instanceMethod ({ cls := "java/lang/String", name := "length", desc := "()I" } : Jvm.MethodName)) ∈ lw_all := lw_g (lw_at lw_m10 190 rfl) rfl
theorem q2604 : (Jvm.Cond.selects "java/lang/String" ({ cls := "java/lang/String", name := "length", desc := "()I" } : Jvm.MethodName) ({ cls := "java/lang/String", name := "length", desc := "()I" } : Jvm.MethodName)) ∈ lw_all := lw_g (lw_at lw_m10 191 rfl) rfl
theorem q2605 : (Jvm.Cond.code ({ cls := "java/lang/String", name := "length", desc := "()I" } : Jvm.MethodName) prog_41_method_54_code (1 : Nat) (Option.some Jvm.ClassFile.FieldType.int)) ∈ lw_all := lw_g (lw_at lw_m10 192 rfl) rfl
theorem kJ6_length : rh_kV YJ6_length "java/lang/String" 0 := ⟨q2603, q2604, q293, q2605, by decide +kernel, by decide, rfl⟩
abbrev cJ6_indexOf : ByteArray := prog_41_method_79_code
def yJ6_indexOf : MethodName := ⟨"java/lang/String", "indexOf", "(I)I"⟩
abbrev YJ6_indexOf : rhY := (yJ6_indexOf, cJ6_indexOf, 2, (some .int))
def dtJ6_indexOf : rhDt := [[(0, .aload_n 0, 1), (1, .iload_n 1, 1), (2, .iconst 0, 1), (3, .invokevirtual 633, 3), (6, .ireturn, 1)]]
theorem tdJ6_indexOf : rh_dok cJ6_indexOf dtJ6_indexOf := rh_dtc_ok (by decide +kernel)
theorem q3053 : (Jvm.Cond.instanceMethod ({ cls := "java/lang/String", name := "indexOf", desc := "(I)I" } : Jvm.MethodName)) ∈ lw_all := lw_g (lw_at lw_m12 160 rfl) rfl
theorem q3054 : (Jvm.Cond.selects "java/lang/String" ({ cls := "java/lang/String", name := "indexOf", desc := "(I)I" } : Jvm.MethodName) ({ cls := "java/lang/String", name := "indexOf", desc := "(I)I" } : Jvm.MethodName)) ∈ lw_all := lw_g (lw_at lw_m12 161 rfl) rfl
theorem q3055 : (Jvm.Cond.code ({ cls := "java/lang/String", name := "indexOf", desc := "(I)I" } : Jvm.MethodName) prog_41_method_79_code (2 : Nat) (Option.some Jvm.ClassFile.FieldType.int)) ∈ lw_all := lw_g (lw_at lw_m12 162 rfl) rfl
theorem kJ6_indexOf : rh_kV YJ6_indexOf "java/lang/String" 1 := ⟨q3053, q3054, q293, q3055, by decide +kernel, by decide, rfl⟩
abbrev cJ6_indexOf_2 : ByteArray := prog_41_method_80_code
def yJ6_indexOf_2 : MethodName := ⟨"java/lang/String", "indexOf", "(II)I"⟩
abbrev YJ6_indexOf_2 : rhY := (yJ6_indexOf_2, cJ6_indexOf_2, 3, (some .int))
def dtJ6_indexOf_2 : rhDt := [[(0, .aload_n 0, 1), (1, .invokevirtual 492, 3), (4, .ifCond .eq 19, 3), (7, .aload_n 0, 1), (8, .getfield 9, 3), (11, .iload_n 1, 1), (12, .iload_n 2, 1), (13, .aload_n 0, 1), (14, .invokevirtual 505, 3), (17, .invokestatic 637, 3), (20, .goto 16, 3), (23, .aload_n 0, 1), (24, .getfield 9, 3), (27, .iload_n 1, 1), (28, .iload_n 2, 1), (29, .aload_n 0, 1), (30, .invokevirtual 505, 3), (33, .invokestatic 640, 3), (36, .ireturn, 1)]]
theorem tdJ6_indexOf_2 : rh_dok cJ6_indexOf_2 dtJ6_indexOf_2 := rh_dtc_ok (by decide +kernel)
theorem q3057 : (Jvm.Cond.instanceMethod ({ cls := "java/lang/String", name := "indexOf", desc := "(II)I" } : Jvm.MethodName)) ∈ lw_all := lw_g (lw_at lw_m12 164 rfl) rfl
theorem q3058 : (Jvm.Cond.selects "java/lang/String" ({ cls := "java/lang/String", name := "indexOf", desc := "(II)I" } : Jvm.MethodName) ({ cls := "java/lang/String", name := "indexOf", desc := "(II)I" } : Jvm.MethodName)) ∈ lw_all := lw_g (lw_at lw_m12 165 rfl) rfl
theorem q3059 : (Jvm.Cond.code ({ cls := "java/lang/String", name := "indexOf", desc := "(II)I" } : Jvm.MethodName) prog_41_method_80_code (3 : Nat) (Option.some Jvm.ClassFile.FieldType.int)) ∈ lw_all := lw_g (lw_at lw_m12 166 rfl) rfl
theorem kJ6_indexOf_2 : rh_kV YJ6_indexOf_2 "java/lang/String" 2 := ⟨q3057, q3058, q293, q3059, by decide +kernel, by decide, rfl⟩
abbrev cJ7_indexOf : ByteArray := prog_42_method_22_code
def yJ7_indexOf : MethodName := ⟨"java/lang/StringLatin1", "indexOf", "([BIII)I"⟩
abbrev YJ7_indexOf : rhY := (yJ7_indexOf, cJ7_indexOf, 4, (some .int))
def dtJ7_indexOf : rhDt := [[(0, .iload_n 1, 1), (1, .invokestatic 88, 3), (4, .ifCond .ne 5, 3), (7, .iconst (-1), 1), (8, .ireturn, 1), (9, .iload_n 2, 1), (10, .iconst 0, 1), (11, .invokestatic 92, 3), (14, .istore_n 2, 1), (15, .iload_n 3, 1), (16, .aload_n 0, 1), (17, .arraylength, 1), (18, .invokestatic 38, 3), (21, .istore_n 3, 1), (22, .iload_n 2, 1), (23, .iload_n 3, 1), (24, .if_icmp .lt 5, 3), (27, .iconst (-1), 1), (28, .ireturn, 1), (29, .aload_n 0, 1), (30, .iload_n 1, 1), (31, .iload_n 2, 1), (32, .iload_n 3, 1), (33, .invokestatic 95, 3), (36, .ireturn, 1)]]
theorem tdJ7_indexOf : rh_dok cJ7_indexOf dtJ7_indexOf := rh_dtc_ok (by decide +kernel)
theorem q294 : (Jvm.Cond.initialized "java/lang/StringLatin1") ∈ lw_all := lw_g (lw_at lw_m1 41 rfl) rfl
theorem q3062 : (Jvm.Cond.static ({ cls := "java/lang/StringLatin1", name := "indexOf", desc := "([BIII)I" } : Jvm.MethodName)) ∈ lw_all := lw_g (lw_at lw_m12 169 rfl) rfl
theorem q3063 : (Jvm.Cond.code ({ cls := "java/lang/StringLatin1", name := "indexOf", desc := "([BIII)I" } : Jvm.MethodName) prog_42_method_22_code (4 : Nat) (Option.some Jvm.ClassFile.FieldType.int)) ∈ lw_all := lw_g (lw_at lw_m12 170 rfl) rfl
theorem kJ7_indexOf : rh_kS YJ7_indexOf 4 := ⟨q3062, q294, q3063, by decide +kernel, by decide, rfl⟩
abbrev cJ7_canEncode : ByteArray := prog_42_method_4_code
def yJ7_canEncode : MethodName := ⟨"java/lang/StringLatin1", "canEncode", "(I)Z"⟩
abbrev YJ7_canEncode : rhY := (yJ7_canEncode, cJ7_canEncode, 1, (some .boolean))
def dtJ7_canEncode : rhDt := [[(0, .iload_n 0, 1), (1, .ifCond .lt 14, 3), (4, .iload_n 0, 1), (5, .sipush 255, 3), (8, .if_icmp .gt 7, 3), (11, .iconst 1, 1), (12, .goto 4, 3), (15, .iconst 0, 1), (16, .ireturn, 1)]]
theorem tdJ7_canEncode : rh_dok cJ7_canEncode dtJ7_canEncode := rh_dtc_ok (by decide +kernel)
theorem q3065 : (Jvm.Cond.static ({ cls := "java/lang/StringLatin1", name := "canEncode", desc := "(I)Z" } : Jvm.MethodName)) ∈ lw_all := lw_g (lw_at lw_m12 172 rfl) rfl
theorem q3066 : (Jvm.Cond.code ({ cls := "java/lang/StringLatin1", name := "canEncode", desc := "(I)Z" } : Jvm.MethodName) prog_42_method_4_code (1 : Nat) (Option.some Jvm.ClassFile.FieldType.boolean)) ∈ lw_all := lw_g (lw_at lw_m12 173 rfl) rfl
theorem kJ7_canEncode : rh_kS YJ7_canEncode 1 := ⟨q3065, q294, q3066, by decide +kernel, by decide, rfl⟩
abbrev cJ7_indexOfChar : ByteArray := prog_42_method_23_code
def yJ7_indexOfChar : MethodName := ⟨"java/lang/StringLatin1", "indexOfChar", "([BIII)I"⟩
abbrev YJ7_indexOfChar : rhY := (yJ7_indexOfChar, cJ7_indexOfChar, 6, (some .int))
def dtJ7_indexOfChar : rhDt := [[(0, .iload_n 1, 1), (1, .i2b, 1), (2, .istore 4, 2), (4, .iload_n 2, 1), (5, .istore 5, 2), (7, .iload 5, 2), (9, .iload_n 3, 1), (10, .if_icmp .ge 21, 3), (13, .aload_n 0, 1), (14, .iload 5, 2), (16, .baload, 1), (17, .iload 4, 2), (19, .if_icmp .ne 6, 3), (22, .iload 5, 2), (24, .ireturn, 1), (25, .iinc 5 1, 3), (28, .goto (-21), 3), (31, .iconst (-1), 1), (32, .ireturn, 1)]]
theorem tdJ7_indexOfChar : rh_dok cJ7_indexOfChar dtJ7_indexOfChar := rh_dtc_ok (by decide +kernel)
theorem q3070 : (Jvm.Cond.static ({ cls := "java/lang/StringLatin1", name := "indexOfChar", desc := "([BIII)I" } : Jvm.MethodName)) ∈ lw_all := lw_g (lw_at lw_m12 177 rfl) rfl
theorem q3071 : (Jvm.Cond.code ({ cls := "java/lang/StringLatin1", name := "indexOfChar", desc := "([BIII)I" } : Jvm.MethodName) prog_42_method_23_code (6 : Nat) (Option.some Jvm.ClassFile.FieldType.int)) ∈ lw_all := lw_g (lw_at lw_m12 178 rfl) rfl
theorem kJ7_indexOfChar : rh_kS YJ7_indexOfChar 4 := ⟨q3070, q294, q3071, by decide +kernel, by decide, rfl⟩
theorem q2610 : (Jvm.Cond.fieldLink "java/lang/String" (38 : Nat) "java/lang/String" "COMPACT_STRINGS" "Z") ∈ lw_all := lw_g (lw_at lw_m10 197 rfl) rfl
theorem q5176 : (Jvm.Cond.fieldLink "java/lang/String" (9 : Nat) "java/lang/String" "value" "[B") ∈ lw_all := lw_g (lw_at lw_m21 123 rfl) rfl
theorem q5177 : (Jvm.Cond.fieldLink "java/lang/String" (15 : Nat) "java/lang/String" "coder" "B") ∈ lw_all := lw_g (lw_at lw_m21 124 rfl) rfl
section Txt
theorem plainNo {y : MethodName} (H : (Jvm.natives.all fun r => r.cls != y.cls || r.desc != y.desc) = true) : plainFor y = true := by
  unfold plainFor
  rw [Bool.or_eq_true]; right
  rw [Option.isNone_iff_eq_none, NativeRow.find?, List.find?_eq_none]
  intro r hr h
  have := List.all_eq_true.mp H r hr
  simp only [Bool.and_eq_true, beq_iff_eq] at h
  rw [h.1.2, h.2] at this
  simp at this
theorem c_coder {w : rhW} {i : Nat} (hi : i < rh_st.length) (M : rhM) : eC w YJ6_coder 0 [(9, (i : Int))] M 0 M := by
  refine eC.ofF (plainNo (by decide +kernel)) (LE0 rfl) (fun n => ?_)
  refine rh_cmpT 3 q2610 (rh_dec1 tdJ6_coder rfl) rfl ?_
  refine rh_iz_eq 13 6 (rh_dec1 tdJ6_coder rfl) rfl (.inl rfl) rfl rfl (fun c => absurd c (by decide)) (fun _ => ?_)
  refine rh_ald_n 7 (j := 0) (x := (i : Int)) (rh_dec1 tdJ6_coder rfl) rfl rfl rfl rfl ?_
  refine rh_codT 10 hi q5177 (rh_dec1 tdJ6_coder rfl) rfl ?_
  refine rh_goto 14 (rh_dec1 tdJ6_coder rfl) rfl ?_
  exact (rh_retI (mc := 0) (ms := 0) (ty := .byte) (t := 0) (v := 0) (rh_dec1 tdJ6_coder rfl) rfl rfl rfl (fun _ => ⟨by decide, by decide⟩) ⟨rfl, rfl⟩).zq
theorem c_isLatin1 {w : rhW} {i : Nat} (hi : i < rh_st.length) (M : rhM) : eC w YJ6_isLatin1 0 [(9, (i : Int))] M 1 M := by
  refine eC.ofF (plainNo (by decide +kernel)) (LE0 rfl) (fun n => ?_)
  refine rh_cmpT 3 q2610 (rh_dec1 tdJ6_isLatin1 rfl) rfl ?_
  refine rh_iz_eq 17 6 (rh_dec1 tdJ6_isLatin1 rfl) rfl (.inl rfl) rfl rfl (fun c => absurd c (by decide)) (fun _ => ?_)
  refine rh_ald_n 7 (j := 0) (x := (i : Int)) (rh_dec1 tdJ6_isLatin1 rfl) rfl rfl rfl rfl ?_
  refine rh_codT 10 hi q5177 (rh_dec1 tdJ6_isLatin1 rfl) rfl ?_
  refine rh_iz_ne 17 13 (rh_dec1 tdJ6_isLatin1 rfl) rfl (.inl rfl) rfl rfl (fun c => absurd rfl c) (fun _ => ?_)
  refine rh_ico 14 (rh_dec1 tdJ6_isLatin1 rfl) (by decide) rfl ?_
  refine rh_goto 18 (rh_dec1 tdJ6_isLatin1 rfl) rfl ?_
  exact (rh_retI (mc := 0) (ms := 0) (ty := .boolean) (t := 0) (v := 1) (rh_dec1 tdJ6_isLatin1 rfl) rfl rfl rfl (fun _ => ⟨by decide, by decide⟩) ⟨rfl, rfl⟩).zq
end Txt
