/-! ===== decoding by a table, checked against the bytes ===== -/
section RhDecode
def rh_bt (C : ByteArray) (i : Nat) : Option Nat := (C.data.toList[i]?).map UInt8.toNat
abbrev rhRd (α : Type) : Type := ClassFile.Reader DecodeError α
theorem rh_u1 {C : ByteArray} {i b : Nat} (h : rh_bt C i = some b) : (ClassFile.Reader.u1 : rhRd Nat) C i = .ok (b, i + 1) := by
  unfold rh_bt at h
  cases hx : C.data.toList[i]? with
  | none => rw [hx] at h; cases h
  | some x =>
    rw [hx] at h
    have hb : x.toNat = b := Option.some.inj h
    have hi : i < C.size := by
      have := (List.getElem?_eq_some_iff.mp hx).1
      simpa using this
    have hv : C[i] = x := by
      have := (List.getElem?_eq_some_iff.mp hx).2
      rw [← this]
      rfl
    show (do if h : i < C.size then do set (i + 1); Pure.pure C[i].toNat else MonadExcept.throw (ClassFile.HasTruncated.truncated i) : rhRd Nat) C i = _
    rw [dif_pos hi, hv, hb]
    rfl
theorem rh_bnd {α β : Type} {r : rhRd α} {f : α → rhRd β} {C : ByteArray} {i j : Nat} {a : α} (h : r C i = .ok (a, j)) : (r >>= f) C i = f a C j := by
  show (Except.bind (r C i) fun p => f p.1 C p.2) = _
  rw [h]
  rfl
theorem rh_dec {C : ByteArray} {pc b n : Nat} {i : Instr} {f : Nat → rhRd Instr} (h0 : rh_bt C pc = some b) (hf : ClassFile.Decoder.instr pc = ClassFile.Reader.u1 >>= f) (h : f b C (pc + 1) = .ok (i, pc + n)) : decode C pc = .ok (i, n) := by
  have h1 : ClassFile.Decoder.instr pc C pc = .ok (i, pc + n) := by
    rw [hf, rh_bnd (rh_u1 h0)]
    exact h
  show (do let (j, s) ← ClassFile.Decoder.instr pc C pc; Pure.pure (j, s - pc) : Except DecodeError (Instr × Nat)) = _
  rw [h1]
  show Except.ok (i, pc + n - pc) = _
  rw [Nat.add_sub_cancel_left]
theorem rh_u2 {C : ByteArray} {i x y : Nat} (h : rh_bt C i = some x) (h2 : rh_bt C (i + 1) = some y) : (ClassFile.Reader.u2 : rhRd Nat) C i = .ok (x * 256 + y, i + 2) := by
  show ((ClassFile.Reader.u1 : rhRd Nat) >>= fun hi => (ClassFile.Reader.u1 : rhRd Nat) >>= fun lo => Pure.pure (hi * 256 + lo)) C i = _
  rw [rh_bnd (rh_u1 h), rh_bnd (rh_u1 h2)]
  rfl
theorem rh_rs1 {C : ByteArray} {i x : Nat} (h : rh_bt C i = some x) : (ClassFile.Reader.s1 : rhRd Int) C i = .ok (ClassFile.Reader.signed 8 x, i + 1) := by
  show (do let a ← (ClassFile.Reader.u1 : rhRd Nat); Pure.pure (ClassFile.Reader.signed 8 a) : rhRd Int) C i = _
  rw [rh_bnd (rh_u1 h)]
  rfl
theorem rh_rs2 {C : ByteArray} {i x y : Nat} (h : rh_bt C i = some x) (h2 : rh_bt C (i + 1) = some y) : (ClassFile.Reader.s2 : rhRd Int) C i = .ok (ClassFile.Reader.signed 16 (x * 256 + y), i + 2) := by
  show (do let a ← (ClassFile.Reader.u2 : rhRd Nat); Pure.pure (ClassFile.Reader.signed 16 a) : rhRd Int) C i = _
  rw [rh_bnd (rh_u2 h h2)]
  rfl
theorem rh_sg8 {v : Int} (h : -128 ≤ v ∧ v < 128) : ClassFile.Reader.signed 8 (v % 256).toNat = v := by
  unfold ClassFile.Reader.signed
  split
  · rename_i h2
    have h3 : (v % 256).toNat < 128 := h2
    omega
  · rename_i h2
    have h3 : ¬ (v % 256).toNat < 128 := h2
    show ((v % 256).toNat : Int) - ((256 : Nat) : Int) = v
    omega
theorem rh_sg16 {v : Int} (h : -32768 ≤ v ∧ v < 32768) : ClassFile.Reader.signed 16 ((v % 65536).toNat / 256 * 256 + (v % 65536).toNat % 256) = v := by
  rw [show (v % 65536).toNat / 256 * 256 + (v % 65536).toNat % 256 = (v % 65536).toNat by omega]
  unfold ClassFile.Reader.signed
  split
  · rename_i h2
    have h3 : (v % 65536).toNat < 32768 := h2
    omega
  · rename_i h2
    have h3 : ¬ (v % 65536).toNat < 32768 := h2
    show ((v % 65536).toNat : Int) - ((65536 : Nat) : Int) = v
    omega
variable {C : ByteArray} {pc : Nat}
theorem dc1 (h0 : rh_bt C pc = some 1) : decode C pc = .ok (.aconst_null, 1) := rh_dec h0 rfl rfl
theorem dc46 (h0 : rh_bt C pc = some 46) : decode C pc = .ok (.iaload, 1) := rh_dec h0 rfl rfl
theorem dc47 (h0 : rh_bt C pc = some 47) : decode C pc = .ok (.laload, 1) := rh_dec h0 rfl rfl
theorem dc50 (h0 : rh_bt C pc = some 50) : decode C pc = .ok (.aaload, 1) := rh_dec h0 rfl rfl
theorem dc51 (h0 : rh_bt C pc = some 51) : decode C pc = .ok (.baload, 1) := rh_dec h0 rfl rfl
theorem dc79 (h0 : rh_bt C pc = some 79) : decode C pc = .ok (.iastore, 1) := rh_dec h0 rfl rfl
theorem dc80 (h0 : rh_bt C pc = some 80) : decode C pc = .ok (.lastore, 1) := rh_dec h0 rfl rfl
theorem dc83 (h0 : rh_bt C pc = some 83) : decode C pc = .ok (.aastore, 1) := rh_dec h0 rfl rfl
theorem dc84 (h0 : rh_bt C pc = some 84) : decode C pc = .ok (.bastore, 1) := rh_dec h0 rfl rfl
theorem dc87 (h0 : rh_bt C pc = some 87) : decode C pc = .ok (.pop, 1) := rh_dec h0 rfl rfl
theorem dc88 (h0 : rh_bt C pc = some 88) : decode C pc = .ok (.pop2, 1) := rh_dec h0 rfl rfl
theorem dc89 (h0 : rh_bt C pc = some 89) : decode C pc = .ok (.dup, 1) := rh_dec h0 rfl rfl
theorem dc90 (h0 : rh_bt C pc = some 90) : decode C pc = .ok (.dup_x1, 1) := rh_dec h0 rfl rfl
theorem dc91 (h0 : rh_bt C pc = some 91) : decode C pc = .ok (.dup_x2, 1) := rh_dec h0 rfl rfl
theorem dc92 (h0 : rh_bt C pc = some 92) : decode C pc = .ok (.dup2, 1) := rh_dec h0 rfl rfl
theorem dc96 (h0 : rh_bt C pc = some 96) : decode C pc = .ok (.iadd, 1) := rh_dec h0 rfl rfl
theorem dc97 (h0 : rh_bt C pc = some 97) : decode C pc = .ok (.ladd, 1) := rh_dec h0 rfl rfl
theorem dc100 (h0 : rh_bt C pc = some 100) : decode C pc = .ok (.isub, 1) := rh_dec h0 rfl rfl
theorem dc101 (h0 : rh_bt C pc = some 101) : decode C pc = .ok (.lsub, 1) := rh_dec h0 rfl rfl
theorem dc104 (h0 : rh_bt C pc = some 104) : decode C pc = .ok (.imul, 1) := rh_dec h0 rfl rfl
theorem dc105 (h0 : rh_bt C pc = some 105) : decode C pc = .ok (.lmul, 1) := rh_dec h0 rfl rfl
theorem dc108 (h0 : rh_bt C pc = some 108) : decode C pc = .ok (.idiv, 1) := rh_dec h0 rfl rfl
theorem dc109 (h0 : rh_bt C pc = some 109) : decode C pc = .ok (.ldiv, 1) := rh_dec h0 rfl rfl
theorem dc112 (h0 : rh_bt C pc = some 112) : decode C pc = .ok (.irem, 1) := rh_dec h0 rfl rfl
theorem dc113 (h0 : rh_bt C pc = some 113) : decode C pc = .ok (.lrem, 1) := rh_dec h0 rfl rfl
theorem dc116 (h0 : rh_bt C pc = some 116) : decode C pc = .ok (.ineg, 1) := rh_dec h0 rfl rfl
theorem dc120 (h0 : rh_bt C pc = some 120) : decode C pc = .ok (.ishl, 1) := rh_dec h0 rfl rfl
theorem dc121 (h0 : rh_bt C pc = some 121) : decode C pc = .ok (.lshl, 1) := rh_dec h0 rfl rfl
theorem dc122 (h0 : rh_bt C pc = some 122) : decode C pc = .ok (.ishr, 1) := rh_dec h0 rfl rfl
theorem dc123 (h0 : rh_bt C pc = some 123) : decode C pc = .ok (.lshr, 1) := rh_dec h0 rfl rfl
theorem dc125 (h0 : rh_bt C pc = some 125) : decode C pc = .ok (.lushr, 1) := rh_dec h0 rfl rfl
theorem dc126 (h0 : rh_bt C pc = some 126) : decode C pc = .ok (.iand, 1) := rh_dec h0 rfl rfl
theorem dc127 (h0 : rh_bt C pc = some 127) : decode C pc = .ok (.land, 1) := rh_dec h0 rfl rfl
theorem dc128 (h0 : rh_bt C pc = some 128) : decode C pc = .ok (.ior, 1) := rh_dec h0 rfl rfl
theorem dc129 (h0 : rh_bt C pc = some 129) : decode C pc = .ok (.lor, 1) := rh_dec h0 rfl rfl
theorem dc130 (h0 : rh_bt C pc = some 130) : decode C pc = .ok (.ixor, 1) := rh_dec h0 rfl rfl
theorem dc131 (h0 : rh_bt C pc = some 131) : decode C pc = .ok (.lxor, 1) := rh_dec h0 rfl rfl
theorem dc133 (h0 : rh_bt C pc = some 133) : decode C pc = .ok (.i2l, 1) := rh_dec h0 rfl rfl
theorem dc136 (h0 : rh_bt C pc = some 136) : decode C pc = .ok (.l2i, 1) := rh_dec h0 rfl rfl
theorem dc145 (h0 : rh_bt C pc = some 145) : decode C pc = .ok (.i2b, 1) := rh_dec h0 rfl rfl
theorem dc148 (h0 : rh_bt C pc = some 148) : decode C pc = .ok (.lcmp, 1) := rh_dec h0 rfl rfl
theorem dc172 (h0 : rh_bt C pc = some 172) : decode C pc = .ok (.ireturn, 1) := rh_dec h0 rfl rfl
theorem dc173 (h0 : rh_bt C pc = some 173) : decode C pc = .ok (.lreturn, 1) := rh_dec h0 rfl rfl
theorem dc176 (h0 : rh_bt C pc = some 176) : decode C pc = .ok (.areturn, 1) := rh_dec h0 rfl rfl
theorem dc177 (h0 : rh_bt C pc = some 177) : decode C pc = .ok (.return_, 1) := rh_dec h0 rfl rfl
theorem dc190 (h0 : rh_bt C pc = some 190) : decode C pc = .ok (.arraylength, 1) := rh_dec h0 rfl rfl
theorem dc191 (h0 : rh_bt C pc = some 191) : decode C pc = .ok (.athrow, 1) := rh_dec h0 rfl rfl
theorem dc26 (h0 : rh_bt C pc = some 26) : decode C pc = .ok (.iload_n 0, 1) := rh_dec h0 rfl rfl
theorem dc27 (h0 : rh_bt C pc = some 27) : decode C pc = .ok (.iload_n 1, 1) := rh_dec h0 rfl rfl
theorem dc28 (h0 : rh_bt C pc = some 28) : decode C pc = .ok (.iload_n 2, 1) := rh_dec h0 rfl rfl
theorem dc29 (h0 : rh_bt C pc = some 29) : decode C pc = .ok (.iload_n 3, 1) := rh_dec h0 rfl rfl
theorem dc30 (h0 : rh_bt C pc = some 30) : decode C pc = .ok (.lload_n 0, 1) := rh_dec h0 rfl rfl
theorem dc31 (h0 : rh_bt C pc = some 31) : decode C pc = .ok (.lload_n 1, 1) := rh_dec h0 rfl rfl
theorem dc32 (h0 : rh_bt C pc = some 32) : decode C pc = .ok (.lload_n 2, 1) := rh_dec h0 rfl rfl
theorem dc33 (h0 : rh_bt C pc = some 33) : decode C pc = .ok (.lload_n 3, 1) := rh_dec h0 rfl rfl
theorem dc42 (h0 : rh_bt C pc = some 42) : decode C pc = .ok (.aload_n 0, 1) := rh_dec h0 rfl rfl
theorem dc43 (h0 : rh_bt C pc = some 43) : decode C pc = .ok (.aload_n 1, 1) := rh_dec h0 rfl rfl
theorem dc44 (h0 : rh_bt C pc = some 44) : decode C pc = .ok (.aload_n 2, 1) := rh_dec h0 rfl rfl
theorem dc45 (h0 : rh_bt C pc = some 45) : decode C pc = .ok (.aload_n 3, 1) := rh_dec h0 rfl rfl
theorem dc59 (h0 : rh_bt C pc = some 59) : decode C pc = .ok (.istore_n 0, 1) := rh_dec h0 rfl rfl
theorem dc60 (h0 : rh_bt C pc = some 60) : decode C pc = .ok (.istore_n 1, 1) := rh_dec h0 rfl rfl
theorem dc61 (h0 : rh_bt C pc = some 61) : decode C pc = .ok (.istore_n 2, 1) := rh_dec h0 rfl rfl
theorem dc62 (h0 : rh_bt C pc = some 62) : decode C pc = .ok (.istore_n 3, 1) := rh_dec h0 rfl rfl
theorem dc63 (h0 : rh_bt C pc = some 63) : decode C pc = .ok (.lstore_n 0, 1) := rh_dec h0 rfl rfl
theorem dc64 (h0 : rh_bt C pc = some 64) : decode C pc = .ok (.lstore_n 1, 1) := rh_dec h0 rfl rfl
theorem dc65 (h0 : rh_bt C pc = some 65) : decode C pc = .ok (.lstore_n 2, 1) := rh_dec h0 rfl rfl
theorem dc66 (h0 : rh_bt C pc = some 66) : decode C pc = .ok (.lstore_n 3, 1) := rh_dec h0 rfl rfl
theorem dc75 (h0 : rh_bt C pc = some 75) : decode C pc = .ok (.astore_n 0, 1) := rh_dec h0 rfl rfl
theorem dc76 (h0 : rh_bt C pc = some 76) : decode C pc = .ok (.astore_n 1, 1) := rh_dec h0 rfl rfl
theorem dc77 (h0 : rh_bt C pc = some 77) : decode C pc = .ok (.astore_n 2, 1) := rh_dec h0 rfl rfl
theorem dc78 (h0 : rh_bt C pc = some 78) : decode C pc = .ok (.astore_n 3, 1) := rh_dec h0 rfl rfl
theorem dc9 (h0 : rh_bt C pc = some 9) : decode C pc = .ok (.lconst 0, 1) := rh_dec h0 rfl rfl
theorem dc10 (h0 : rh_bt C pc = some 10) : decode C pc = .ok (.lconst 1, 1) := rh_dec h0 rfl rfl
theorem dc2 (h0 : rh_bt C pc = some 2) : decode C pc = .ok (.iconst (.negSucc 0), 1) := rh_dec h0 rfl rfl
theorem dc3 (h0 : rh_bt C pc = some 3) : decode C pc = .ok (.iconst (.ofNat 0), 1) := rh_dec h0 rfl rfl
theorem dc4 (h0 : rh_bt C pc = some 4) : decode C pc = .ok (.iconst (.ofNat 1), 1) := rh_dec h0 rfl rfl
theorem dc5 (h0 : rh_bt C pc = some 5) : decode C pc = .ok (.iconst (.ofNat 2), 1) := rh_dec h0 rfl rfl
theorem dc6 (h0 : rh_bt C pc = some 6) : decode C pc = .ok (.iconst (.ofNat 3), 1) := rh_dec h0 rfl rfl
theorem dc7 (h0 : rh_bt C pc = some 7) : decode C pc = .ok (.iconst (.ofNat 4), 1) := rh_dec h0 rfl rfl
theorem dc8 (h0 : rh_bt C pc = some 8) : decode C pc = .ok (.iconst (.ofNat 5), 1) := rh_dec h0 rfl rfl
theorem dc18 {x : Nat} (h0 : rh_bt C pc = some 18) (h1 : rh_bt C (pc + 1) = some x) : decode C pc = .ok (.ldc x, 2) := rh_dec h0 rfl ((rh_bnd (rh_u1 h1)).trans rfl)
theorem dc21 {x : Nat} (h0 : rh_bt C pc = some 21) (h1 : rh_bt C (pc + 1) = some x) : decode C pc = .ok (.iload x, 2) := rh_dec h0 rfl ((rh_bnd (rh_u1 h1)).trans rfl)
theorem dc22 {x : Nat} (h0 : rh_bt C pc = some 22) (h1 : rh_bt C (pc + 1) = some x) : decode C pc = .ok (.lload x, 2) := rh_dec h0 rfl ((rh_bnd (rh_u1 h1)).trans rfl)
theorem dc25 {x : Nat} (h0 : rh_bt C pc = some 25) (h1 : rh_bt C (pc + 1) = some x) : decode C pc = .ok (.aload x, 2) := rh_dec h0 rfl ((rh_bnd (rh_u1 h1)).trans rfl)
theorem dc54 {x : Nat} (h0 : rh_bt C pc = some 54) (h1 : rh_bt C (pc + 1) = some x) : decode C pc = .ok (.istore x, 2) := rh_dec h0 rfl ((rh_bnd (rh_u1 h1)).trans rfl)
theorem dc55 {x : Nat} (h0 : rh_bt C pc = some 55) (h1 : rh_bt C (pc + 1) = some x) : decode C pc = .ok (.lstore x, 2) := rh_dec h0 rfl ((rh_bnd (rh_u1 h1)).trans rfl)
theorem dc58 {x : Nat} (h0 : rh_bt C pc = some 58) (h1 : rh_bt C (pc + 1) = some x) : decode C pc = .ok (.astore x, 2) := rh_dec h0 rfl ((rh_bnd (rh_u1 h1)).trans rfl)
theorem dc19 {x y : Nat} (h0 : rh_bt C pc = some 19) (h1 : rh_bt C (pc + 1) = some x) (h2 : rh_bt C (pc + 1 + 1) = some y) : decode C pc = .ok (.ldc_w (x * 256 + y), 3) := rh_dec h0 rfl ((rh_bnd (rh_u2 h1 h2)).trans rfl)
theorem dc20 {x y : Nat} (h0 : rh_bt C pc = some 20) (h1 : rh_bt C (pc + 1) = some x) (h2 : rh_bt C (pc + 1 + 1) = some y) : decode C pc = .ok (.ldc2_w (x * 256 + y), 3) := rh_dec h0 rfl ((rh_bnd (rh_u2 h1 h2)).trans rfl)
theorem dc178 {x y : Nat} (h0 : rh_bt C pc = some 178) (h1 : rh_bt C (pc + 1) = some x) (h2 : rh_bt C (pc + 1 + 1) = some y) : decode C pc = .ok (.getstatic (x * 256 + y), 3) := rh_dec h0 rfl ((rh_bnd (rh_u2 h1 h2)).trans rfl)
theorem dc179 {x y : Nat} (h0 : rh_bt C pc = some 179) (h1 : rh_bt C (pc + 1) = some x) (h2 : rh_bt C (pc + 1 + 1) = some y) : decode C pc = .ok (.putstatic (x * 256 + y), 3) := rh_dec h0 rfl ((rh_bnd (rh_u2 h1 h2)).trans rfl)
theorem dc180 {x y : Nat} (h0 : rh_bt C pc = some 180) (h1 : rh_bt C (pc + 1) = some x) (h2 : rh_bt C (pc + 1 + 1) = some y) : decode C pc = .ok (.getfield (x * 256 + y), 3) := rh_dec h0 rfl ((rh_bnd (rh_u2 h1 h2)).trans rfl)
theorem dc181 {x y : Nat} (h0 : rh_bt C pc = some 181) (h1 : rh_bt C (pc + 1) = some x) (h2 : rh_bt C (pc + 1 + 1) = some y) : decode C pc = .ok (.putfield (x * 256 + y), 3) := rh_dec h0 rfl ((rh_bnd (rh_u2 h1 h2)).trans rfl)
theorem dc182 {x y : Nat} (h0 : rh_bt C pc = some 182) (h1 : rh_bt C (pc + 1) = some x) (h2 : rh_bt C (pc + 1 + 1) = some y) : decode C pc = .ok (.invokevirtual (x * 256 + y), 3) := rh_dec h0 rfl ((rh_bnd (rh_u2 h1 h2)).trans rfl)
theorem dc183 {x y : Nat} (h0 : rh_bt C pc = some 183) (h1 : rh_bt C (pc + 1) = some x) (h2 : rh_bt C (pc + 1 + 1) = some y) : decode C pc = .ok (.invokespecial (x * 256 + y), 3) := rh_dec h0 rfl ((rh_bnd (rh_u2 h1 h2)).trans rfl)
theorem dc184 {x y : Nat} (h0 : rh_bt C pc = some 184) (h1 : rh_bt C (pc + 1) = some x) (h2 : rh_bt C (pc + 1 + 1) = some y) : decode C pc = .ok (.invokestatic (x * 256 + y), 3) := rh_dec h0 rfl ((rh_bnd (rh_u2 h1 h2)).trans rfl)
theorem dc187 {x y : Nat} (h0 : rh_bt C pc = some 187) (h1 : rh_bt C (pc + 1) = some x) (h2 : rh_bt C (pc + 1 + 1) = some y) : decode C pc = .ok (.new (x * 256 + y), 3) := rh_dec h0 rfl ((rh_bnd (rh_u2 h1 h2)).trans rfl)
theorem dc189 {x y : Nat} (h0 : rh_bt C pc = some 189) (h1 : rh_bt C (pc + 1) = some x) (h2 : rh_bt C (pc + 1 + 1) = some y) : decode C pc = .ok (.anewarray (x * 256 + y), 3) := rh_dec h0 rfl ((rh_bnd (rh_u2 h1 h2)).trans rfl)
theorem dc17 {x y : Nat} (h0 : rh_bt C pc = some 17) (h1 : rh_bt C (pc + 1) = some x) (h2 : rh_bt C (pc + 1 + 1) = some y) : decode C pc = .ok (.sipush (ClassFile.Reader.signed 16 (x * 256 + y)), 3) := rh_dec h0 rfl ((rh_bnd (rh_rs2 h1 h2)).trans rfl)
theorem dc167 {x y : Nat} (h0 : rh_bt C pc = some 167) (h1 : rh_bt C (pc + 1) = some x) (h2 : rh_bt C (pc + 1 + 1) = some y) : decode C pc = .ok (.goto (ClassFile.Reader.signed 16 (x * 256 + y)), 3) := rh_dec h0 rfl ((rh_bnd (rh_rs2 h1 h2)).trans rfl)
theorem dc153 {x y : Nat} (h0 : rh_bt C pc = some 153) (h1 : rh_bt C (pc + 1) = some x) (h2 : rh_bt C (pc + 1 + 1) = some y) : decode C pc = .ok (.ifCond .eq (ClassFile.Reader.signed 16 (x * 256 + y)), 3) := rh_dec h0 rfl ((rh_bnd (rh_rs2 h1 h2)).trans rfl)
theorem dc159 {x y : Nat} (h0 : rh_bt C pc = some 159) (h1 : rh_bt C (pc + 1) = some x) (h2 : rh_bt C (pc + 1 + 1) = some y) : decode C pc = .ok (.if_icmp .eq (ClassFile.Reader.signed 16 (x * 256 + y)), 3) := rh_dec h0 rfl ((rh_bnd (rh_rs2 h1 h2)).trans rfl)
theorem dc154 {x y : Nat} (h0 : rh_bt C pc = some 154) (h1 : rh_bt C (pc + 1) = some x) (h2 : rh_bt C (pc + 1 + 1) = some y) : decode C pc = .ok (.ifCond .ne (ClassFile.Reader.signed 16 (x * 256 + y)), 3) := rh_dec h0 rfl ((rh_bnd (rh_rs2 h1 h2)).trans rfl)
theorem dc160 {x y : Nat} (h0 : rh_bt C pc = some 160) (h1 : rh_bt C (pc + 1) = some x) (h2 : rh_bt C (pc + 1 + 1) = some y) : decode C pc = .ok (.if_icmp .ne (ClassFile.Reader.signed 16 (x * 256 + y)), 3) := rh_dec h0 rfl ((rh_bnd (rh_rs2 h1 h2)).trans rfl)
theorem dc155 {x y : Nat} (h0 : rh_bt C pc = some 155) (h1 : rh_bt C (pc + 1) = some x) (h2 : rh_bt C (pc + 1 + 1) = some y) : decode C pc = .ok (.ifCond .lt (ClassFile.Reader.signed 16 (x * 256 + y)), 3) := rh_dec h0 rfl ((rh_bnd (rh_rs2 h1 h2)).trans rfl)
theorem dc161 {x y : Nat} (h0 : rh_bt C pc = some 161) (h1 : rh_bt C (pc + 1) = some x) (h2 : rh_bt C (pc + 1 + 1) = some y) : decode C pc = .ok (.if_icmp .lt (ClassFile.Reader.signed 16 (x * 256 + y)), 3) := rh_dec h0 rfl ((rh_bnd (rh_rs2 h1 h2)).trans rfl)
theorem dc156 {x y : Nat} (h0 : rh_bt C pc = some 156) (h1 : rh_bt C (pc + 1) = some x) (h2 : rh_bt C (pc + 1 + 1) = some y) : decode C pc = .ok (.ifCond .ge (ClassFile.Reader.signed 16 (x * 256 + y)), 3) := rh_dec h0 rfl ((rh_bnd (rh_rs2 h1 h2)).trans rfl)
theorem dc162 {x y : Nat} (h0 : rh_bt C pc = some 162) (h1 : rh_bt C (pc + 1) = some x) (h2 : rh_bt C (pc + 1 + 1) = some y) : decode C pc = .ok (.if_icmp .ge (ClassFile.Reader.signed 16 (x * 256 + y)), 3) := rh_dec h0 rfl ((rh_bnd (rh_rs2 h1 h2)).trans rfl)
theorem dc157 {x y : Nat} (h0 : rh_bt C pc = some 157) (h1 : rh_bt C (pc + 1) = some x) (h2 : rh_bt C (pc + 1 + 1) = some y) : decode C pc = .ok (.ifCond .gt (ClassFile.Reader.signed 16 (x * 256 + y)), 3) := rh_dec h0 rfl ((rh_bnd (rh_rs2 h1 h2)).trans rfl)
theorem dc163 {x y : Nat} (h0 : rh_bt C pc = some 163) (h1 : rh_bt C (pc + 1) = some x) (h2 : rh_bt C (pc + 1 + 1) = some y) : decode C pc = .ok (.if_icmp .gt (ClassFile.Reader.signed 16 (x * 256 + y)), 3) := rh_dec h0 rfl ((rh_bnd (rh_rs2 h1 h2)).trans rfl)
theorem dc158 {x y : Nat} (h0 : rh_bt C pc = some 158) (h1 : rh_bt C (pc + 1) = some x) (h2 : rh_bt C (pc + 1 + 1) = some y) : decode C pc = .ok (.ifCond .le (ClassFile.Reader.signed 16 (x * 256 + y)), 3) := rh_dec h0 rfl ((rh_bnd (rh_rs2 h1 h2)).trans rfl)
theorem dc164 {x y : Nat} (h0 : rh_bt C pc = some 164) (h1 : rh_bt C (pc + 1) = some x) (h2 : rh_bt C (pc + 1 + 1) = some y) : decode C pc = .ok (.if_icmp .le (ClassFile.Reader.signed 16 (x * 256 + y)), 3) := rh_dec h0 rfl ((rh_bnd (rh_rs2 h1 h2)).trans rfl)
theorem dc16 {x : Nat} (h0 : rh_bt C pc = some 16) (h1 : rh_bt C (pc + 1) = some x) : decode C pc = .ok (.bipush (ClassFile.Reader.signed 8 x), 2) := rh_dec h0 rfl ((rh_bnd (rh_rs1 h1)).trans rfl)
theorem dc132 {x y : Nat} (h0 : rh_bt C pc = some 132) (h1 : rh_bt C (pc + 1) = some x) (h2 : rh_bt C (pc + 1 + 1) = some y) : decode C pc = .ok (.iinc x (ClassFile.Reader.signed 8 y), 3) := rh_dec h0 rfl (((rh_bnd (rh_u1 h1)).trans (rh_bnd (rh_rs1 h2))).trans rfl)
/-- the bytes of an instruction -/
def rh_enc (i : Instr) : List Nat := match i with
  | .aconst_null => [1]
  | .iaload => [46]
  | .laload => [47]
  | .aaload => [50]
  | .baload => [51]
  | .iastore => [79]
  | .lastore => [80]
  | .aastore => [83]
  | .bastore => [84]
  | .pop => [87]
  | .pop2 => [88]
  | .dup => [89]
  | .dup_x1 => [90]
  | .dup_x2 => [91]
  | .dup2 => [92]
  | .iadd => [96]
  | .ladd => [97]
  | .isub => [100]
  | .lsub => [101]
  | .imul => [104]
  | .lmul => [105]
  | .idiv => [108]
  | .ldiv => [109]
  | .irem => [112]
  | .lrem => [113]
  | .ineg => [116]
  | .ishl => [120]
  | .lshl => [121]
  | .ishr => [122]
  | .lshr => [123]
  | .lushr => [125]
  | .iand => [126]
  | .land => [127]
  | .ior => [128]
  | .lor => [129]
  | .ixor => [130]
  | .lxor => [131]
  | .i2l => [133]
  | .l2i => [136]
  | .i2b => [145]
  | .lcmp => [148]
  | .ireturn => [172]
  | .lreturn => [173]
  | .areturn => [176]
  | .return_ => [177]
  | .arraylength => [190]
  | .athrow => [191]
  | .iload_n 0 => [26]
  | .iload_n 1 => [27]
  | .iload_n 2 => [28]
  | .iload_n 3 => [29]
  | .lload_n 0 => [30]
  | .lload_n 1 => [31]
  | .lload_n 2 => [32]
  | .lload_n 3 => [33]
  | .aload_n 0 => [42]
  | .aload_n 1 => [43]
  | .aload_n 2 => [44]
  | .aload_n 3 => [45]
  | .istore_n 0 => [59]
  | .istore_n 1 => [60]
  | .istore_n 2 => [61]
  | .istore_n 3 => [62]
  | .lstore_n 0 => [63]
  | .lstore_n 1 => [64]
  | .lstore_n 2 => [65]
  | .lstore_n 3 => [66]
  | .astore_n 0 => [75]
  | .astore_n 1 => [76]
  | .astore_n 2 => [77]
  | .astore_n 3 => [78]
  | .lconst 0 => [9]
  | .lconst 1 => [10]
  | .iconst (.negSucc 0) => [2]
  | .iconst (.ofNat 0) => [3]
  | .iconst (.ofNat 1) => [4]
  | .iconst (.ofNat 2) => [5]
  | .iconst (.ofNat 3) => [6]
  | .iconst (.ofNat 4) => [7]
  | .iconst (.ofNat 5) => [8]
  | .ldc x => [18, x]
  | .iload x => [21, x]
  | .lload x => [22, x]
  | .aload x => [25, x]
  | .istore x => [54, x]
  | .lstore x => [55, x]
  | .astore x => [58, x]
  | .ldc_w x => [19, x / 256, x % 256]
  | .ldc2_w x => [20, x / 256, x % 256]
  | .getstatic x => [178, x / 256, x % 256]
  | .putstatic x => [179, x / 256, x % 256]
  | .getfield x => [180, x / 256, x % 256]
  | .putfield x => [181, x / 256, x % 256]
  | .invokevirtual x => [182, x / 256, x % 256]
  | .invokespecial x => [183, x / 256, x % 256]
  | .invokestatic x => [184, x / 256, x % 256]
  | .new x => [187, x / 256, x % 256]
  | .anewarray x => [189, x / 256, x % 256]
  | .sipush v => cond (decide (-32768 ≤ v) && decide (v < 32768)) [17, (v % 65536).toNat / 256, (v % 65536).toNat % 256] []
  | .goto v => cond (decide (-32768 ≤ v) && decide (v < 32768)) [167, (v % 65536).toNat / 256, (v % 65536).toNat % 256] []
  | .ifCond .eq v => cond (decide (-32768 ≤ v) && decide (v < 32768)) [153, (v % 65536).toNat / 256, (v % 65536).toNat % 256] []
  | .if_icmp .eq v => cond (decide (-32768 ≤ v) && decide (v < 32768)) [159, (v % 65536).toNat / 256, (v % 65536).toNat % 256] []
  | .ifCond .ne v => cond (decide (-32768 ≤ v) && decide (v < 32768)) [154, (v % 65536).toNat / 256, (v % 65536).toNat % 256] []
  | .if_icmp .ne v => cond (decide (-32768 ≤ v) && decide (v < 32768)) [160, (v % 65536).toNat / 256, (v % 65536).toNat % 256] []
  | .ifCond .lt v => cond (decide (-32768 ≤ v) && decide (v < 32768)) [155, (v % 65536).toNat / 256, (v % 65536).toNat % 256] []
  | .if_icmp .lt v => cond (decide (-32768 ≤ v) && decide (v < 32768)) [161, (v % 65536).toNat / 256, (v % 65536).toNat % 256] []
  | .ifCond .ge v => cond (decide (-32768 ≤ v) && decide (v < 32768)) [156, (v % 65536).toNat / 256, (v % 65536).toNat % 256] []
  | .if_icmp .ge v => cond (decide (-32768 ≤ v) && decide (v < 32768)) [162, (v % 65536).toNat / 256, (v % 65536).toNat % 256] []
  | .ifCond .gt v => cond (decide (-32768 ≤ v) && decide (v < 32768)) [157, (v % 65536).toNat / 256, (v % 65536).toNat % 256] []
  | .if_icmp .gt v => cond (decide (-32768 ≤ v) && decide (v < 32768)) [163, (v % 65536).toNat / 256, (v % 65536).toNat % 256] []
  | .ifCond .le v => cond (decide (-32768 ≤ v) && decide (v < 32768)) [158, (v % 65536).toNat / 256, (v % 65536).toNat % 256] []
  | .if_icmp .le v => cond (decide (-32768 ≤ v) && decide (v < 32768)) [164, (v % 65536).toNat / 256, (v % 65536).toNat % 256] []
  | .bipush v => cond (decide (-128 ≤ v) && decide (v < 128)) [16, (v % 256).toNat] []
  | .iinc x v => cond (decide (-128 ≤ v) && decide (v < 128)) [132, x, (v % 256).toNat] []
  | _ => []
def rh_mt (C : ByteArray) (pc : Nat) (l : List Nat) : Prop := ∀ (k b : Nat), l[k]? = some b → rh_bt C (pc + k) = some b
theorem rh_enc_ok {i : Instr} {l : List Nat} (hl : rh_enc i = l) (hn : l ≠ []) (hm : rh_mt C pc l) : decode C pc = .ok (i, l.length) := by
  unfold rh_enc at hl
  split at hl
  · subst hl; exact dc1 (hm 0 _ rfl)
  · subst hl; exact dc46 (hm 0 _ rfl)
  · subst hl; exact dc47 (hm 0 _ rfl)
  · subst hl; exact dc50 (hm 0 _ rfl)
  · subst hl; exact dc51 (hm 0 _ rfl)
  · subst hl; exact dc79 (hm 0 _ rfl)
  · subst hl; exact dc80 (hm 0 _ rfl)
  · subst hl; exact dc83 (hm 0 _ rfl)
  · subst hl; exact dc84 (hm 0 _ rfl)
  · subst hl; exact dc87 (hm 0 _ rfl)
  · subst hl; exact dc88 (hm 0 _ rfl)
  · subst hl; exact dc89 (hm 0 _ rfl)
  · subst hl; exact dc90 (hm 0 _ rfl)
  · subst hl; exact dc91 (hm 0 _ rfl)
  · subst hl; exact dc92 (hm 0 _ rfl)
  · subst hl; exact dc96 (hm 0 _ rfl)
  · subst hl; exact dc97 (hm 0 _ rfl)
  · subst hl; exact dc100 (hm 0 _ rfl)
  · subst hl; exact dc101 (hm 0 _ rfl)
  · subst hl; exact dc104 (hm 0 _ rfl)
  · subst hl; exact dc105 (hm 0 _ rfl)
  · subst hl; exact dc108 (hm 0 _ rfl)
  · subst hl; exact dc109 (hm 0 _ rfl)
  · subst hl; exact dc112 (hm 0 _ rfl)
  · subst hl; exact dc113 (hm 0 _ rfl)
  · subst hl; exact dc116 (hm 0 _ rfl)
  · subst hl; exact dc120 (hm 0 _ rfl)
  · subst hl; exact dc121 (hm 0 _ rfl)
  · subst hl; exact dc122 (hm 0 _ rfl)
  · subst hl; exact dc123 (hm 0 _ rfl)
  · subst hl; exact dc125 (hm 0 _ rfl)
  · subst hl; exact dc126 (hm 0 _ rfl)
  · subst hl; exact dc127 (hm 0 _ rfl)
  · subst hl; exact dc128 (hm 0 _ rfl)
  · subst hl; exact dc129 (hm 0 _ rfl)
  · subst hl; exact dc130 (hm 0 _ rfl)
  · subst hl; exact dc131 (hm 0 _ rfl)
  · subst hl; exact dc133 (hm 0 _ rfl)
  · subst hl; exact dc136 (hm 0 _ rfl)
  · subst hl; exact dc145 (hm 0 _ rfl)
  · subst hl; exact dc148 (hm 0 _ rfl)
  · subst hl; exact dc172 (hm 0 _ rfl)
  · subst hl; exact dc173 (hm 0 _ rfl)
  · subst hl; exact dc176 (hm 0 _ rfl)
  · subst hl; exact dc177 (hm 0 _ rfl)
  · subst hl; exact dc190 (hm 0 _ rfl)
  · subst hl; exact dc191 (hm 0 _ rfl)
  · subst hl; exact dc26 (hm 0 _ rfl)
  · subst hl; exact dc27 (hm 0 _ rfl)
  · subst hl; exact dc28 (hm 0 _ rfl)
  · subst hl; exact dc29 (hm 0 _ rfl)
  · subst hl; exact dc30 (hm 0 _ rfl)
  · subst hl; exact dc31 (hm 0 _ rfl)
  · subst hl; exact dc32 (hm 0 _ rfl)
  · subst hl; exact dc33 (hm 0 _ rfl)
  · subst hl; exact dc42 (hm 0 _ rfl)
  · subst hl; exact dc43 (hm 0 _ rfl)
  · subst hl; exact dc44 (hm 0 _ rfl)
  · subst hl; exact dc45 (hm 0 _ rfl)
  · subst hl; exact dc59 (hm 0 _ rfl)
  · subst hl; exact dc60 (hm 0 _ rfl)
  · subst hl; exact dc61 (hm 0 _ rfl)
  · subst hl; exact dc62 (hm 0 _ rfl)
  · subst hl; exact dc63 (hm 0 _ rfl)
  · subst hl; exact dc64 (hm 0 _ rfl)
  · subst hl; exact dc65 (hm 0 _ rfl)
  · subst hl; exact dc66 (hm 0 _ rfl)
  · subst hl; exact dc75 (hm 0 _ rfl)
  · subst hl; exact dc76 (hm 0 _ rfl)
  · subst hl; exact dc77 (hm 0 _ rfl)
  · subst hl; exact dc78 (hm 0 _ rfl)
  · subst hl; exact dc9 (hm 0 _ rfl)
  · subst hl; exact dc10 (hm 0 _ rfl)
  · subst hl; exact dc2 (hm 0 _ rfl)
  · subst hl; exact dc3 (hm 0 _ rfl)
  · subst hl; exact dc4 (hm 0 _ rfl)
  · subst hl; exact dc5 (hm 0 _ rfl)
  · subst hl; exact dc6 (hm 0 _ rfl)
  · subst hl; exact dc7 (hm 0 _ rfl)
  · subst hl; exact dc8 (hm 0 _ rfl)
  · subst hl; exact dc18 (hm 0 _ rfl) (hm 1 _ rfl)
  · subst hl; exact dc21 (hm 0 _ rfl) (hm 1 _ rfl)
  · subst hl; exact dc22 (hm 0 _ rfl) (hm 1 _ rfl)
  · subst hl; exact dc25 (hm 0 _ rfl) (hm 1 _ rfl)
  · subst hl; exact dc54 (hm 0 _ rfl) (hm 1 _ rfl)
  · subst hl; exact dc55 (hm 0 _ rfl) (hm 1 _ rfl)
  · subst hl; exact dc58 (hm 0 _ rfl) (hm 1 _ rfl)
  · rename_i x
    subst hl
    have h := dc19 (hm 0 _ rfl) (hm 1 _ rfl) (hm 2 _ rfl)
    rw [show x / 256 * 256 + x % 256 = x by omega] at h
    exact h
  · rename_i x
    subst hl
    have h := dc20 (hm 0 _ rfl) (hm 1 _ rfl) (hm 2 _ rfl)
    rw [show x / 256 * 256 + x % 256 = x by omega] at h
    exact h
  · rename_i x
    subst hl
    have h := dc178 (hm 0 _ rfl) (hm 1 _ rfl) (hm 2 _ rfl)
    rw [show x / 256 * 256 + x % 256 = x by omega] at h
    exact h
  · rename_i x
    subst hl
    have h := dc179 (hm 0 _ rfl) (hm 1 _ rfl) (hm 2 _ rfl)
    rw [show x / 256 * 256 + x % 256 = x by omega] at h
    exact h
  · rename_i x
    subst hl
    have h := dc180 (hm 0 _ rfl) (hm 1 _ rfl) (hm 2 _ rfl)
    rw [show x / 256 * 256 + x % 256 = x by omega] at h
    exact h
  · rename_i x
    subst hl
    have h := dc181 (hm 0 _ rfl) (hm 1 _ rfl) (hm 2 _ rfl)
    rw [show x / 256 * 256 + x % 256 = x by omega] at h
    exact h
  · rename_i x
    subst hl
    have h := dc182 (hm 0 _ rfl) (hm 1 _ rfl) (hm 2 _ rfl)
    rw [show x / 256 * 256 + x % 256 = x by omega] at h
    exact h
  · rename_i x
    subst hl
    have h := dc183 (hm 0 _ rfl) (hm 1 _ rfl) (hm 2 _ rfl)
    rw [show x / 256 * 256 + x % 256 = x by omega] at h
    exact h
  · rename_i x
    subst hl
    have h := dc184 (hm 0 _ rfl) (hm 1 _ rfl) (hm 2 _ rfl)
    rw [show x / 256 * 256 + x % 256 = x by omega] at h
    exact h
  · rename_i x
    subst hl
    have h := dc187 (hm 0 _ rfl) (hm 1 _ rfl) (hm 2 _ rfl)
    rw [show x / 256 * 256 + x % 256 = x by omega] at h
    exact h
  · rename_i x
    subst hl
    have h := dc189 (hm 0 _ rfl) (hm 1 _ rfl) (hm 2 _ rfl)
    rw [show x / 256 * 256 + x % 256 = x by omega] at h
    exact h
  · rename_i v
    cases hc : decide (-32768 ≤ v) && decide (v < 32768) with
    | false => rw [hc] at hl; exact absurd hl.symm hn
    | true =>
      rw [hc] at hl
      simp only [cond_true] at hl
      subst hl
      simp only [Bool.and_eq_true, decide_eq_true_eq] at hc
      have h := dc17 (hm 0 _ rfl) (hm 1 _ rfl) (hm 2 _ rfl)
      rw [rh_sg16 hc] at h
      exact h
  · rename_i v
    cases hc : decide (-32768 ≤ v) && decide (v < 32768) with
    | false => rw [hc] at hl; exact absurd hl.symm hn
    | true =>
      rw [hc] at hl
      simp only [cond_true] at hl
      subst hl
      simp only [Bool.and_eq_true, decide_eq_true_eq] at hc
      have h := dc167 (hm 0 _ rfl) (hm 1 _ rfl) (hm 2 _ rfl)
      rw [rh_sg16 hc] at h
      exact h
  · rename_i v
    cases hc : decide (-32768 ≤ v) && decide (v < 32768) with
    | false => rw [hc] at hl; exact absurd hl.symm hn
    | true =>
      rw [hc] at hl
      simp only [cond_true] at hl
      subst hl
      simp only [Bool.and_eq_true, decide_eq_true_eq] at hc
      have h := dc153 (hm 0 _ rfl) (hm 1 _ rfl) (hm 2 _ rfl)
      rw [rh_sg16 hc] at h
      exact h
  · rename_i v
    cases hc : decide (-32768 ≤ v) && decide (v < 32768) with
    | false => rw [hc] at hl; exact absurd hl.symm hn
    | true =>
      rw [hc] at hl
      simp only [cond_true] at hl
      subst hl
      simp only [Bool.and_eq_true, decide_eq_true_eq] at hc
      have h := dc159 (hm 0 _ rfl) (hm 1 _ rfl) (hm 2 _ rfl)
      rw [rh_sg16 hc] at h
      exact h
  · rename_i v
    cases hc : decide (-32768 ≤ v) && decide (v < 32768) with
    | false => rw [hc] at hl; exact absurd hl.symm hn
    | true =>
      rw [hc] at hl
      simp only [cond_true] at hl
      subst hl
      simp only [Bool.and_eq_true, decide_eq_true_eq] at hc
      have h := dc154 (hm 0 _ rfl) (hm 1 _ rfl) (hm 2 _ rfl)
      rw [rh_sg16 hc] at h
      exact h
  · rename_i v
    cases hc : decide (-32768 ≤ v) && decide (v < 32768) with
    | false => rw [hc] at hl; exact absurd hl.symm hn
    | true =>
      rw [hc] at hl
      simp only [cond_true] at hl
      subst hl
      simp only [Bool.and_eq_true, decide_eq_true_eq] at hc
      have h := dc160 (hm 0 _ rfl) (hm 1 _ rfl) (hm 2 _ rfl)
      rw [rh_sg16 hc] at h
      exact h
  · rename_i v
    cases hc : decide (-32768 ≤ v) && decide (v < 32768) with
    | false => rw [hc] at hl; exact absurd hl.symm hn
    | true =>
      rw [hc] at hl
      simp only [cond_true] at hl
      subst hl
      simp only [Bool.and_eq_true, decide_eq_true_eq] at hc
      have h := dc155 (hm 0 _ rfl) (hm 1 _ rfl) (hm 2 _ rfl)
      rw [rh_sg16 hc] at h
      exact h
  · rename_i v
    cases hc : decide (-32768 ≤ v) && decide (v < 32768) with
    | false => rw [hc] at hl; exact absurd hl.symm hn
    | true =>
      rw [hc] at hl
      simp only [cond_true] at hl
      subst hl
      simp only [Bool.and_eq_true, decide_eq_true_eq] at hc
      have h := dc161 (hm 0 _ rfl) (hm 1 _ rfl) (hm 2 _ rfl)
      rw [rh_sg16 hc] at h
      exact h
  · rename_i v
    cases hc : decide (-32768 ≤ v) && decide (v < 32768) with
    | false => rw [hc] at hl; exact absurd hl.symm hn
    | true =>
      rw [hc] at hl
      simp only [cond_true] at hl
      subst hl
      simp only [Bool.and_eq_true, decide_eq_true_eq] at hc
      have h := dc156 (hm 0 _ rfl) (hm 1 _ rfl) (hm 2 _ rfl)
      rw [rh_sg16 hc] at h
      exact h
  · rename_i v
    cases hc : decide (-32768 ≤ v) && decide (v < 32768) with
    | false => rw [hc] at hl; exact absurd hl.symm hn
    | true =>
      rw [hc] at hl
      simp only [cond_true] at hl
      subst hl
      simp only [Bool.and_eq_true, decide_eq_true_eq] at hc
      have h := dc162 (hm 0 _ rfl) (hm 1 _ rfl) (hm 2 _ rfl)
      rw [rh_sg16 hc] at h
      exact h
  · rename_i v
    cases hc : decide (-32768 ≤ v) && decide (v < 32768) with
    | false => rw [hc] at hl; exact absurd hl.symm hn
    | true =>
      rw [hc] at hl
      simp only [cond_true] at hl
      subst hl
      simp only [Bool.and_eq_true, decide_eq_true_eq] at hc
      have h := dc157 (hm 0 _ rfl) (hm 1 _ rfl) (hm 2 _ rfl)
      rw [rh_sg16 hc] at h
      exact h
  · rename_i v
    cases hc : decide (-32768 ≤ v) && decide (v < 32768) with
    | false => rw [hc] at hl; exact absurd hl.symm hn
    | true =>
      rw [hc] at hl
      simp only [cond_true] at hl
      subst hl
      simp only [Bool.and_eq_true, decide_eq_true_eq] at hc
      have h := dc163 (hm 0 _ rfl) (hm 1 _ rfl) (hm 2 _ rfl)
      rw [rh_sg16 hc] at h
      exact h
  · rename_i v
    cases hc : decide (-32768 ≤ v) && decide (v < 32768) with
    | false => rw [hc] at hl; exact absurd hl.symm hn
    | true =>
      rw [hc] at hl
      simp only [cond_true] at hl
      subst hl
      simp only [Bool.and_eq_true, decide_eq_true_eq] at hc
      have h := dc158 (hm 0 _ rfl) (hm 1 _ rfl) (hm 2 _ rfl)
      rw [rh_sg16 hc] at h
      exact h
  · rename_i v
    cases hc : decide (-32768 ≤ v) && decide (v < 32768) with
    | false => rw [hc] at hl; exact absurd hl.symm hn
    | true =>
      rw [hc] at hl
      simp only [cond_true] at hl
      subst hl
      simp only [Bool.and_eq_true, decide_eq_true_eq] at hc
      have h := dc164 (hm 0 _ rfl) (hm 1 _ rfl) (hm 2 _ rfl)
      rw [rh_sg16 hc] at h
      exact h
  · rename_i v
    cases hc : decide (-128 ≤ v) && decide (v < 128) with
    | false => rw [hc] at hl; exact absurd hl.symm hn
    | true =>
      rw [hc] at hl
      simp only [cond_true] at hl
      subst hl
      simp only [Bool.and_eq_true, decide_eq_true_eq] at hc
      have h := dc16 (hm 0 _ rfl) (hm 1 _ rfl)
      rw [rh_sg8 hc] at h
      exact h
  · rename_i x v
    cases hc : decide (-128 ≤ v) && decide (v < 128) with
    | false => rw [hc] at hl; exact absurd hl.symm hn
    | true =>
      rw [hc] at hl
      simp only [cond_true] at hl
      subst hl
      simp only [Bool.and_eq_true, decide_eq_true_eq] at hc
      have h := dc132 (hm 0 _ rfl) (hm 1 _ rfl) (hm 2 _ rfl)
      rw [rh_sg8 hc] at h
      exact h
  · exact absurd hl.symm hn
def rh_pfx : List Nat → List UInt8 → Bool
  | [], _ => true
  | a :: r, b :: s => Nat.beq a b.toNat && rh_pfx r s
  | _, _ => false
theorem rh_pfx_ok : ∀ {a : List Nat} {l : List UInt8} {k b : Nat}, rh_pfx a l = true → a[k]? = some b → (l[k]?).map UInt8.toNat = some b
  | [], _, _, _, _, h => by cases h
  | x :: r, [], _, _, h, _ => by cases h
  | x :: r, y :: s, k, b, h, h2 => by
    simp only [rh_pfx, Bool.and_eq_true] at h
    cases k with
    | zero =>
      have : x = b := by simpa using h2
      subst this
      have := Nat.eq_of_beq_eq_true h.1
      simp [this]
    | succ k =>
      have h3 : r[k]? = some b := by simpa using h2
      have := rh_pfx_ok h.2 h3
      simpa using this
abbrev rhIe : Type := Nat × Instr × Nat
def rh_ck (C : ByteArray) : List UInt8 → Nat → List rhIe → Bool
  | _, _, [] => true
  | l, p, q :: t => Nat.beq p q.1 && ((match rh_enc q.2.1 with
    | [] => decide (decode C q.1 = .ok q.2)
    | b => Nat.beq b.length q.2.2 && rh_pfx b l) && rh_ck C (l.drop q.2.2) (p + q.2.2) t)
theorem rh_ck_ok : ∀ {t : List rhIe} {p : Nat}, rh_ck C (C.data.toList.drop p) p t = true → ∀ q ∈ t, decode C q.1 = .ok q.2
  | [], _, _, q, hq => by cases hq
  | e :: t, p, h, q, hq => by
    simp only [rh_ck, Bool.and_eq_true] at h
    obtain ⟨h1, h2, h3⟩ := h
    have h1 := Nat.eq_of_beq_eq_true h1
    rcases List.mem_cons.mp hq with rfl | hq
    · split at h2
      · exact of_decide_eq_true h2
      · rename_i hb
        simp only [Bool.and_eq_true] at h2
        have h4 := Nat.eq_of_beq_eq_true h2.1
        have h5 := rh_enc_ok (C := C) (pc := q.1) (i := q.2.1) rfl (fun hz => hb hz) (fun k b hk => by
          have h6 := rh_pfx_ok h2.2 hk
          unfold rh_bt
          rw [List.getElem?_drop, h1] at h6
          exact h6)
        rw [h4] at h5
        exact h5
    · refine rh_ck_ok (p := p + e.2.2) ?_ q hq
      rw [List.drop_drop] at h3
      exact h3
/-- the table by 64 places -/
abbrev rhDt : Type := List (List rhIe)
def rh_fd1 : List rhIe → Nat → Except DecodeError (Instr × Nat)
  | [], _ => .error (.truncated 0)
  | q :: l, i => cond (Nat.beq q.1 i) (.ok q.2) (rh_fd1 l i)
def rh_dk (dt : rhDt) (pc : Nat) : Except DecodeError (Instr × Nat) := rh_fd1 (dt.getD (pc / 64) []) pc
def rh_dtc (C : ByteArray) (dt : rhDt) : Bool := rh_ck C C.data.toList 0 dt.flatten
theorem rh_fd1_ok : ∀ {l : List rhIe} {i : Nat}, (∀ q ∈ l, decode C q.1 = .ok q.2) → rh_fd1 l i = decode C i ∨ rh_fd1 l i = .error (.truncated 0)
  | [], _, _ => .inr rfl
  | q :: l, i, h => by
    unfold rh_fd1
    cases hb : Nat.beq q.1 i with
    | true =>
      obtain rfl := Nat.eq_of_beq_eq_true hb
      exact .inl (h q List.mem_cons_self).symm
    | false => exact rh_fd1_ok (fun q hq => h q (List.mem_cons_of_mem _ hq))
def rh_dok (C : ByteArray) (dt : rhDt) : Prop := ∀ pc, rh_dk dt pc = decode C pc ∨ rh_dk dt pc = .error (.truncated 0)
theorem rh_dtc_ok {dt : rhDt} (h : rh_dtc C dt = true) : rh_dok C dt := by
  intro pc
  have h0 : rh_ck C (C.data.toList.drop 0) 0 dt.flatten = true := h
  refine rh_fd1_ok (fun q hq => rh_ck_ok (p := 0) h0 q ?_)
  rw [List.mem_flatten]
  cases hd : dt[pc / 64]? with
  | none =>
    rw [List.getD_eq_getElem?_getD, hd] at hq
    cases hq
  | some l =>
    rw [List.getD_eq_getElem?_getD, hd] at hq
    exact ⟨l, List.mem_of_getElem? hd, hq⟩
end RhDecode
