/-! ===== String.indexOf ===== -/
section TxtIdx
variable {w : rhW}
theorem eA.mn {Y : rhY} {h idx pc : Nat} {L : rhL} {S1 : List rhA} {M M' : rhM} {x y r : Int} (hh : 0 < h) (hl : Cond.methodLink (ry_y Y).cls idx Lib.Math.min.name ∈ lw_all) (hd : decode (ry_c Y) pc = .ok (.invokestatic idx, 3)) (hw : rh_wd S1 ≤ 8) (K : eA w Y h (pc + 3) L ((0, rh_if (y < x) y x) :: S1) M r M') : eA w Y h pc L ((0, y) :: (0, x) :: S1) M r M' := fun n =>
  rh_il_min (w := w) hh hl q731 q273 q732 n _ pc L S1 [x, y] M (.inl ⟨hd, rfl⟩) rfl hw (fun q hq => by cases hq) (fun q hq => by cases hq) (K n)
theorem eA.mx {Y : rhY} {h idx pc : Nat} {L : rhL} {S1 : List rhA} {M M' : rhM} {x y r : Int} (hh : 0 < h) (hl : Cond.methodLink (ry_y Y).cls idx Lib.Math.max.name ∈ lw_all) (hd : decode (ry_c Y) pc = .ok (.invokestatic idx, 3)) (hw : rh_wd S1 ≤ 8) (K : eA w Y h (pc + 3) L ((0, rh_if (x < y) y x) :: S1) M r M') : eA w Y h pc L ((0, y) :: (0, x) :: S1) M r M' := fun n =>
  rh_il_max (w := w) hh hl q734 q273 q735 n _ pc L S1 [x, y] M (.inl ⟨hd, rfl⟩) rfl hw (fun q hq => by cases hq) (fun q hq => by cases hq) (K n)
theorem c_canEnc {c : Int} (h : 0 ≤ c ∧ c ≤ 255) (M : rhM) : eC w YJ7_canEncode 0 [(0, c)] M 1 M := by
  refine eC.ofF (plainS (by decide +kernel)) (LE0 rfl) (fun m => ?_)
  refine rh_ild_n 1 (j := 0) (x := c) (rh_dec1 tdJ7_canEncode rfl) rfl rfl rfl ?_
  refine rh_iz_lt 15 4 (rh_dec1 tdJ7_canEncode rfl) rfl (.inl rfl) rfl rfl (fun c => absurd c (by omega)) (fun _ => ?_)
  refine rh_ild_n 5 (j := 0) (x := c) (rh_dec1 tdJ7_canEncode rfl) rfl rfl rfl ?_
  refine rh_sip 8 (v := 255) (rh_dec1 tdJ7_canEncode rfl) (by decide) (by decide) rfl ?_
  refine rh_ic_gt 15 11 (rh_dec1 tdJ7_canEncode rfl) rfl rfl (.inl rfl) (.inl rfl) rfl rfl (fun z => absurd z (by omega)) (fun _ => ?_)
  refine rh_ico 12 (rh_dec1 tdJ7_canEncode rfl) (by decide) rfl ?_
  refine rh_goto 16 (rh_dec1 tdJ7_canEncode rfl) rfl ?_
  exact (rh_retI (mc := 0) (ms := 0) (ty := .boolean) (t := 0) (v := 1) (rh_dec1 tdJ7_canEncode rfl) rfl rfl rfl (fun _ => ⟨by decide, by decide⟩) ⟨rfl, rfl⟩).zq
/-- where a byte first stands in a list, from k on -/
def fio (l : List Int) (c : Int) : Nat → Nat → Int
  | _, 0 => -1
  | k, m + 1 => if l.getD k 0 = c then (k : Int) else fio l c (k + 1) m
theorem fio_b {l : List Int} {c : Int} : ∀ (m k : Nat), -1 ≤ fio l c k m ∧ fio l c k m < ((k + m : Nat) : Int)
  | 0, k => by unfold fio; omega
  | m + 1, k => by
    have := fio_b (l := l) (c := c) m (k + 1)
    unfold fio
    by_cases h : l.getD k 0 = c
    · rw [if_pos h]; omega
    · rw [if_neg h]; omega
theorem c_idxc {i : Nat} {q : String × Nat × String × List Int} {c : Int} (hq : rh_st[i]? = some q) (hn : q.2.2.2.length ≤ 1000) (hb : ∀ a ∈ q.2.2.2, 0 ≤ a ∧ a ≤ 127) (M : rhM) : eC w YJ7_indexOfChar 0 [(10, (i : Int)), (0, c), (0, 0), (0, (q.2.2.2.length : Int))] M (fio q.2.2.2 (rh_i2b c) 0 q.2.2.2.length) M := by
  refine eC.ofF (plainS (by decide +kernel)) (LE0 rfl) (fun m => ?_)
  have hbb := rh_i2b_rg c
  have key : ∀ (u k : Nat), k + u = q.2.2.2.length → eA w YJ7_indexOfChar 0 7 [(0, 10, (i : Int)), (3, 0, (q.2.2.2.length : Int)), (4, 0, rh_i2b c), (5, 0, (k : Int))] [] M (fio q.2.2.2 (rh_i2b c) k u) M := by
    intro u
    induction u with
    | zero =>
      intro k hk m
      refine rh_ild 9 (j := 3) (x := (k : Int)) (rh_dec1 tdJ7_indexOfChar rfl) rfl rfl ?_
      refine rh_ild_n 10 (j := 1) (x := (q.2.2.2.length : Int)) (rh_dec1 tdJ7_indexOfChar rfl) rfl rfl rfl ?_
      refine rh_ic_ge 31 13 (rh_dec1 tdJ7_indexOfChar rfl) rfl rfl (.inl rfl) (.inl rfl) rfl rfl (fun _ => ?_) (fun z => absurd (by omega) z)
      refine rh_ico 32 (rh_dec1 tdJ7_indexOfChar rfl) (by decide) rfl ?_
      exact (rh_retI (mc := 0) (ms := 0) (ty := .int) (t := 0) (v := -1) (rh_dec1 tdJ7_indexOfChar rfl) rfl rfl rfl (fun _ => ⟨by decide, by decide⟩) ⟨rfl, rfl⟩).zq
    | succ u ih =>
      intro k hk m
      have h2 : 0 ≤ (k : Int) ∧ (k : Int) < (q.2.2.2.length : Int) := ⟨by omega, by omega⟩
      refine rh_ild 9 (j := 3) (x := (k : Int)) (rh_dec1 tdJ7_indexOfChar rfl) rfl rfl ?_
      refine rh_ild_n 10 (j := 1) (x := (q.2.2.2.length : Int)) (rh_dec1 tdJ7_indexOfChar rfl) rfl rfl rfl ?_
      refine rh_ic_ge 31 13 (rh_dec1 tdJ7_indexOfChar rfl) rfl rfl (.inl rfl) (.inl rfl) rfl rfl (fun z => absurd z (by omega)) (fun _ => ?_)
      refine rh_ald_n 14 (j := 0) (x := (i : Int)) (rh_dec1 tdJ7_indexOfChar rfl) rfl rfl rfl rfl ?_
      refine rh_ild 16 (j := 3) (x := (k : Int)) (rh_dec1 tdJ7_indexOfChar rfl) rfl rfl ?_
      refine rh_baT 17 hq (rh_dec1 tdJ7_indexOfChar rfl) rfl h2 (by omega) (fun a ha => ⟨by have := hb a ha; omega, by have := hb a ha; omega⟩) rfl ?_
      rw [Int.toNat_natCast]
      refine rh_ild 19 (j := 2) (x := rh_i2b c) (rh_dec1 tdJ7_indexOfChar rfl) rfl rfl ?_
      refine rh_ic_ne 25 22 (rh_dec1 tdJ7_indexOfChar rfl) rfl rfl (.inl rfl) (.inl rfl) rfl rfl (fun z => ?_) (fun z => ?_)
      · have e : fio q.2.2.2 (rh_i2b c) k (u + 1) = fio q.2.2.2 (rh_i2b c) (k + 1) u := by
          show (if q.2.2.2.getD k 0 = rh_i2b c then (k : Int) else fio q.2.2.2 (rh_i2b c) (k + 1) u) = _
          rw [if_neg z]
        rw [e]
        refine rh_inc 28 [1, 2, 3, 0] (j := 3) (x := (k : Int)) (L' := [(0, 10, (i : Int)), (3, 0, (q.2.2.2.length : Int)), (4, 0, rh_i2b c), (5, 0, ((k + 1 : Nat) : Int))]) (rh_dec1 tdJ7_indexOfChar rfl) rfl (by decide) ⟨by omega, by omega⟩ rfl rfl ?_
        refine rh_goto 7 (rh_dec1 tdJ7_indexOfChar rfl) rfl ?_
        exact ih (k + 1) (by omega) m
      · have e : fio q.2.2.2 (rh_i2b c) k (u + 1) = (k : Int) := by
          show (if q.2.2.2.getD k 0 = rh_i2b c then (k : Int) else fio q.2.2.2 (rh_i2b c) (k + 1) u) = _
          rw [if_pos (Classical.not_not.mp z)]
        rw [e]
        refine rh_ild 24 (j := 3) (x := (k : Int)) (rh_dec1 tdJ7_indexOfChar rfl) rfl rfl ?_
        exact (rh_retI (mc := 0) (ms := 0) (ty := .int) (t := 0) (v := (k : Int)) (rh_dec1 tdJ7_indexOfChar rfl) rfl rfl rfl (fun z => z) ⟨rfl, rfl⟩).zq
  refine rh_ild_n 1 (j := 1) (x := c) (rh_dec1 tdJ7_indexOfChar rfl) rfl rfl rfl ?_
  refine rh_i2b_ 2 (rh_dec1 tdJ7_indexOfChar rfl) rfl rfl ?_
  refine rh_ist 4 [1, 3, 4, 0] (L' := [(0, 10, (i : Int)), (2, 0, 0), (3, 0, (q.2.2.2.length : Int)), (4, 0, rh_i2b c)]) (rh_dec1 tdJ7_indexOfChar rfl) (by decide) rfl (.inl rfl) rfl rfl ?_
  refine rh_ild_n 5 (j := 1) (x := 0) (rh_dec1 tdJ7_indexOfChar rfl) rfl rfl rfl ?_
  refine rh_ist 7 [1, 3, 4, 0] (L' := [(0, 10, (i : Int)), (3, 0, (q.2.2.2.length : Int)), (4, 0, rh_i2b c), (5, 0, 0)]) (rh_dec1 tdJ7_indexOfChar rfl) (by decide) rfl (.inl rfl) rfl rfl ?_
  exact key q.2.2.2.length 0 (by omega) m
theorem c_lidt {i : Nat} {q : String × Nat × String × List Int} {c : Int} (hq : rh_st[i]? = some q) (hn : q.2.2.2.length ≤ 1000) (h0 : 0 < q.2.2.2.length) (hb : ∀ a ∈ q.2.2.2, 0 ≤ a ∧ a ≤ 127) (M : rhM) : eA w YJ7_indexOf 1 22 [(0, 10, (i : Int)), (1, 0, c), (2, 0, 0), (3, 0, (q.2.2.2.length : Int))] [] M (fio q.2.2.2 (rh_i2b c) 0 q.2.2.2.length) M := by
  intro m
  refine rh_ild_n 23 (j := 2) (x := 0) (rh_dec1 tdJ7_indexOf rfl) rfl rfl rfl ?_
  refine rh_ild_n 24 (j := 3) (x := (q.2.2.2.length : Int)) (rh_dec1 tdJ7_indexOf rfl) rfl rfl rfl ?_
  refine rh_ic_lt 29 27 (rh_dec1 tdJ7_indexOf rfl) rfl rfl (.inl rfl) (.inl rfl) rfl rfl (fun _ => ?_) (fun z => absurd (by omega) z)
  refine rh_ald_n 30 (j := 0) (x := (i : Int)) (rh_dec1 tdJ7_indexOf rfl) rfl rfl rfl rfl ?_
  refine rh_ild_n 31 (j := 1) (x := c) (rh_dec1 tdJ7_indexOf rfl) rfl rfl rfl ?_
  refine rh_ild_n 32 (j := 2) (x := 0) (rh_dec1 tdJ7_indexOf rfl) rfl rfl rfl ?_
  refine rh_ild_n 33 (j := 3) (x := (q.2.2.2.length : Int)) (rh_dec1 tdJ7_indexOf rfl) rfl rfl rfl ?_
  refine eA.cs (Y' := YJ7_indexOfChar) (av := [(10, (i : Int)), (0, c), (0, 0), (0, (q.2.2.2.length : Int))]) (S1 := []) (rh_csr.of (Or.inl q3069) kJ7_indexOfChar) (Nat.lt_succ_self 0) (rh_dec1 tdJ7_indexOf rfl) rfl (LE0 rfl) rfl (c_idxc hq hn hb M) (fun m => ?_) m
  exact (rh_retI (mc := 0) (ms := 0) (ty := .int) (t := 0) (v := fio q.2.2.2 (rh_i2b c) 0 q.2.2.2.length) (rh_dec1 tdJ7_indexOf rfl) rfl rfl rfl (fun z => z) ⟨rfl, rfl⟩).zq
theorem c_lidx {i : Nat} {q : String × Nat × String × List Int} {c : Int} (hq : rh_st[i]? = some q) (hn : q.2.2.2.length ≤ 1000) (h0 : 0 < q.2.2.2.length) (hb : ∀ a ∈ q.2.2.2, 0 ≤ a ∧ a ≤ 127) (hc : 0 ≤ c ∧ c ≤ 255) (M : rhM) : eC w YJ7_indexOf 1 [(10, (i : Int)), (0, c), (0, 0), (0, (q.2.2.2.length : Int))] M (fio q.2.2.2 (rh_i2b c) 0 q.2.2.2.length) M := by
  refine eC.ofF (plainS (by decide +kernel)) (LE0 rfl) (fun m => ?_)
  have fb := fio_b (l := q.2.2.2) (c := rh_i2b c) q.2.2.2.length 0
  refine rh_ild_n 1 (j := 1) (x := c) (rh_dec1 tdJ7_indexOf rfl) rfl rfl rfl ?_
  refine eA.cs (Y' := YJ7_canEncode) (av := [(0, c)]) (S1 := []) (rh_csr.of (Or.inl q3064) kJ7_canEncode) (Nat.lt_succ_self 0) (rh_dec1 tdJ7_indexOf rfl) rfl (LE0 rfl) rfl (c_canEnc hc M) (fun m => ?_) m
  refine rh_iz_ne 9 7 (rh_dec1 tdJ7_indexOf rfl) rfl (.inl rfl) rfl rfl (fun _ => ?_) (fun z => absurd (by decide) z)
  refine rh_ild_n 10 (j := 2) (x := 0) (rh_dec1 tdJ7_indexOf rfl) rfl rfl rfl ?_
  refine rh_ico 11 (rh_dec1 tdJ7_indexOf rfl) (by decide) rfl ?_
  refine eA.mx (S1 := []) (by decide) q3067 (rh_dec1 tdJ7_indexOf rfl) (LE0 rfl) (fun m => ?_) m
  rw [rh_if_f (by decide)]
  refine rh_ist_n 15 [1, 2, 0, 3] (L' := [(0, 10, (i : Int)), (1, 0, c), (2, 0, 0), (3, 0, (q.2.2.2.length : Int))]) (rh_dec1 tdJ7_indexOf rfl) rfl (by decide) rfl (.inl rfl) rfl rfl ?_
  refine rh_ild_n 16 (j := 3) (x := (q.2.2.2.length : Int)) (rh_dec1 tdJ7_indexOf rfl) rfl rfl rfl ?_
  refine rh_ald_n 17 (j := 0) (x := (i : Int)) (rh_dec1 tdJ7_indexOf rfl) rfl rfl rfl rfl ?_
  refine rh_lenT 18 hq (rh_dec1 tdJ7_indexOf rfl) (by omega) rfl ?_
  refine eA.mn (S1 := []) (by decide) q3068 (rh_dec1 tdJ7_indexOf rfl) (LE0 rfl) (fun m => ?_) m
  rw [rh_if_f (by omega)]
  refine rh_ist_n 22 [1, 2, 3, 0] (L' := [(0, 10, (i : Int)), (1, 0, c), (2, 0, 0), (3, 0, (q.2.2.2.length : Int))]) (rh_dec1 tdJ7_indexOf rfl) rfl (by decide) rfl (.inl rfl) rfl rfl ?_
  exact c_lidt hq hn h0 hb M m
theorem c_idx2 {i : Nat} {q : String × Nat × String × List Int} {c : Int} (hq : rh_st[i]? = some q) (hs : rh_shr (q.2.2.2.length : Int) 0 = (q.2.2.2.length : Int)) (hn : q.2.2.2.length ≤ 1000) (h0 : 0 < q.2.2.2.length) (hb : ∀ a ∈ q.2.2.2, 0 ≤ a ∧ a ≤ 127) (hc : 0 ≤ c ∧ c ≤ 255) (M : rhM) : eC w YJ6_indexOf_2 2 [(9, (i : Int)), (0, c), (0, 0)] M (fio q.2.2.2 (rh_i2b c) 0 q.2.2.2.length) M := by
  refine eC.ofF (plainS (by decide +kernel)) (LE0 rfl) (fun m => ?_)
  refine rh_ald_n 1 (j := 0) (x := (i : Int)) (rh_dec1 tdJ6_indexOf_2 rfl) rfl rfl rfl rfl ?_
  refine eA.ct (Y' := YJ6_isLatin1) (av := []) (S1 := []) (st_lt hq) q2616 kJ6_isLatin1 (by decide : 0 < 2) (rh_dec1 tdJ6_indexOf_2 rfl) rfl (LE0 rfl) rfl (c_isLatin1 (st_lt hq) M) (fun m => ?_) m
  refine rh_iz_eq 23 7 (rh_dec1 tdJ6_indexOf_2 rfl) rfl (.inl rfl) rfl rfl (fun c => absurd c (by decide)) (fun _ => ?_)
  refine rh_ald_n 8 (j := 0) (x := (i : Int)) (rh_dec1 tdJ6_indexOf_2 rfl) rfl rfl rfl rfl ?_
  refine rh_valT 11 (st_lt hq) q5176 (rh_dec1 tdJ6_indexOf_2 rfl) rfl ?_
  refine rh_ild_n 12 (j := 1) (x := c) (rh_dec1 tdJ6_indexOf_2 rfl) rfl rfl rfl ?_
  refine rh_ild_n 13 (j := 2) (x := 0) (rh_dec1 tdJ6_indexOf_2 rfl) rfl rfl rfl ?_
  refine rh_ald_n 14 (j := 0) (x := (i : Int)) (rh_dec1 tdJ6_indexOf_2 rfl) rfl rfl rfl rfl ?_
  refine eA.ct (Y' := YJ6_length) (av := []) (S1 := [(0, 0), (0, c), (10, (i : Int))]) (st_lt hq) q3060 kJ6_length (by decide : 1 < 2) (rh_dec1 tdJ6_indexOf_2 rfl) rfl (LE0 rfl) rfl (c_length hq hs (by omega) M) (fun m => ?_) m
  refine eA.cs (Y' := YJ7_indexOf) (av := [(10, (i : Int)), (0, c), (0, 0), (0, (q.2.2.2.length : Int))]) (S1 := []) (rh_csr.of (Or.inl q3061) kJ7_indexOf) (by decide : 1 < 2) (rh_dec1 tdJ6_indexOf_2 rfl) rfl (LE0 rfl) rfl (c_lidx hq hn h0 hb hc M) (fun m => ?_) m
  refine rh_goto 36 (rh_dec1 tdJ6_indexOf_2 rfl) rfl ?_
  exact (rh_retI (mc := 0) (ms := 0) (ty := .int) (t := 0) (v := fio q.2.2.2 (rh_i2b c) 0 q.2.2.2.length) (rh_dec1 tdJ6_indexOf_2 rfl) rfl rfl rfl (fun z => z) ⟨rfl, rfl⟩).zq
theorem c_idx1 {i : Nat} {q : String × Nat × String × List Int} {c : Int} (hq : rh_st[i]? = some q) (hs : rh_shr (q.2.2.2.length : Int) 0 = (q.2.2.2.length : Int)) (hn : q.2.2.2.length ≤ 1000) (h0 : 0 < q.2.2.2.length) (hb : ∀ a ∈ q.2.2.2, 0 ≤ a ∧ a ≤ 127) (hc : 0 ≤ c ∧ c ≤ 255) (M : rhM) : eC w YJ6_indexOf 3 [(9, (i : Int)), (0, c)] M (fio q.2.2.2 (rh_i2b c) 0 q.2.2.2.length) M := by
  refine eC.ofF (plainS (by decide +kernel)) (LE0 rfl) (fun m => ?_)
  refine rh_ald_n 1 (j := 0) (x := (i : Int)) (rh_dec1 tdJ6_indexOf rfl) rfl rfl rfl rfl ?_
  refine rh_ild_n 2 (j := 1) (x := c) (rh_dec1 tdJ6_indexOf rfl) rfl rfl rfl ?_
  refine rh_ico 3 (rh_dec1 tdJ6_indexOf rfl) (by decide) rfl ?_
  refine eA.ct (Y' := YJ6_indexOf_2) (av := [(0, c), (0, 0)]) (S1 := []) (st_lt hq) q3056 kJ6_indexOf_2 (by decide : 2 < 3) (rh_dec1 tdJ6_indexOf rfl) rfl (LE0 rfl) rfl (c_idx2 hq hs hn h0 hb hc M) (fun m => ?_) m
  exact (rh_retI (mc := 0) (ms := 0) (ty := .int) (t := 0) (v := fio q.2.2.2 (rh_i2b c) 0 q.2.2.2.length) (rh_dec1 tdJ6_indexOf rfl) rfl rfl rfl (fun z => z) ⟨rfl, rfl⟩).zq
end TxtIdx
