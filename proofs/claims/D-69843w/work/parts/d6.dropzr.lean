/-! ===== leftovers: drop ===== -/
def lnX21_drop : rhLn := ([(11, [18], 0, (.array (.object "ReadingHouse$Document")), false), (37, [18], 1, .int, true)], [], [], [], dtX21_drop)
theorem lX21_drop {w : rhW} (hw : rh_hs w) : rh_lok w YX21_drop 0 lnX21_drop := ⟨(rh_cns (gX21_11 rfl) (rh_cns (gX21_37 rfl) rh_nl0)), rh_nl0, rh_nl0, rh_nl0, tdX21_drop⟩
def nX21_drop : rhHn := ([(9, [0, 2, 3]), (32, [0, 2, 3]), (33, [0, 2, 3]), (58, []), (59, [])], [(16, 19, 39, 0)], [], [54])
theorem rX21_drop_0 {w : rhW} (hw : rh_hs w) {A : Nat → rhL → List rhA → rhM → Prop} {B : Int → rhM → Prop} (x1 : Int) (M : rhM) (h : ((0 ≤ x1) ∧ (x1 < 12)) ∧ (A 9 [(0, 2, 98), (2, 2, (M 99 x1)), (3, 0, x1)] [] M)) : rhLf w YX21_drop 0 0 [(0, 2, 98), (1, 0, x1)] [] M A B :=
  rh_reg (hn := nX21_drop) (st := ([(0, 2, (.num 98)), (1, 0, (.var 1))], [], (.natCast 0), [], 300)) hw (lX21_drop hw) (g := (.add (.pow (.add (.pow (.add (.num 0) (.var 1)) 1) (.pow (.add (.var 1) (.num 12)) 0)) 4) (.pow (.sub (.natCast 0) (.add (.add (.pow (.num 98) 2) (.add (.pow (.pow (.sub (.natCast 0) (.add (.num 99) (.var 1))) 0) 34) (.add (.pow (.var 1) 48) (.num 0)))) (.num 0))) 9))) (by decide +kernel) ([(1, x1)], [(0, M)], w) rfl rh_nl0 h
theorem rX21_drop_9 {w : rhW} (hw : rh_hs w) {A : Nat → rhL → List rhA → rhM → Prop} {B : Int → rhM → Prop} (x2 : Int) (x3 : Int) (M : rhM) (hb0 : rh_bl w 3 x2 0) (h : (rI (x3 + 1)) ∧ ((((x3 + 1) < (M 98 1)) → (((0 ≤ (x3 + 1)) ∧ ((x3 + 1) < 12)) ∧ (A 32 [(0, 2, 98), (2, 2, x2), (3, 0, x3)] [(2, (M 99 (x3 + 1))), (0, x3), (2, 99)] M))) ∧ (¬ ((x3 + 1) < (M 98 1)) → ((rI ((M 98 1) - 1)) ∧ (∀ M300 : rhM, M300 = (rh_set M 98 1 ((M 98 1) - 1)) → (A 58 [] [(2, x2), (0, (M300 98 1)), (2, 99)] M300)))))) : rhLf w YX21_drop 0 9 [(0, 2, 98), (2, 2, x2), (3, 0, x3)] [] M A B :=
  rh_reg (hn := nX21_drop) (st := ([(0, 2, (.num 98)), (2, 2, (.var 2)), (3, 0, (.var 3))], [], (.natCast 0), [((.var 2), 3, (.num 0))], 300)) hw (lX21_drop hw) (g := (.add (.pow (.neg (.add (.var 3) (.num 1))) 1) (.sub (.pow (.add (.add (.var 3) (.num 1)) (.pow (.sub (.natCast 0) (.add (.num 98) (.num 1))) 0)) 0) (.add (.add (.pow (.add (.pow (.add (.num 0) (.add (.var 3) (.num 1))) 1) (.pow (.add (.add (.var 3) (.num 1)) (.num 12)) 0)) 4) (.pow (.sub (.natCast 0) (.add (.add (.pow (.num 98) 2) (.add (.pow (.var 2) 34) (.add (.pow (.var 3) 48) (.num 0)))) (.add (.pow (.pow (.sub (.natCast 0) (.add (.num 99) (.add (.var 3) (.num 1)))) 0) 2) (.add (.pow (.var 3) 0) (.add (.pow (.num 99) 2) (.num 0)))))) 32)) (.add (.pow (.neg (.sub (.pow (.sub (.natCast 0) (.add (.num 98) (.num 1))) 0) (.num 1))) 1) (.mul (.natCast 300) (.add (.pow (.mul (.add (.natCast 0) (.num 98)) (.add (.num 1) (.sub (.pow (.sub (.natCast 0) (.add (.num 98) (.num 1))) 0) (.num 1)))) 0) (.pow (.sub (.natCast 300) (.add (.num 0) (.add (.pow (.var 2) 2) (.add (.pow (.pow (.sub (.natCast 300) (.add (.num 98) (.num 1))) 0) 0) (.add (.pow (.num 99) 2) (.num 0)))))) 58)))))))) (by decide +kernel) ([(2, x2), (3, x3)], [(0, M)], w) rfl (rh_cns hb0 rh_nl0) h
theorem rX21_drop_33 {w : rhW} (hw : rh_hs w) {A : Nat → rhL → List rhA → rhM → Prop} {B : Int → rhM → Prop} (x2 : Int) (x3 : Int) (M : rhM) (hb0 : rh_bl w 3 x2 0) (h : (rI (x3 + 1)) ∧ (A 9 [(0, 2, 98), (2, 2, x2), (3, 0, (x3 + 1))] [] M)) : rhLf w YX21_drop 0 33 [(0, 2, 98), (2, 2, x2), (3, 0, x3)] [] M A B :=
  rh_reg (hn := nX21_drop) (st := ([(0, 2, (.num 98)), (2, 2, (.var 2)), (3, 0, (.var 3))], [], (.natCast 0), [((.var 2), 3, (.num 0))], 300)) hw (lX21_drop hw) (g := (.add (.pow (.neg (.add (.var 3) (.num 1))) 1) (.pow (.sub (.natCast 0) (.add (.add (.pow (.num 98) 2) (.add (.pow (.var 2) 34) (.add (.pow (.add (.var 3) (.num 1)) 48) (.num 0)))) (.num 0))) 9))) (by decide +kernel) ([(2, x2), (3, x3)], [(0, M)], w) rfl (rh_cns hb0 rh_nl0) h
theorem rX21_drop_59 {w : rhW} (hw : rh_hs w) {A : Nat → rhL → List rhA → rhM → Prop} {B : Int → rhM → Prop} (M : rhM) (h : B 0 M) : rhLf w YX21_drop 0 59 [] [] M A B :=
  rh_reg (hn := nX21_drop) (st := ([], [], (.natCast 0), [], 300)) hw (lX21_drop hw) (g := (.pow (.add (.num 0) (.natCast 0)) 0)) (by decide +kernel) ([], [(0, M)], w) rfl rh_nl0 h
theorem rh_aast {w : rhW} {Y : rhY} {n : Nat} {k : Nat × Nat × Nat × Nat} {Z : List Frame → Array Value → State → State → Prop} {pc : Nat} {L : rhL} {S : List rhA} {M : rhM} (pc' : Nat) {r len t tt v ci : Nat} {x i : Int} {q : vw_C} (hd : decode (ry_c Y) pc = .ok (.aastore, 1)) (hx : (r : Int) = x) (hr : r < rw_n w) (hkd : rw_kd w r = .inl (.object q.1, len)) (hT : rh_tl[tt]? = some (.object q.1)) (ht : rh_ik t = true) (h0 : 0 ≤ i) (h1 : i < (len : Int)) (hn : len ≤ 2147483647) (hf : rw_rf w r i.toNat = none) (hv : v < rw_n w) (hvk : rw_kd w v = .inr ci) (hc : rh_cls[ci]? = some q) (hp : pc + 1 = pc') (K : rh_At w Y n k Z pc' L S (rh_set M x i v)) : rh_At w Y n k Z pc L ((2, (v : Int)) :: (t, i) :: (2, x) :: S) M := by
  subst hp
  subst hx
  intro p l e R s m args below meth c H locs ls C D
  obtain ⟨g1, g2, g3, g4, g5⟩ := D
  have hX := C.2.2.2.2.2.2.2.2.1
  have he : (rh_ws w M)[r]? = some (rw_b w + r, .inl (rw_c w (.object q.1), len, .inr (.inr (.inr (.inr fun j => rh_rr w M r j))))) := rh_e_arr (M := M) hr hkd
  have hev : (rh_ws w M)[v]? = some (rw_b w + v, .inr (ci, rh_fs w M v ci)) := by
    rw [rh_ws_get hv]
    simp only [rh_e, hvk]
  have hset : (rh_ws w M).set r (rw_b w + r, .inl (rw_c w (.object q.1), len, .inr (.inr (.inr (.inr (va_up (fun j => rh_rr w M r j) i.toNat (some (rw_b w + v)))))))) = rh_ws w (rh_set M r i v) := by
    refine rh_ws_set ?_ (fun z hz => rh_e_ne hz)
    have hfu : (fun j => rh_rr w (rh_set M r i v) r j) = va_up (fun j => rh_rr w M r j) i.toNat (some (rw_b w + v)) := by
      funext j
      show rh_rr w (rh_set M r i v) r j = if j = i.toNat then some (rw_b w + v) else rh_rr w M r j
      by_cases hj : j = i.toNat
      · rw [if_pos hj, hj]
        simp only [rh_rr, hf]
        rw [show ((i.toNat : Nat) : Int) = i by omega, rh_set_s, rh_r_n]
      · rw [if_neg hj]
        simp only [rh_rr]
        rw [rh_set_j (by omega)]
    have hac : rh_ac w (rh_set M r i v) r (.object q.1) = .inr (.inr (.inr (.inr (fun j => rh_rr w (rh_set M r i v) r j)))) := rfl
    simp only [rh_e, hkd]
    rw [hac, hfu]
  show W p l e R s m args below meth c H locs k.1 k.2.1 (Z below args s) (F0 m pc ls (va_rf (rh_r (rw_b w) v) :: rh_a w (t, i) :: va_rf (rh_r (rw_b w) r) :: S.map (rh_a w)))
  rw [rh_r_n, rh_r_n, rh_a_i ht]
  refine va_astq C.1 C.2.1 hX.1 g4 (rh_ws_D w M) g5.1 r tt v ci he (rh_tys_get hT) hev hc (rh_in h0 h1 hn) hd ?_
  rw [rh_cl ⟨by omega, by omega⟩]
  rw [hset]
  exact fun H1 locs1 q1 _ q3 => K p l e R s m args below meth c H1 locs1 ls C ⟨g1.setA hkd trivial, g2, rh_okt (rh_okt (rh_okt g3)), q1, q3, g5.2⟩
theorem eS_doc {w : rhW} (hw : rh_hs w) {Y : rhY} {h pc : Nat} {L : rhL} {S1 : List rhA} {M : rhM} {v i : Int} (hd : decode (ry_c Y) pc = .ok (.aastore, 1)) (hb : rh_bl w 3 v 0) (hi : 0 ≤ i ∧ i < 12) : eS w Y h pc L ((2, v) :: (0, i) :: (2, 99) :: S1) M (pc + 1) L S1 (rh_set M 99 i v) := by
  obtain ⟨ci, hm, hob⟩ := (hb.2 0 _ rfl).1
  rw [List.mem_singleton] at hm
  subst hm
  obtain ⟨v0, v1, v2⟩ := hob
  have e0 : v + ((0 : Nat) : Int) = v := by omega
  rw [e0] at v0 v1 v2
  obtain ⟨k, rfl⟩ : ∃ k : Nat, v = (k : Int) := ⟨v.toNat, by omega⟩
  obtain ⟨a0, a1, a2⟩ := rh_hs_ar hw 99 (ty := .object RX22) (len := 12) (by decide) rfl
  exact fun _ _ K n => rh_aast (pc + 1) (r := 99) (len := 12) (tt := 8) (ci := 19) (q := (RX22, TX22, 5)) hd rfl a1 a2 rfl rfl hi.1 (by omega) (by decide) ((hw 99 _ (by decide) (by decide) rfl).2.2 _) (by simpa using v1) (by simpa using v2) rfl rfl (K n)
theorem vX21_drop_32 {w : rhW} (hw : rh_hs w) {L : rhL} {S1 : List rhA} {M : rhM} {v i : Int} (hb : rh_bl w 3 v 0) (hi : 0 ≤ i ∧ i < 12) : eS w YX21_drop 0 32 L ((2, v) :: (0, i) :: (2, 99) :: S1) M 33 L S1 (rh_set M 99 i v) := eS_doc hw ((tdX21_drop 32).resolve_right (by decide +kernel) ▸ (by decide +kernel : rh_dk dtX21_drop 32 = .ok (.aastore, 1))) hb hi
theorem vX21_drop_58 {w : rhW} (hw : rh_hs w) {L : rhL} {S1 : List rhA} {M : rhM} {v i : Int} (hb : rh_bl w 3 v 0) (hi : 0 ≤ i ∧ i < 12) : eS w YX21_drop 0 58 L ((2, v) :: (0, i) :: (2, 99) :: S1) M 59 L S1 (rh_set M 99 i v) := eS_doc hw ((tdX21_drop 58).resolve_right (by decide +kernel) ▸ (by decide +kernel : rh_dk dtX21_drop 58 = .ok (.aastore, 1))) hb hi
