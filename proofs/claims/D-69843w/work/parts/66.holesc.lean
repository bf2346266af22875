/-! ===== LAYER 2: holes (house) ===== -/
section HolesC
variable {wh wm : rhW}
theorem tb23x {a b : Int} (h : (a = 0 ∧ (b = 1 ∨ b = -1)) ∨ (b = 0 ∧ (a = 1 ∨ a = -1))) : ∃ e : Int, 0 ≤ e ∧ e < 4 ∧ rh_tb 2 e = a ∧ rh_tb 3 e = b := by
  rcases h with ⟨rfl, rfl | rfl⟩ | ⟨rfl, rfl | rfl⟩
  · exact ⟨1, by decide, by decide, by decide, by decide⟩
  · exact ⟨3, by decide, by decide, by decide, by decide⟩
  · exact ⟨0, by decide, by decide, by decide, by decide⟩
  · exact ⟨2, by decide, by decide, by decide, by decide⟩
theorem c_holes (hh : rh_hs wh) {x i W H l t r b : Int} (hx : rh_bl wh 0 x 0) (hx2 : 239 ≤ x) (M : rhM) (hW : M x 1 = W) (hH : M x 2 = H) (hWb : W ≤ 128) (hHb : H ≤ 96) (hN : W * H ≤ 6144) (hi : 0 ≤ i ∧ i < 300) (el : M (x + 5) i = l) (et : M (x + 6) i = t) (er : M (x + 7) i = r) (eb : M (x + 8) i = b) (hl : 0 ≤ l ∧ l < r ∧ r ≤ W) (ht : 0 ≤ t ∧ t < b ∧ b ≤ H) :
    rC1 wh YX1_holes 2 [(2, 0), (2, x), (0, i)] M (fun q M' => frx (fun a _ => a = 237 ∨ a = 238) M M' ∧ ∃ lab, Lb (r - l + 2) ((r - l + 2) * (b - t + 2)) (fun k => ¬ pcH M x W H i (l - 1 + k % (r - l + 2)) (t - 1 + k / (r - l + 2))) False lab (q + 1)) := by
  have hac : (r - l) * (b - t) ≤ W * H := Int.mul_le_mul (by omega) (by omega) (by omega) (by omega)
  have hac0 : 0 ≤ (r - l) * (b - t) := mul_nn (by omega) (by omega)
  have hwh : (r - l + 2) * (b - t + 2) = (r - l) * (b - t) + 2 * (r - l) + 2 * (b - t) + 4 := by
    rw [Int.add_mul, Int.mul_add]; omega
  generalize hw : r - l + 2 = w at *
  generalize hhh : b - t + 2 = h at *
  generalize hNN : w * h = N at *
  have hw0 : 0 < w := (by omega)
  have hwb : w ≤ 130 := (by omega)
  have hhb : h ≤ 98 := (by omega)
  have hN2 : 0 ≤ N ∧ N ≤ 6720 := ⟨by omega, by omega⟩
  clear hac hac0 hwh
  have hNn : ((N.toNat : Nat) : Int) = N := Int.toNat_of_nonneg hN2.1
  refine rC1.of (by decide) (LE0 rfl) ?_
  refine rh1.of (rX1_holes_0 hh _ _ _ hx ?_)
  rw [el, et, er, eb, hw, hhh]
  refine ⟨hi, hi, fun w' ew => ⟨⟨by omega, by omega⟩, hi, hi, fun h' eh => ⟨⟨by omega, by omega⟩, ?_⟩⟩⟩
  subst ew
  subst eh
  generalize hcol : (fun k => ¬ pcH M x W H i (l - 1 + k % w') (t - 1 + k / w')) = col
  have key : ∀ (vq : Nat) (k : Int) (M' : rhM), (N - k).toNat = vq → (0 ≤ k) → (k ≤ N) → (frx (fun a _ => a = 237 ∨ a = 238) M M') → (∀ j, 0 ≤ j → j < k → (M' 238 j = 0 ∧ col j) ∨ (M' 238 j = 1 ∧ ¬ col j)) → rh1 wh YX1_holes 2 42 [(0, 2, 0), (1, 2, x), (2, 0, i), (3, 0, w'), (4, 0, h'), (5, 2, 237), (6, 0, k)] [] M' (fun q M' => frx (fun a _ => a = 237 ∨ a = 238) M M' ∧ ∃ lab, Lb w' N col False lab (q + 1)) := by
    intro vq
    induction vq using Nat.strongRecOn with
    | ind vq ih =>
      intro k M' hvq k0 k1 f hs
      replace hs := Hid.mk hs
      refine rh1.of (rX1_holes_42 hh _ _ _ _ _ _ hx ?_)
      rw [f (x + 5) i (by omega), f (x + 6) i (by omega), f x 1 (by omega), f x 2 (by omega), el, et, hW, hH, hNN, f.cell (a := x + 2) (fun j => (by omega))]
      refine ⟨⟨by omega, by omega⟩, fun c => ?_, fun c => ?_⟩
      · have db := dm_b (W := w') (H := h') hw0 k0 (by omega)
        refine ⟨hi, ⟨by omega, by omega⟩, hi, ⟨by omega, by omega⟩, ⟨by omega, by omega⟩, ⟨by omega, by omega⟩, fun z => ?_, fun v ev => ⟨⟨by omega, by omega⟩, b01 ev, ⟨by omega, by omega⟩, ih _ (by omega) (k + 1) _ rfl (by omega) (by omega) (f.st (.inr rfl)) (fun j j0 j1 => ?_)⟩⟩
        · have := ix_b (W := W) (H := H) z.1 z.2.1 z.2.2.1 z.2.2.2
          exact ⟨by omega, by omega⟩
        · by_cases q : j = k
          · rw [q, rh_set_s, ev, ← hcol]
            by_cases y : pcH M x W H i (l - 1 + k % w') (t - 1 + k / w')
            · exact .inr ⟨rh_if_t y, fun z => z y⟩
            · exact .inl ⟨rh_if_f y, y⟩
          · rw [rh_set_j q]; exact hs.out j j0 (by omega)
      · have hk : k = N := (by omega)
        have L0 : Lw w' N col False (fun _ => -1) 0 0 := Lw.zero (fun _ _ => rfl)
        have key2 : ∀ (vq : Nat) (k n : Int) (lab : Int → Int) (M' : rhM), (N - k).toNat = vq → (0 ≤ k) → (k ≤ N) → (n ≤ k) → (frx (fun a _ => a = 237 ∨ a = 238) M M') → (Lw w' N col False lab n k) → (∀ j, 0 ≤ j ∧ j < N → -1 ≤ lab j) → (∀ j, 0 ≤ j → j < N → (M' 238 j = 0 ∧ col j ∧ lab j = -1) ∨ (M' 238 j = 1 ∧ (col j → lab j ≠ -1))) → rh1 wh YX1_holes 2 101 [(0, 2, 0), (3, 0, w'), (4, 0, h'), (5, 2, 237), (6, 0, n), (7, 0, k)] [] M' (fun q M' => frx (fun a _ => a = 237 ∨ a = 238) M M' ∧ ∃ lab, Lb w' N col False lab (q + 1)) := by
          intro vq
          induction vq using Nat.strongRecOn with
          | ind vq ih2 =>
            intro k n lab M' hvq k0 k1 n1 f L hm hs
            have n0 := L.2.2.2.2.2
            replace L := Hid.mk L
            replace hs := Hid.mk hs
            replace hm := Hid.mk hm
            refine rh1.of (rX1_holes_101 hh _ _ _ _ _ ?_)
            rw [hNN]
            refine ⟨⟨by omega, by omega⟩, fun c => ⟨⟨by omega, by omega⟩, fun z => ⟨⟨by omega, by omega⟩, ⟨by omega, by omega⟩, ?_⟩, fun z => ⟨⟨by omega, by omega⟩, ?_⟩⟩, fun c => ⟨⟨by omega, by omega⟩, f, lab, ?_⟩⟩
            · -- a new set
              have hk := hs.out k k0 c
              have ck : col k ∧ lab k = -1 := by
                rcases hk with y | y
                · exact y.2
                · rw [y.1] at z; exact absurd z (by decide)
              have hnn : ∀ j, 0 ≤ j ∧ j < N → lab j ≠ n := fun j hj e => by
                have := (L.out.1 j hj).1 (by rw [e]; omega)
                omega
              have hn1 : n ≠ -1 := (by omega)
              clear hk
              have key3 : ∀ (vq : Nat) (a hi : Int) (lf : Int → Int) (M3 : rhM), (2 * nct lf (-1) N.toNat + hi).toNat = vq → (0 ≤ a) → (0 ≤ hi) → (frx (fun a _ => a = 237 ∨ a = 238) M M3) → (Fl w' N col False lab n k lf hi (M3 237)) → (a + hi = nct lf n N.toNat) → (∀ j, 0 ≤ j → j < N → (M3 238 j = 0 ∧ col j ∧ lf j = -1) ∨ (M3 238 j = 1 ∧ (col j → lf j ≠ -1))) → rh1 wh YX1_holes 2 140 [(0, 2, 0), (3, 0, w'), (4, 0, h'), (5, 2, 237), (6, 0, n + 1), (7, 0, k), (8, 0, hi)] [] M3 (fun q M' => frx (fun a _ => a = 237 ∨ a = 238) M M' ∧ ∃ lab, Lb w' N col False lab (q + 1)) := by
                intro vq
                induction vq using Nat.strongRecOn with
                | ind vq ih3 =>
                  intro a hi lf M3 hvq a0 hi0 f3 F ar s3
                  replace s3 := Hid.mk s3
                  have nb1 := nct_b lf (-1) N.toNat
                  have nb2 := nct_b lf n N.toNat
                  refine rh1.of (rX1_holes_140 hh _ _ _ _ _ _ ?_)
                  refine ⟨fun c3 => ?_, fun c3 => ⟨⟨by omega, by omega⟩, ?_⟩⟩
                  · have Pp := F.pop c3
                    have hp := Pp.2.2.2.2.1
                    rw [show hi + -1 = hi - 1 by omega]
                    refine ⟨⟨by omega, by omega⟩, ⟨by omega, by omega⟩, ?_⟩
                    generalize hpp : M3 237 (hi - 1) = p at *
                    have bp := dm_b (W := w') (H := h') hw0 hp.1.1 (by rw [hNN]; exact hp.1.2)
                    have dmp := dm p w'
                    have key4 : ∀ (vq : Nat) (d g : Int) (lg : Int → Int) (M4 : rhM), (4 - d).toNat = vq → (0 ≤ d) → (d ≤ 4) → (0 ≤ g) → (frx (fun a _ => a = 237 ∨ a = 238) M M4) → (Fp w' N col False lab n k p (fun z => ∃ e, 0 ≤ e ∧ e < d ∧ z % w' = p % w' + rh_tb 2 e ∧ z / w' = p / w' + rh_tb 3 e) lg g (M4 237)) → ((a + 1) + g = nct lg n N.toNat) → (2 * nct lg (-1) N.toNat + g < 2 * nct lf (-1) N.toNat + hi) → (∀ j, 0 ≤ j → j < N → (M4 238 j = 0 ∧ col j ∧ lg j = -1) ∨ (M4 238 j = 1 ∧ (col j → lg j ≠ -1))) → rh1 wh YX1_holes 2 158 [(0, 2, 0), (3, 0, w'), (4, 0, h'), (5, 2, 237), (6, 0, n + 1), (7, 0, k), (8, 0, g), (9, 0, p), (10, 0, d)] [] M4 (fun q M' => frx (fun a _ => a = 237 ∨ a = 238) M M' ∧ ∃ lab, Lb w' N col False lab (q + 1)) := by
                      intro vq
                      induction vq using Nat.strongRecOn with
                      | ind vq ih4 =>
                        intro d g lg M4 hvq d0 d1 g0 f4 F4 a4 me s4
                        replace s4 := Hid.mk s4
                        replace F4 := Hid.mk F4
                        refine rh1.of (rX1_holes_158 hh _ _ _ _ _ _ _ _ ?_)
                        refine ⟨fun c4 => ⟨⟨by omega, by omega⟩, ?_⟩, fun c4 => ?_⟩
                        · have tb : (-1 ≤ rh_tb 2 d ∧ rh_tb 2 d ≤ 1) ∧ (-1 ≤ rh_tb 3 d ∧ rh_tb 3 d ≤ 1) ∧ (rh_tb 2 d = 0 ∨ rh_tb 3 d = 0) := by
                            rcases tb23 d ⟨by omega, by omega⟩ with ⟨e, e2, e3⟩ | ⟨e, e2, e3⟩ | ⟨e, e2, e3⟩ | ⟨e, e2, e3⟩ <;> rw [e2, e3] <;> decide
                          have tb3 := Hid.mk tb.2.2
                          have tb1 := tb.1
                          have tb2 := tb.2.1
                          clear tb
                          refine rh1.s (eS_h168 (d := d) rfl ⟨by omega, by omega⟩) ?_
                          refine rh1.of (rX1_holes_174 hh _ _ _ _ _ _ _ _ _ _ ?_)
                          refine ⟨⟨by omega, by omega⟩, ⟨by omega, by omega⟩, ?_⟩
                          refine rh1.s (eS_h181 (d := d) rfl ⟨by omega, by omega⟩) ?_
                          refine rh1.of (rX1_holes_187 hh _ _ _ _ _ _ _ _ _ _ _ ?_)
                          have oin : ∀ {u v : Int}, 0 ≤ u → u < w' → 0 ≤ v → v < h' → 0 ≤ w' * v + u ∧ w' * v + u < N := fun a1 a2 a3 a5 => by
                            have := ix_b a1 a2 a3 a5
                            rw [hNN] at this; exact this
                          refine ⟨⟨by omega, by omega⟩, fun y1 y2 y3 y4 => ?_, fun y => ?_, fun y => ⟨⟨by omega, by omega⟩, ?_⟩⟩
                          · have := oin y1 y2 y3 y4
                            exact ⟨by omega, by omega⟩
                          · obtain ⟨y1, y2, y3, y4, y5⟩ := y
                            have hz := oin y1 y2 y3 y4
                            have hxy := dm_x (W := w') (v := p / w' + rh_tb 3 d) y1 y2
                            generalize hat : w' * (p / w' + rh_tb 3 d) + (p % w' + rh_tb 2 d) = at_ at *
                            have hc2 : col at_ ∧ lg at_ = -1 := by
                              rcases s4.out at_ hz.1 hz.2 with q | q
                              · exact q.2
                              · rw [q.1] at y5; exact absurd y5 (by decide)
                            have un := nct_pos (f := lg) (i := at_) hz.1 hc2.2 N.toNat (by omega)
                            have tw := nct_two lg (c := n) (d := -1) hn1 N.toNat
                            have hacn : lg at_ ≠ n := by rw [hc2.2]; exact fun q => hn1 q.symm
                            have up := nct_up hz.1 hacn N.toNat (by omega)
                            have dn := nct_dn hz.1 hc2.2 hn1 N.toNat (by omega)
                            refine ⟨⟨by omega, by omega⟩, ⟨by omega, by omega⟩, ⟨by omega, by omega⟩, ⟨by omega, by omega⟩, ⟨by omega, by omega⟩, ?_⟩
                            have s237 : rh_set (rh_set M4 238 at_ 1) 237 g at_ 237 = upz (M4 237) g at_ := by rw [rh_set_f, rh_set_n (by decide)]
                            refine ih4 _ (by omega) (d + 1) (g + 1) (upz lg at_ n) _ rfl (by omega) (by omega) (by omega) ((f4.st (.inr rfl)).st (.inl rfl)) ?_ (by omega) (by omega) (fun j j0 j1 => ?_)
                            · rw [s237]
                              refine (F4.out.push hn1 g0 hz ⟨?_, ?_, ?_⟩ hc2.1 hc2.2).more (fun q qr ⟨e, e0, e1, e2, e3⟩ _ => ?_)
                              · rw [hxy.1]; exact ⟨by omega, by omega⟩
                              · rw [hxy.2]; exact ⟨by omega, by omega⟩
                              · rcases tb3.out with q | q
                                · exact .inr (.inl (by rw [hxy.1, q]; omega))
                                · exact .inr (.inr (by rw [hxy.2, q]; omega))
                              · by_cases he : e = d
                                · subst he
                                  refine .inl (.inr ?_)
                                  rw [dm q w', e2, e3, hat]
                                · exact .inl (.inl ⟨e, e0, (by omega), e2, e3⟩)
                            · rw [rh_set_a (by decide)]
                              by_cases q : j = at_
                              · rw [q, rh_set_s, upz_s]
                                exact .inr ⟨rfl, fun _ => hn1⟩
                              · rw [rh_set_j q, upz_n q]; exact s4.out j j0 j1
                          · replace y := Hid.mk y
                            refine ih4 _ (by omega) (d + 1) g lg _ rfl (by omega) (by omega) g0 f4 (F4.out.more (fun q qr ⟨e, e0, e1, e2, e3⟩ qc => ?_)) a4 me s4.out
                            by_cases he : e = d
                            · subst he
                              have bq := dm_b (W := w') (H := h') hw0 qr.1 (by rw [hNN]; exact qr.2)
                              have hq : q = w' * (p / w' + rh_tb 3 e) + (p % w' + rh_tb 2 e) := by rw [dm q w', e2, e3]
                              refine .inr (fun ql => y.out ?_)
                              rw [← hq, ← e2, ← e3]
                              refine ⟨bq.1.1, bq.1.2, bq.2.1, bq.2.2, ?_⟩
                              rcases s4.out q qr.1 qr.2 with v | v
                              · exact v.1
                              · exact absurd ql (v.2 qc)
                            · exact .inl ⟨e, e0, (by omega), e2, e3⟩
                        · have nb4 := nct_b lg (-1) N.toNat
                          refine ih3 _ (by omega) (a + 1) g lg M4 rfl (by omega) g0 f4 (F4.out.done hn1 (fun j jr ja => ?_)) a4 s4.out
                          obtain ⟨j1, j2, j3⟩ := ja
                          have j3 := j3.resolve_left id
                          by_cases hz : j % w' = p % w' ∧ j / w' = p / w'
                          · refine .inl ?_
                            rw [dm j w', hz.1, hz.2, ← dmp]
                          · obtain ⟨e, e0, e1, e2, e3⟩ := tb23x (a := j % w' - p % w') (b := j / w' - p / w') (by omega)
                            exact .inr ⟨e, e0, (by omega), (by omega), (by omega)⟩
                    refine key4 _ 0 (hi - 1) lf M3 rfl (by omega) (by omega) (by omega) f3 (Pp.more (fun q _ ⟨e, e0, e1, _⟩ _ => by omega)) (by omega) (by omega) s3.out
                  · have Ff := F.fin (by omega) ⟨by omega, by omega⟩ (fun a d ha hd hla had hcd => by rw [L.out.2.1 a d ha hd hla had hcd]; exact hla)
                    refine ih2 _ (by omega) (k + 1) (n + 1) lf M3 rfl (by omega) (by omega) (by omega) f3 (L.out.flood ⟨by omega, by omega⟩ ck.1 ck.2 Ff) (fun j hj => ?_) s3.out
                    by_cases q : lf j = n
                    · rw [q]; omega
                    · rw [(Ff j hj).2.1 q]; exact hm.out j hj
              have hup := nct_up k0 (hnn k ⟨by omega, by omega⟩) N.toNat (by omega)
              have hz0 := nct_0 (f := lab) (c := n) N.toNat (fun j j0 j1 => hnn j ⟨by omega, by omega⟩)
              refine key3 _ 0 1 (upz lab k n) _ rfl (by omega) (by omega) ((f.st (.inl rfl)).st (.inr rfl)) ?_ (by omega) (fun j j0 j1 => ?_)
              · exact Fl.init ⟨by omega, by omega⟩ ck.1 ck.2 hnn (by rw [rh_set_a (by decide), rh_set_s])
              · by_cases q : j = k
                · rw [q, rh_set_s, upz_s]
                  exact .inr ⟨rfl, fun _ => hn1⟩
                · rw [rh_set_j q, rh_set_a (by decide), upz_n q]; exact hs.out j j0 j1
            · refine ih2 _ (by omega) (k + 1) n lab M' rfl (by omega) (by omega) (by omega) f (L.out.next (fun hk => ?_)) hm.out hs.out
              rcases hs.out k k0 c with y | y
              · exact absurd y.1 z
              · exact y.2 hk
            · rw [show n - 1 + 1 = n by omega]
              exact L.out.fin (by omega) hm.out (by omega)
        refine key2 _ 0 0 (fun _ => -1) M' rfl (by omega) (by omega) (by omega) f L0 (fun j hj => Int.le_refl _) (fun j j0 j1 => ?_)
        rcases hs.out j j0 (by omega) with y | y
        · exact .inl ⟨y.1, y.2, rfl⟩
        · exact .inr ⟨y.1, fun z => absurd z y.2⟩
  exact key _ 0 M rfl (by omega) hN2.1 frx.rf (fun j j0 j1 => by omega)
end HolesC
