/-! ===== Math.min, max, abs: as methods in one step ===== -/
section RhMath
variable {w : rhW} {Y : rhY} {h idx : Nat}
theorem rh_rest {w : rhW} {S1 : List rhA} (hw : rh_wd S1 ≤ 8) : ((S1.map (rh_a w)).map fun v => v.category).sum ≤ 8 := by
  rw [rh_wd_sum]; exact hw
theorem rh_il_min (hh : 0 < h) (hl : Cond.methodLink (ry_y Y).cls idx Lib.Math.min.name ∈ lw_all) (hst : Cond.static Lib.Math.min.name ∈ lw_all) (hi : Cond.initialized "java/lang/Math" ∈ lw_all) (hc : Cond.code Lib.Math.min.name Lib.Math.min.code 2 (some .int) ∈ lw_all) :
    rh_il w Y h (idx, false, [0, 0], [], [], [(0, .pow (.sub (.pow (.add (.var 1) (.var 0)) 0) (.add (.var 1) (.var 0))) 1)], .natCast 0) := by
  intro n Q pc L S1 xs M hd hx hw _ _ K
  have hd : decode (ry_c Y) pc = .ok (.invokestatic idx, 3) := by
    rcases hd with hd | hd
    · exact hd.1
    · cases hd.2
  match xs, hx with
  | [x, y], _ =>
    intro p l e R s m args below meth c H locs ls C D
    obtain ⟨g1, g2, g3, g4, g5, g6⟩ := D
    have hts := C.2.2.2.2.2.2.2.1
    have hx : rI x := g3 (0, x) (by simp)
    have hy : rI y := g3 (0, y) (by simp)
    have hf := C.2.2.2.2.2.2.2.2.2.1
    have hlo := C.2.2.2.2.2.2.2.2.2.2.1
    have hr := rh_rest (w := w) hw
    refine va_mmin (x := rhI x) (y := rhI y) (rest := S1.map (rh_a w)) C.1 C.2.1 (by rw [C.2.2.1, g6.1]) C.2.2.2.2.2.1 (hts _ hl) (hts _ hst) (hts _ hi) (hts _ hc) (by omega) (by omega) C.2.2.2.2.2.2.2.2.2.2.2.1 C.2.2.2.2.2.2.2.2.2.2.2.2.1 hd ?_
    have hv : (if rhI y < rhI x then rhI y else rhI x) = rhI (rh_if (y < x) y x) := by
      by_cases hz : y < x
      · rw [rh_if_t hz, if_pos ((rh_lt hy hx).mpr hz)]
      · rw [rh_if_f hz, if_neg (fun hq => hz ((rh_lt hy hx).mp hq))]
    have hR : rI (rh_if (y < x) y x) := by
      by_cases hz : y < x
      · rw [rh_if_t hz]; exact hy
      · rw [rh_if_f hz]; exact hx
    rw [hv]
    refine K p l e R s m args below meth c H locs ls C ⟨g1, g2, ?_, g4, g5, g6⟩
    exact rh_okc (a := (0, rh_if (y < x) y x)) hR (fun z hz => g3 z (List.mem_append_right _ hz))
theorem rh_il_max (hh : 0 < h) (hl : Cond.methodLink (ry_y Y).cls idx Lib.Math.max.name ∈ lw_all) (hst : Cond.static Lib.Math.max.name ∈ lw_all) (hi : Cond.initialized "java/lang/Math" ∈ lw_all) (hc : Cond.code Lib.Math.max.name Lib.Math.max.code 2 (some .int) ∈ lw_all) :
    rh_il w Y h (idx, false, [0, 0], [], [], [(0, .pow (.sub (.pow (.add (.var 0) (.var 1)) 0) (.add (.var 1) (.var 0))) 1)], .natCast 0) := by
  intro n Q pc L S1 xs M hd hx hw _ _ K
  have hd : decode (ry_c Y) pc = .ok (.invokestatic idx, 3) := by
    rcases hd with hd | hd
    · exact hd.1
    · cases hd.2
  match xs, hx with
  | [x, y], _ =>
    intro p l e R s m args below meth c H locs ls C D
    obtain ⟨g1, g2, g3, g4, g5, g6⟩ := D
    have hts := C.2.2.2.2.2.2.2.1
    have hx : rI x := g3 (0, x) (by simp)
    have hy : rI y := g3 (0, y) (by simp)
    have hf := C.2.2.2.2.2.2.2.2.2.1
    have hlo := C.2.2.2.2.2.2.2.2.2.2.1
    have hr := rh_rest (w := w) hw
    refine va_mmax (x := rhI x) (y := rhI y) (rest := S1.map (rh_a w)) C.1 C.2.1 (by rw [C.2.2.1, g6.1]) C.2.2.2.2.2.1 (hts _ hl) (hts _ hst) (hts _ hi) (hts _ hc) (by omega) (by omega) C.2.2.2.2.2.2.2.2.2.2.2.1 C.2.2.2.2.2.2.2.2.2.2.2.2.1 hd ?_
    have hv : (if rhI x < rhI y then rhI y else rhI x) = rhI (rh_if (x < y) y x) := by
      by_cases hz : x < y
      · rw [rh_if_t hz, if_pos ((rh_lt hx hy).mpr hz)]
      · rw [rh_if_f hz, if_neg (fun hq => hz ((rh_lt hx hy).mp hq))]
    have hR : rI (rh_if (x < y) y x) := by
      by_cases hz : x < y
      · rw [rh_if_t hz]; exact hy
      · rw [rh_if_f hz]; exact hx
    rw [hv]
    refine K p l e R s m args below meth c H locs ls C ⟨g1, g2, ?_, g4, g5, g6⟩
    exact rh_okc (a := (0, rh_if (x < y) y x)) hR (fun z hz => g3 z (List.mem_append_right _ hz))
theorem rh_il_abs (hh : 0 < h) (hl : Cond.methodLink (ry_y Y).cls idx Lib.Math.abs.name ∈ lw_all) (hst : Cond.static Lib.Math.abs.name ∈ lw_all) (hi : Cond.initialized "java/lang/Math" ∈ lw_all) (hc : Cond.code Lib.Math.abs.name Lib.Math.abs.code 1 (some .int) ∈ lw_all) :
    rh_il w Y h (idx, false, [0], [], [.pow (.neg (.sub (.num 0) (.var 0))) 1], [(0, .pow (.sub (.pow (.add (.num 0) (.var 0)) 1) (.add (.var 0) (.sub (.num 0) (.var 0)))) 1)], .natCast 0) := by
  intro n Q pc L S1 xs M hd hx hw _ ho K
  have hd : decode (ry_c Y) pc = .ok (.invokestatic idx, 3) := by
    rcases hd with hd | hd
    · exact hd.1
    · cases hd.2
  match xs, hx with
  | [x], _ =>
    intro p l e R s m args below meth c H locs ls C D
    obtain ⟨g1, g2, g3, g4, g5, g6⟩ := D
    have hts := C.2.2.2.2.2.2.2.1
    have hx : rI x := g3 (0, x) (by simp)
    have hn : rI (0 - x) := (rh_hold_c ho).1
    have hf := C.2.2.2.2.2.2.2.2.2.1
    have hlo := C.2.2.2.2.2.2.2.2.2.2.1
    have hr := rh_rest (w := w) hw
    refine va_mabs (x := rhI x) (rest := S1.map (rh_a w)) C.1 C.2.1 (by rw [C.2.2.1, g6.1]) C.2.2.2.2.2.1 (hts _ hl) (hts _ hst) (hts _ hi) (hts _ hc) (by omega) (by omega) C.2.2.2.2.2.2.2.2.2.2.2.1 C.2.2.2.2.2.2.2.2.2.2.2.2.1 hd ?_
    have hv : (if 0 ≤ rhI x then rhI x else 0 - rhI x) = rhI (rh_if (0 ≤ x) x (0 - x)) := by
      have h0 : (0 : Int32) ≤ rhI x ↔ 0 ≤ x := rh_le (x := 0) ⟨by decide, by decide⟩ hx
      by_cases hz : 0 ≤ x
      · rw [rh_if_t hz, if_pos (h0.mpr hz)]
      · rw [rh_if_f hz, if_neg (fun hq => hz (h0.mp hq))]
        exact (Int32.ofInt_sub 0 x).symm
    have hR : rI (rh_if (0 ≤ x) x (0 - x)) := by
      by_cases hz : 0 ≤ x
      · rw [rh_if_t hz]; exact hx
      · rw [rh_if_f hz]; exact hn
    rw [hv]
    refine K p l e R s m args below meth c H locs ls C ⟨g1, g2, ?_, g4, g5, g6⟩
    exact rh_okc (a := (0, rh_if (0 ≤ x) x (0 - x))) hR (fun z hz => g3 z (List.mem_append_right _ hz))
theorem rh_il_maxJ (hh : 0 < h) (hl : Cond.methodLink (ry_y Y).cls idx Lib.MathLoose.max_long.x ∈ lw_all) (hst : Cond.static Lib.MathLoose.max_long.x ∈ lw_all) (hi : Cond.initialized "java/lang/Math" ∈ lw_all) (hc : Cond.code Lib.MathLoose.max_long.x Lib.MathLoose.max_long.code 4 (some .long) ∈ lw_all) :
    rh_il w Y h (idx, false, [1, 1], [], [], [(1, .pow (.sub (.pow (.add (.var 1) (.var 0)) 0) (.add (.var 0) (.var 1))) 1)], .natCast 0) := by
  intro n Q pc L S1 xs M hd hx hw _ _ K
  have hd : decode (ry_c Y) pc = .ok (.invokestatic idx, 3) := by
    rcases hd with hd | hd
    · exact hd.1
    · cases hd.2
  match xs, hx with
  | [x, y], _ =>
    intro p l e R s m args below meth c H locs ls C D
    obtain ⟨g1, g2, g3, g4, g5, g6⟩ := D
    have hts := C.2.2.2.2.2.2.2.1
    have hx : rL x := g3 (1, x) (by simp)
    have hy : rL y := g3 (1, y) (by simp)
    have hf := C.2.2.2.2.2.2.2.2.2.1
    have hlo := C.2.2.2.2.2.2.2.2.2.2.1
    have hr := rh_rest (w := w) hw
    refine va_mmax_long (x := rhJ x) (y := rhJ y) (rest := S1.map (rh_a w)) C.1 C.2.1 (by rw [C.2.2.1, g6.1]) C.2.2.2.2.2.1 (hts _ hl) (hts _ hst) (hts _ hi) (hts _ hc) (by omega) (by omega) C.2.2.2.2.2.2.2.2.2.2.2.1 C.2.2.2.2.2.2.2.2.2.2.2.2.1 hd ?_
    have hv : (if rhJ y < rhJ x then rhJ x else rhJ y) = rhJ (rh_if (y < x) x y) := by
      by_cases hz : y < x
      · rw [rh_if_t hz, if_pos ((rh_lltj hy hx).mpr hz)]
      · rw [rh_if_f hz, if_neg (fun hq => hz ((rh_lltj hy hx).mp hq))]
    have hR : rL (rh_if (y < x) x y) := by
      by_cases hz : y < x
      · rw [rh_if_t hz]; exact hx
      · rw [rh_if_f hz]; exact hy
    rw [hv]
    refine K p l e R s m args below meth c H locs ls C ⟨g1, g2, ?_, g4, g5, g6⟩
    exact rh_okc (a := (1, rh_if (y < x) x y)) hR (fun z hz => g3 z (List.mem_append_right _ hz))
end RhMath
