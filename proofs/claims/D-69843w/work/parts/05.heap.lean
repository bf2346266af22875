/-! ===== the rules of At: fields, arrays, ends, calls ===== -/
section RhHeap
variable {w : rhW} {Y : rhY} {n : Nat} {k : Nat × Nat × Nat × Nat} {Z : List Frame → Array Value → State → State → Prop} {pc : Nat} {L : rhL} {S : List rhA} {M : rhM}
/-- a field as the code names it: linked, or linked in the nest -/
def rh_fl (own : String) (idx : Nat) (ref nm ds : String) : Prop := Cond.fieldLink own idx ref nm ds ∈ lw_all ∨ ∃ host, Cond.fieldLinkNest own idx ref nm ds host ∈ rh_nst
def rh_sf (ref : String) (T : String × String × String × Bool) : Prop := ref = T.1 ∨ Cond.sameField ref T.1 T.2.1 T.2.2.1 ∈ lw_all
theorem rh_same {args : Array Value} {s : State} {ref : String} {T : String × String × String × Bool} (hts : ∀ x ∈ lw_all, x.before args s = true) (h : rh_sf ref T) : ∀ x, s.fieldFound? T.1 T.2.1 T.2.2.1 = some x → s.fieldFound? ref T.2.1 T.2.2.1 = some x := by
  intro x hx
  rcases h with h | h
  · rw [h]; exact hx
  · exact u_same (hts _ h) x hx
def rh_it : FieldType → Bool
  | .int => true
  | .byte => true
  | .boolean => true
  | .char => true
  | .short => true
  | _ => false
theorem rh_rg_i {ty : FieldType} {x : Int} (h : rh_it ty = true) (hx : rh_rg ty x) : rI x := by
  cases ty <;> simp [rh_it] at h <;> simp only [rh_rg] at hx <;> (first | exact hx | (constructor <;> omega))
theorem rh_v_i {b : Nat} {ty : FieldType} {x : Int} (h : rh_it ty = true) : rh_v b ty x = .int (rhI x) := by
  cases ty <;> simp [rh_it] at h <;> rfl
def rh_rt : FieldType → Bool
  | .object _ => true
  | .array _ => true
  | _ => false
theorem rh_v_r {b : Nat} {ty : FieldType} {x : Int} (h : rh_rt ty = true) : rh_v b ty x = va_rf (rh_r b x) := by
  cases ty <;> simp [rh_rt] at h <;> rfl
theorem rh_get (pc' : Nat) {idx ci kf r : Nat} {x : Int} {ref : String} {q : vw_C} {a : rhA} (hd : decode (ry_c Y) pc = .ok (.getfield idx, 3)) (hx : (r : Int) = x) (hr : r < rw_n w) (hkd : rw_kd w r = .inr ci) (hc : rh_cls[ci]? = some q) (hk : kf < q.2.2)
    (hl : rh_fl (ry_y Y).cls idx ref (q.2.1 kf).2.1 (q.2.1 kf).2.2.1) (hs : rh_sf ref (q.2.1 kf)) (ha : rh_fv w M r kf (rh_fty ci kf) = rh_a w a) (hok : rh_wm w M → rh_ok a) (hp : pc + 3 = pc') (K : rh_At w Y n k Z pc' L (a :: S) M) : rh_At w Y n k Z pc L ((2, x) :: S) M := by
  subst hp
  subst hx
  intro p l e R s m args below meth c H locs ls C D
  obtain ⟨h1, h2, h3, h4, h5⟩ := D
  have hts := C.2.2.2.2.2.2.2.1
  have hX := C.2.2.2.2.2.2.2.2.1
  have he : (rh_ws w M)[r]? = some (rw_b w + r, .inr (ci, rh_fs w M r ci)) := by
    rw [rh_ws_get hr]
    simp only [rh_e, hkd]
  have hv : (rh_fs w M r ci)[kf]? = some (rh_a w a) := by
    rw [rh_fs_get (by rw [rh_cN_of hc]; exact hk), ha]
  have KK := K p l e R s m args below meth c H locs ls C ⟨h1, h2, rh_okc (hok h1) (rh_okt h3), h4, h5⟩
  show W p l e R s m args below meth c H locs k.1 k.2.1 (Z below args s) (F0 m pc ls (va_rf (rh_r (rw_b w) r) :: S.map (rh_a w)))
  rw [rh_r_n]
  rcases hl with hl | ⟨host, hl⟩
  · exact va_get C.1 C.2.1 hts (rh_cin ci q hc) C.2.2.2.2.2.1 hX.1 h4 r he hc kf hk (hts _ hl) (rh_same hts hs) hv hd KK
  · exact va_getN C.1 C.2.1 hts (rh_cin ci q hc) C.2.2.2.2.2.1 hX.1 h4 r he hc kf hk ((hX.2.1 _ hl).use rfl) (rh_same hts hs) hv hd KK
/-- a field of numbers -/
theorem rh_getI (pc' : Nat) {idx ci kf r : Nat} {x j : Int} {ref : String} {q : vw_C} (hd : decode (ry_c Y) pc = .ok (.getfield idx, 3)) (hx : (r : Int) = x) (hj : (kf : Int) = j) (hr : r < rw_n w) (hkd : rw_kd w r = .inr ci) (hc : rh_cls[ci]? = some q) (hk : kf < q.2.2)
    (hl : rh_fl (ry_y Y).cls idx ref (q.2.1 kf).2.1 (q.2.1 kf).2.2.1) (hs : rh_sf ref (q.2.1 kf)) (hf : rw_rf w r kf = none) (ht : rh_it (rh_fty ci kf) = true) (hp : pc + 3 = pc') (K : rh_At w Y n k Z pc' L ((0, M x j) :: S) M) : rh_At w Y n k Z pc L ((2, x) :: S) M := by
  subst hx
  subst hj
  refine rh_get pc' hd rfl hr hkd hc hk hl hs (a := (0, M r kf)) ?_ (fun h => ?_) hp K
  · simp only [rh_fv, hf]
    exact rh_v_i ht
  · exact rh_rg_i ht (h.obj hr hkd (by rw [rh_cN_of hc]; exact hk) hf)
theorem rh_getJ (pc' : Nat) {idx ci kf r : Nat} {x j : Int} {ref : String} {q : vw_C} (hd : decode (ry_c Y) pc = .ok (.getfield idx, 3)) (hx : (r : Int) = x) (hj : (kf : Int) = j) (hr : r < rw_n w) (hkd : rw_kd w r = .inr ci) (hc : rh_cls[ci]? = some q) (hk : kf < q.2.2)
    (hl : rh_fl (ry_y Y).cls idx ref (q.2.1 kf).2.1 (q.2.1 kf).2.2.1) (hs : rh_sf ref (q.2.1 kf)) (hf : rw_rf w r kf = none) (ht : rh_fty ci kf = .long) (hp : pc + 3 = pc') (K : rh_At w Y n k Z pc' L ((1, M x j) :: S) M) : rh_At w Y n k Z pc L ((2, x) :: S) M := by
  subst hx
  subst hj
  refine rh_get pc' hd rfl hr hkd hc hk hl hs (a := (1, M r kf)) ?_ (fun h => ?_) hp K
  · simp only [rh_fv, hf, ht]
    rfl
  · have := h.obj hr hkd (by rw [rh_cN_of hc]; exact hk) hf
    rw [ht] at this
    exact this
/-- a fixed reference -/
theorem rh_getR (pc' : Nat) {idx ci kf r qr : Nat} {x y : Int} {ref : String} {q : vw_C} (hd : decode (ry_c Y) pc = .ok (.getfield idx, 3)) (hx : (r : Int) = x) (hr : r < rw_n w) (hkd : rw_kd w r = .inr ci) (hc : rh_cls[ci]? = some q) (hk : kf < q.2.2)
    (hl : rh_fl (ry_y Y).cls idx ref (q.2.1 kf).2.1 (q.2.1 kf).2.2.1) (hs : rh_sf ref (q.2.1 kf)) (hf : rw_rf w r kf = some qr) (hy : (qr : Int) = y) (hp : pc + 3 = pc') (K : rh_At w Y n k Z pc' L ((2, y) :: S) M) : rh_At w Y n k Z pc L ((2, x) :: S) M := by
  subst hy
  refine rh_get pc' hd hx hr hkd hc hk hl hs (a := (2, (qr : Int))) ?_ (fun _ => trivial) hp K
  simp only [rh_fv, hf]
  show _ = va_rf (rh_r (rw_b w) qr)
  rw [rh_r_n]
  rfl
/-- a reference that changes -/
theorem rh_getD (pc' : Nat) {idx ci kf r : Nat} {x j : Int} {ref : String} {q : vw_C} (hd : decode (ry_c Y) pc = .ok (.getfield idx, 3)) (hx : (r : Int) = x) (hj : (kf : Int) = j) (hr : r < rw_n w) (hkd : rw_kd w r = .inr ci) (hc : rh_cls[ci]? = some q) (hk : kf < q.2.2)
    (hl : rh_fl (ry_y Y).cls idx ref (q.2.1 kf).2.1 (q.2.1 kf).2.2.1) (hs : rh_sf ref (q.2.1 kf)) (hf : rw_rf w r kf = none) (ht : rh_rt (rh_fty ci kf) = true) (hp : pc + 3 = pc') (K : rh_At w Y n k Z pc' L ((2, M x j) :: S) M) : rh_At w Y n k Z pc L ((2, x) :: S) M := by
  subst hx
  subst hj
  refine rh_get pc' hd rfl hr hkd hc hk hl hs (a := (2, M r kf)) ?_ (fun _ => trivial) hp K
  simp only [rh_fv, hf]
  exact rh_v_r ht
theorem rh_fs_set {w : rhW} {M : rhM} {r ci kf : Nat} {v : Int} (hk : kf < rh_cN ci) (hf : rw_rf w r kf = none) : (rh_fs w M r ci).set kf (rh_v (rw_b w) (rh_fty ci kf) v) = rh_fs w (rh_set M r kf v) r ci := by
  apply List.ext_getElem?
  intro i
  by_cases hi : i = kf
  · subst hi
    rw [List.getElem?_set_self (by rw [rh_fs_len]; exact hk), rh_fs_get hk]
    simp only [rh_fv, hf, rh_set_s]
  · rw [List.getElem?_set_ne (Ne.symm hi)]
    by_cases hn : i < rh_cN ci
    · rw [rh_fs_get hn, rh_fs_get hn]
      simp only [rh_fv]
      rw [rh_set_j (by omega)]
    · rw [List.getElem?_eq_none (by rw [rh_fs_len]; omega), List.getElem?_eq_none (by rw [rh_fs_len]; omega)]
theorem rh_nar {b : Nat} {ty : FieldType} {x : Int} (h : rh_rg ty x) (hty : rh_it ty = true ∨ ty = .long ∨ rh_rt ty = true) : narrow ty (rh_v b ty x) = rh_v b ty x ∧ fits ty (rh_v b ty x) = true := by
  rcases hty with ht | rfl | ht
  · cases ty <;> simp [rh_it] at ht
    · have e : (rhI x).toInt8.toInt32 = rhI x := by
        rw [← Int32.toInt_inj, Int8.toInt_toInt32, Int32.toInt_toInt8, rh_ti (rh_rg_i (ty := .byte) rfl h)]
        exact Int.bmod_eq_of_le (by have := h.1; omega) (by have := h.2; omega)
      have h1 := pk_nb (rhI x)
      have h2 := pk_fb (rhI x)
      rw [e] at h1 h2
      exact ⟨h1, h2⟩
    · have hx : 0 ≤ x ∧ x ≤ 65535 := h
      obtain ⟨q, rfl⟩ : ∃ q : Nat, x = (q : Int) := ⟨x.toNat, by omega⟩
      have e : rhI (q : Int) = nI q := Int32.ofInt_eq_ofNat
      have := pk_charN (q := q) (by omega)
      show narrow .char (.int (rhI q)) = .int (rhI q) ∧ fits .char (.int (rhI q)) = true
      rw [e]
      exact this
    · exact ⟨vp_nar_int _, rfl⟩
    · have e : (rhI x).toInt16.toInt32 = rhI x := by
        rw [← Int32.toInt_inj, Int16.toInt_toInt32, Int32.toInt_toInt16, rh_ti (rh_rg_i (ty := .short) rfl h)]
        exact Int.bmod_eq_of_le (by have := h.1; omega) (by have := h.2; omega)
      have h1 := pk_ns (rhI x)
      have h2 := pk_fs (rhI x)
      rw [e] at h1 h2
      exact ⟨h1, h2⟩
    · have hx : 0 ≤ x ∧ x ≤ 1 := h
      rcases (by omega : x = 0 ∨ x = 1) with rfl | rfl <;> exact ⟨rfl, rfl⟩
  · exact ⟨rfl, rfl⟩
  · cases ty <;> simp [rh_rt] at ht
    · show narrow _ (va_rf (rh_r b x)) = va_rf (rh_r b x) ∧ fits _ (va_rf (rh_r b x)) = true
      cases rh_r b x <;> exact ⟨rfl, rfl⟩
    · show narrow _ (va_rf (rh_r b x)) = va_rf (rh_r b x) ∧ fits _ (va_rf (rh_r b x)) = true
      cases rh_r b x <;> exact ⟨rfl, rfl⟩
theorem rh_put (pc' : Nat) {idx ci kf r : Nat} {x j v : Int} {ref : String} {q : vw_C} {a : rhA} (hd : decode (ry_c Y) pc = .ok (.putfield idx, 3)) (hx : (r : Int) = x) (hj : (kf : Int) = j) (hr : r < rw_n w) (hkd : rw_kd w r = .inr ci) (hc : rh_cls[ci]? = some q) (hk : kf < q.2.2)
    (hl : rh_fl (ry_y Y).cls idx ref (q.2.1 kf).2.1 (q.2.1 kf).2.2.1) (hs : rh_sf ref (q.2.1 kf)) (hf : rw_rf w r kf = none) (hfin : (q.2.1 kf).2.2.2 = false ∨ ((q.2.1 kf).2.2.2 = true ∧ (ry_y Y).name = "<init>" ∧ (q.2.1 kf).1 = (ry_y Y).cls ∧ ∃ i, Cond.fieldLink (ry_y Y).cls idx ref (q.2.1 kf).2.1 (q.2.1 kf).2.2.1 ∈ lw_all ∧ i = idx))
    (hty : rh_it (rh_fty ci kf) = true ∨ rh_fty ci kf = .long ∨ rh_rt (rh_fty ci kf) = true) (ha : rh_a w a = rh_v (rw_b w) (rh_fty ci kf) v) (hv : rh_ok a → rh_rg (rh_fty ci kf) v) (hp : pc + 3 = pc') (K : rh_At w Y n k Z pc' L S (rh_set M x j v)) : rh_At w Y n k Z pc L (a :: (2, x) :: S) M := by
  subst hp
  subst hx
  subst hj
  intro p l e R s m args below meth c H locs ls C D
  obtain ⟨h1, h2, h3, h4, h5⟩ := D
  have hts := C.2.2.2.2.2.2.2.1
  have hX := C.2.2.2.2.2.2.2.2.1
  have hkN : kf < rh_cN ci := by rw [rh_cN_of hc]; exact hk
  have hrg := hv (rh_okh h3)
  obtain ⟨hn1, hn2⟩ := rh_nar (b := rw_b w) hrg hty
  have he : (rh_ws w M)[r]? = some (rw_b w + r, .inr (ci, rh_fs w M r ci)) := by
    rw [rh_ws_get hr]
    simp only [rh_e, hkd]
  have hset : (rh_ws w M).set r (rw_b w + r, .inr (ci, (rh_fs w M r ci).set kf (rh_v (rw_b w) (rh_fty ci kf) v))) = rh_ws w (rh_set M r kf v) := by
    refine rh_ws_set ?_ (fun z hz => rh_e_ne hz)
    simp only [rh_e, hkd]
    rw [rh_fs_set hkN hf]
  have KK : ∀ (H1 : Heap) (locs1 : List Loc), va_P (rw_D w) rh_cls ((rh_ws w M).set r (rw_b w + r, .inr (ci, (rh_fs w M r ci).set kf (rh_v (rw_b w) (rh_fty ci kf) v)))) H1 → va_D (rh_A w) ((rh_ws w M).set r (rw_b w + r, .inr (ci, (rh_fs w M r ci).set kf (rh_v (rw_b w) (rh_fty ci kf) v)))) → va_S (rh_A w) s.heap H1 locs1 → W p l e R s m args below meth c H1 locs1 k.1 k.2.1 (Z below args s) (F0 m (pc + 3) ls (S.map (rh_a w))) := fun H1 locs1 g1 _ g3 => K p l e R s m args below meth c H1 locs1 ls C ⟨h1.setO hkd hrg, h2, rh_okt (rh_okt h3), by rw [hset] at g1; exact g1, g3, h5.2⟩
  show W p l e R s m args below meth c H locs k.1 k.2.1 (Z below args s) (F0 m pc ls (rh_a w a :: va_rf (rh_r (rw_b w) r) :: S.map (rh_a w)))
  rw [rh_r_n, ha]
  have hl9 : kf < (rh_fs w M r ci).length := by rw [rh_fs_len]; exact hkN
  rcases hfin with hfin | ⟨hfin, hi, hdecl, _, hlf, -⟩
  · rcases hl with hl | ⟨host, hl⟩
    · exact va_put C.1 C.2.1 hts (rh_cin ci q hc) (rh_fty ci) (rh_cty ci q hc) (rh_cnm ci q hc) C.2.2.2.2.2.1 hX.1 h4 (rh_ws_D w M) h5.1 r he hc kf hk (hts _ hl) (rh_same hts hs) hfin (rh_cty ci q hc kf hk) hn1 hn2 hl9 hd KK
    · exact va_putN C.1 C.2.1 hts (rh_cin ci q hc) (rh_fty ci) (rh_cty ci q hc) (rh_cnm ci q hc) C.2.2.2.2.2.1 hX.1 h4 (rh_ws_D w M) h5.1 r he hc kf hk ((hX.2.1 _ hl).use rfl) (rh_same hts hs) hfin (rh_cty ci q hc kf hk) hn1 hn2 hl9 hd KK
  · exact va_putF C.1 C.2.1 hts (rh_cin ci q hc) (rh_fty ci) (rh_cty ci q hc) (rh_cnm ci q hc) C.2.2.2.2.2.1 hX.1 h4 (rh_ws_D w M) h5.1 r he hc kf hk (hts _ hlf) (rh_same hts hs) hfin (C.2.2.2.2.2.2.1.trans hi) hdecl (rh_cty ci q hc kf hk) hn1 hn2 hl9 hd KK
/-- a number comes into a field (not a final one) -/
theorem rh_putI (pc' : Nat) {idx ci kf r t : Nat} {x j v : Int} {ref : String} {q : vw_C} (hd : decode (ry_c Y) pc = .ok (.putfield idx, 3)) (hx : (r : Int) = x) (hj : (kf : Int) = j) (hr : r < rw_n w) (hkd : rw_kd w r = .inr ci) (hc : rh_cls[ci]? = some q) (hk : kf < q.2.2)
    (hl : rh_fl (ry_y Y).cls idx ref (q.2.1 kf).2.1 (q.2.1 kf).2.2.1) (hs : rh_sf ref (q.2.1 kf)) (hf : rw_rf w r kf = none) (hfin : (q.2.1 kf).2.2.2 = false) (ht : rh_fty ci kf = .int) (hu : rh_ik t = true) (hv : t = 0 ∨ rI v) (hp : pc + 3 = pc') (K : rh_At w Y n k Z pc' L S (rh_set M x j v)) : rh_At w Y n k Z pc L ((t, v) :: (2, x) :: S) M := by
  refine rh_put pc' hd hx hj hr hkd hc hk hl hs hf (Or.inl hfin) (by rw [ht]; exact Or.inl rfl) (v := v) ?_ (fun h => ?_) hp K
  · rw [rh_a_i hu, ht]; rfl
  · rw [ht]; exact rh_oki h hv
theorem rh_putZ (pc' : Nat) {idx ci kf r t : Nat} {x j v : Int} {ref : String} {q : vw_C} (hd : decode (ry_c Y) pc = .ok (.putfield idx, 3)) (hx : (r : Int) = x) (hj : (kf : Int) = j) (hr : r < rw_n w) (hkd : rw_kd w r = .inr ci) (hc : rh_cls[ci]? = some q) (hk : kf < q.2.2)
    (hl : rh_fl (ry_y Y).cls idx ref (q.2.1 kf).2.1 (q.2.1 kf).2.2.1) (hs : rh_sf ref (q.2.1 kf)) (hf : rw_rf w r kf = none) (hfin : (q.2.1 kf).2.2.2 = false) (ht : rh_fty ci kf = .boolean) (hu : rh_ik t = true) (hv : 0 ≤ v ∧ v ≤ 1) (hp : pc + 3 = pc') (K : rh_At w Y n k Z pc' L S (rh_set M x j v)) : rh_At w Y n k Z pc L ((t, v) :: (2, x) :: S) M := by
  refine rh_put pc' hd hx hj hr hkd hc hk hl hs hf (Or.inl hfin) (by rw [ht]; exact Or.inl rfl) (v := v) ?_ (fun h => ?_) hp K
  · rw [rh_a_i hu, ht]; rfl
  · rw [ht]; exact hv
theorem rh_putJ (pc' : Nat) {idx ci kf r t : Nat} {x j v : Int} {ref : String} {q : vw_C} (hd : decode (ry_c Y) pc = .ok (.putfield idx, 3)) (hx : (r : Int) = x) (hj : (kf : Int) = j) (hr : r < rw_n w) (hkd : rw_kd w r = .inr ci) (hc : rh_cls[ci]? = some q) (hk : kf < q.2.2)
    (hl : rh_fl (ry_y Y).cls idx ref (q.2.1 kf).2.1 (q.2.1 kf).2.2.1) (hs : rh_sf ref (q.2.1 kf)) (hf : rw_rf w r kf = none) (hfin : (q.2.1 kf).2.2.2 = false) (ht : rh_fty ci kf = .long) (hu : rh_jk t = true) (hv : t = 1 ∨ rL v) (hp : pc + 3 = pc') (K : rh_At w Y n k Z pc' L S (rh_set M x j v)) : rh_At w Y n k Z pc L ((t, v) :: (2, x) :: S) M := by
  refine rh_put pc' hd hx hj hr hkd hc hk hl hs hf (Or.inl hfin) (by rw [ht]; exact Or.inr (Or.inl rfl)) (v := v) ?_ (fun h => ?_) hp K
  · rw [rh_a_j hu, ht]; rfl
  · rw [ht]; exact rh_okj h hv
theorem rh_putD (pc' : Nat) {idx ci kf r : Nat} {x j v : Int} {ref : String} {q : vw_C} (hd : decode (ry_c Y) pc = .ok (.putfield idx, 3)) (hx : (r : Int) = x) (hj : (kf : Int) = j) (hr : r < rw_n w) (hkd : rw_kd w r = .inr ci) (hc : rh_cls[ci]? = some q) (hk : kf < q.2.2)
    (hl : rh_fl (ry_y Y).cls idx ref (q.2.1 kf).2.1 (q.2.1 kf).2.2.1) (hs : rh_sf ref (q.2.1 kf)) (hf : rw_rf w r kf = none) (hfin : (q.2.1 kf).2.2.2 = false ∨ ((q.2.1 kf).2.2.2 = true ∧ (ry_y Y).name = "<init>" ∧ (q.2.1 kf).1 = (ry_y Y).cls ∧ ∃ i, Cond.fieldLink (ry_y Y).cls idx ref (q.2.1 kf).2.1 (q.2.1 kf).2.2.1 ∈ lw_all ∧ i = idx)) (ht : rh_rt (rh_fty ci kf) = true) (hp : pc + 3 = pc') (K : rh_At w Y n k Z pc' L S (rh_set M x j v)) : rh_At w Y n k Z pc L ((2, v) :: (2, x) :: S) M := by
  refine rh_put pc' hd hx hj hr hkd hc hk hl hs hf hfin (Or.inr (Or.inr ht)) (v := v) ?_ (fun h => ?_) hp K
  · rw [rh_v_r ht]; rfl
  · cases hh : rh_fty ci kf <;> simp [hh, rh_rt] at ht <;> trivial
/-! arrays -/
theorem rh_e_arr {r len : Nat} {ty : FieldType} (hr : r < rw_n w) (hkd : rw_kd w r = .inl (ty, len)) : (rh_ws w M)[r]? = some (rw_b w + r, .inl (rw_c w ty, len, rh_ac w M r ty)) := by
  rw [rh_ws_get hr]
  simp only [rh_e, hkd]
theorem rh_ac_i {r : Nat} {ty : FieldType} (h : rh_it ty = true) : rh_ac w M r ty = .inl fun j => rhI (M r j) := by
  cases ty <;> simp [rh_it] at h <;> rfl
theorem rh_cli {x : Int} {len : Nat} (h0 : 0 ≤ x) (h1 : x < (len : Int)) (hn : len ≤ 2147483647) : ((rhI x).toNatClampNeg : Int) = x := by
  rw [rh_cl ⟨by omega, by omega⟩]
  omega
theorem rh_iald (pc' : Nat) {r len t : Nat} {x i : Int} (hd : decode (ry_c Y) pc = .ok (.iaload, 1)) (hx : (r : Int) = x) (hr : r < rw_n w) (hkd : rw_kd w r = .inl (.int, len)) (ht : rh_ik t = true) (h0 : 0 ≤ i) (h1 : i < (len : Int)) (hn : len ≤ 2147483647) (hp : pc + 1 = pc') (K : rh_At w Y n k Z pc' L ((0, M x i) :: S) M) : rh_At w Y n k Z pc L ((t, i) :: (2, x) :: S) M := by
  subst hp
  subst hx
  intro p l e R s m args below meth c H locs ls C D
  obtain ⟨g1, g2, g3, g4, g5⟩ := D
  have hX := C.2.2.2.2.2.2.2.2.1
  have he := rh_e_arr (M := M) hr hkd
  rw [rh_ac_i rfl] at he
  have KK := K p l e R s m args below meth c H locs ls C ⟨g1, g2, rh_okc (a := (0, M r i)) (rh_rg_i (ty := .int) rfl (g1.arr hr hkd h0 h1)) (rh_okt (rh_okt g3)), g4, g5⟩
  show W p l e R s m args below meth c H locs k.1 k.2.1 (Z below args s) (F0 m pc ls (rh_a w (t, i) :: va_rf (rh_r (rw_b w) r) :: S.map (rh_a w)))
  rw [rh_r_n, rh_a_i ht]
  refine va_iald C.1 C.2.1 hX.1 g4 r 0 he (rh_tys_get rfl) (rh_in h0 h1 hn) hd ?_
  rw [rh_cli h0 h1 hn]
  exact KK
theorem rh_bald (pc' : Nat) {r len t : Nat} {x i : Int} (hd : decode (ry_c Y) pc = .ok (.baload, 1)) (hx : (r : Int) = x) (hr : r < rw_n w) (hkd : rw_kd w r = .inl (.byte, len)) (ht : rh_ik t = true) (h0 : 0 ≤ i) (h1 : i < (len : Int)) (hn : len ≤ 2147483647) (hp : pc + 1 = pc') (K : rh_At w Y n k Z pc' L ((0, M x i) :: S) M) : rh_At w Y n k Z pc L ((t, i) :: (2, x) :: S) M := by
  subst hp
  subst hx
  intro p l e R s m args below meth c H locs ls C D
  obtain ⟨g1, g2, g3, g4, g5⟩ := D
  have hX := C.2.2.2.2.2.2.2.2.1
  have he := rh_e_arr (M := M) hr hkd
  rw [rh_ac_i rfl] at he
  have KK := K p l e R s m args below meth c H locs ls C ⟨g1, g2, rh_okc (a := (0, M r i)) (rh_rg_i (ty := .byte) rfl (g1.arr hr hkd h0 h1)) (rh_okt (rh_okt g3)), g4, g5⟩
  show W p l e R s m args below meth c H locs k.1 k.2.1 (Z below args s) (F0 m pc ls (rh_a w (t, i) :: va_rf (rh_r (rw_b w) r) :: S.map (rh_a w)))
  rw [rh_r_n, rh_a_i ht]
  refine va_bald C.1 C.2.1 hX.1 g4 r 1 he (rh_tys_get rfl) (rh_in h0 h1 hn) hd ?_
  rw [rh_cli h0 h1 hn]
  exact KK
theorem rh_zald (pc' : Nat) {r len t : Nat} {x i : Int} (hd : decode (ry_c Y) pc = .ok (.baload, 1)) (hx : (r : Int) = x) (hr : r < rw_n w) (hkd : rw_kd w r = .inl (.boolean, len)) (ht : rh_ik t = true) (h0 : 0 ≤ i) (h1 : i < (len : Int)) (hn : len ≤ 2147483647) (hp : pc + 1 = pc') (K : rh_At w Y n k Z pc' L ((0, M x i) :: S) M) : rh_At w Y n k Z pc L ((t, i) :: (2, x) :: S) M := by
  subst hp
  subst hx
  intro p l e R s m args below meth c H locs ls C D
  obtain ⟨g1, g2, g3, g4, g5⟩ := D
  have hX := C.2.2.2.2.2.2.2.2.1
  have he := rh_e_arr (M := M) hr hkd
  rw [rh_ac_i rfl] at he
  have KK := K p l e R s m args below meth c H locs ls C ⟨g1, g2, rh_okc (a := (0, M r i)) (rh_rg_i (ty := .boolean) rfl (g1.arr hr hkd h0 h1)) (rh_okt (rh_okt g3)), g4, g5⟩
  show W p l e R s m args below meth c H locs k.1 k.2.1 (Z below args s) (F0 m pc ls (rh_a w (t, i) :: va_rf (rh_r (rw_b w) r) :: S.map (rh_a w)))
  rw [rh_r_n, rh_a_i ht]
  refine va_zald C.1 C.2.1 hX.1 g4 r 2 he (rh_tys_get rfl) (rh_in h0 h1 hn) hd ?_
  rw [rh_cli h0 h1 hn]
  exact KK
theorem rh_lald (pc' : Nat) {r len t : Nat} {x i : Int} (hd : decode (ry_c Y) pc = .ok (.laload, 1)) (hx : (r : Int) = x) (hr : r < rw_n w) (hkd : rw_kd w r = .inl (.long, len)) (ht : rh_ik t = true) (h0 : 0 ≤ i) (h1 : i < (len : Int)) (hn : len ≤ 2147483647) (hp : pc + 1 = pc') (K : rh_At w Y n k Z pc' L ((1, M x i) :: S) M) : rh_At w Y n k Z pc L ((t, i) :: (2, x) :: S) M := by
  subst hp
  subst hx
  intro p l e R s m args below meth c H locs ls C D
  obtain ⟨g1, g2, g3, g4, g5⟩ := D
  have hX := C.2.2.2.2.2.2.2.2.1
  have he : (rh_ws w M)[r]? = some (rw_b w + r, .inl (rw_c w .long, len, .inr (.inl fun j => rhJ (M r j)))) := rh_e_arr (M := M) hr hkd
  have hrg : rL (M r i) := g1.arr hr hkd h0 h1
  have KK := K p l e R s m args below meth c H locs ls C ⟨g1, g2, rh_okc (a := (1, M r i)) hrg (rh_okt (rh_okt g3)), g4, g5⟩
  show W p l e R s m args below meth c H locs k.1 k.2.1 (Z below args s) (F0 m pc ls (rh_a w (t, i) :: va_rf (rh_r (rw_b w) r) :: S.map (rh_a w)))
  rw [rh_r_n, rh_a_i ht]
  refine va_lald C.1 C.2.1 hX.1 g4 r 3 he (rh_tys_get rfl) (rh_in h0 h1 hn) hd ?_
  rw [rh_cli h0 h1 hn]
  exact KK
theorem rh_aald_ (pc' : Nat) {r len t tt : Nat} {x i y : Int} {E : String} (hd : decode (ry_c Y) pc = .ok (.aaload, 1)) (hx : (r : Int) = x) (hr : r < rw_n w) (hkd : rw_kd w r = .inl (.object E, len)) (hT : rh_tl[tt]? = some (.object E)) (ht : rh_ik t = true) (h0 : 0 ≤ i) (h1 : i < (len : Int)) (hn : len ≤ 2147483647) (hy : rh_rr w M r i.toNat = rh_r (rw_b w) y) (hp : pc + 1 = pc') (K : rh_At w Y n k Z pc' L ((2, y) :: S) M) : rh_At w Y n k Z pc L ((t, i) :: (2, x) :: S) M := by
  subst hp
  subst hx
  intro p l e R s m args below meth c H locs ls C D
  obtain ⟨g1, g2, g3, g4, g5⟩ := D
  have hX := C.2.2.2.2.2.2.2.2.1
  have he : (rh_ws w M)[r]? = some (rw_b w + r, .inl (rw_c w (.object E), len, .inr (.inr (.inr (.inr fun j => rh_rr w M r j))))) := rh_e_arr (M := M) hr hkd
  have KK := K p l e R s m args below meth c H locs ls C ⟨g1, g2, rh_okc (a := (2, y)) trivial (rh_okt (rh_okt g3)), g4, g5⟩
  show W p l e R s m args below meth c H locs k.1 k.2.1 (Z below args s) (F0 m pc ls (rh_a w (t, i) :: va_rf (rh_r (rw_b w) r) :: S.map (rh_a w)))
  rw [rh_r_n, rh_a_i ht]
  refine va_aldq C.1 C.2.1 hX.1 g4 r tt he (rh_tys_get hT) (rh_in h0 h1 hn) hd ?_
  rw [rh_cl ⟨by omega, by omega⟩, hy]
  exact KK
/-- an element that is a fixed reference -/
theorem rh_aaldR (pc' : Nat) {r len t tt qr : Nat} {x i y : Int} {E : String} (hd : decode (ry_c Y) pc = .ok (.aaload, 1)) (hx : (r : Int) = x) (hr : r < rw_n w) (hkd : rw_kd w r = .inl (.object E, len)) (hT : rh_tl[tt]? = some (.object E)) (ht : rh_ik t = true) (h0 : 0 ≤ i) (h1 : i < (len : Int)) (hn : len ≤ 2147483647) (hf : rw_rf w r i.toNat = some qr) (hy : (qr : Int) = y) (hp : pc + 1 = pc') (K : rh_At w Y n k Z pc' L ((2, y) :: S) M) : rh_At w Y n k Z pc L ((t, i) :: (2, x) :: S) M := by
  refine rh_aald_ pc' hd hx hr hkd hT ht h0 h1 hn ?_ hp K
  subst hy
  simp only [rh_rr, hf]
  rw [rh_r_n]
/-- an element that is a reference that changes -/
theorem rh_aaldD (pc' : Nat) {r len t tt : Nat} {x i : Int} {E : String} (hd : decode (ry_c Y) pc = .ok (.aaload, 1)) (hx : (r : Int) = x) (hr : r < rw_n w) (hkd : rw_kd w r = .inl (.object E, len)) (hT : rh_tl[tt]? = some (.object E)) (ht : rh_ik t = true) (h0 : 0 ≤ i) (h1 : i < (len : Int)) (hn : len ≤ 2147483647) (hf : rw_rf w r i.toNat = none) (hp : pc + 1 = pc') (K : rh_At w Y n k Z pc' L ((2, M x i) :: S) M) : rh_At w Y n k Z pc L ((t, i) :: (2, x) :: S) M := by
  refine rh_aald_ pc' hd hx hr hkd hT ht h0 h1 hn ?_ hp K
  subst hx
  simp only [rh_rr, hf]
  rw [Int.toNat_of_nonneg h0]
theorem rh_alen (pc' : Nat) {r len tt : Nat} {x v : Int} {ty : FieldType} (hd : decode (ry_c Y) pc = .ok (.arraylength, 1)) (hx : (r : Int) = x) (hr : r < rw_n w) (hkd : rw_kd w r = .inl (ty, len)) (hT : rh_tl[tt]? = some ty) (hv : (len : Int) = v) (hn : len ≤ 2147483647) (hp : pc + 1 = pc') (K : rh_At w Y n k Z pc' L ((0, v) :: S) M) : rh_At w Y n k Z pc L ((2, x) :: S) M := by
  subst hp
  subst hx
  subst hv
  intro p l e R s m args below meth c H locs ls C D
  obtain ⟨g1, g2, g3, g4, g5⟩ := D
  have hX := C.2.2.2.2.2.2.2.2.1
  have he := rh_e_arr (M := M) hr hkd
  have KK := K p l e R s m args below meth c H locs ls C ⟨g1, g2, rh_okc (a := (0, (len : Int))) (show rI (len : Int) from ⟨by omega, by omega⟩) (rh_okt g3), g4, g5⟩
  show W p l e R s m args below meth c H locs k.1 k.2.1 (Z below args s) (F0 m pc ls (va_rf (rh_r (rw_b w) r) :: S.map (rh_a w)))
  rw [rh_r_n]
  exact va_alen (v := rhI (len : Int)) C.1 C.2.1 hX.1 g4 r tt he (rh_tys_get hT) Int32.ofInt_eq_ofNat.symm hd KK
theorem rh_ac_set {r : Nat} {ty : FieldType} {i v : Int} (h : rh_it ty = true) (h0 : 0 ≤ i) : rh_ac w (rh_set M r i v) r ty = .inl (upd (fun j => rhI (M r j)) i.toNat (rhI v)) := by
  rw [rh_ac_i h]
  congr 1
  funext j
  show rhI (rh_set M r i v r j) = if j = i.toNat then rhI v else rhI (M r j)
  by_cases hj : j = i.toNat
  · rw [if_pos hj, show (j : Int) = i by omega, rh_set_s]
  · rw [if_neg hj, rh_set_j (by omega)]
theorem rh_iast (pc' : Nat) {r len t u : Nat} {x i v : Int} (hd : decode (ry_c Y) pc = .ok (.iastore, 1)) (hx : (r : Int) = x) (hr : r < rw_n w) (hkd : rw_kd w r = .inl (.int, len)) (ht : rh_ik t = true) (hu : rh_ik u = true) (h0 : 0 ≤ i) (h1 : i < (len : Int)) (hn : len ≤ 2147483647) (hv : u = 0 ∨ rI v) (hp : pc + 1 = pc') (K : rh_At w Y n k Z pc' L S (rh_set M x i v)) : rh_At w Y n k Z pc L ((u, v) :: (t, i) :: (2, x) :: S) M := by
  subst hp
  subst hx
  intro p l e R s m args below meth c H locs ls C D
  obtain ⟨g1, g2, g3, g4, g5⟩ := D
  have hX := C.2.2.2.2.2.2.2.2.1
  have he := rh_e_arr (M := M) hr hkd
  rw [rh_ac_i rfl] at he
  have hrg : rh_rg .int v := rh_oki (rh_okh g3) hv
  have hset : (rh_ws w M).set r (rw_b w + r, .inl (rw_c w .int, len, .inl (upd (fun j => rhI (M r j)) i.toNat (rhI v)))) = rh_ws w (rh_set M r i v) := by
    refine rh_ws_set ?_ (fun z hz => rh_e_ne hz)
    simp only [rh_e, hkd]
    rw [rh_ac_set rfl h0]
  show W p l e R s m args below meth c H locs k.1 k.2.1 (Z below args s) (F0 m pc ls (rh_a w (u, v) :: rh_a w (t, i) :: va_rf (rh_r (rw_b w) r) :: S.map (rh_a w)))
  rw [rh_r_n, rh_a_i ht, rh_a_i hu]
  refine va_iast C.1 C.2.1 hX.1 g4 (rh_ws_D w M) g5.1 r 0 he (rh_tys_get rfl) (rh_in h0 h1 hn) hd ?_
  rw [rh_cl ⟨by omega, by omega⟩]
  rw [hset]
  exact fun H1 locs1 q1 _ q3 => K p l e R s m args below meth c H1 locs1 ls C ⟨g1.setA hkd hrg, g2, rh_okt (rh_okt (rh_okt g3)), q1, q3, g5.2⟩
theorem rh_bast (pc' : Nat) {r len t u : Nat} {x i v : Int} (hd : decode (ry_c Y) pc = .ok (.bastore, 1)) (hx : (r : Int) = x) (hr : r < rw_n w) (hkd : rw_kd w r = .inl (.byte, len)) (ht : rh_ik t = true) (hu : rh_ik u = true) (h0 : 0 ≤ i) (h1 : i < (len : Int)) (hn : len ≤ 2147483647) (hv : -128 ≤ v ∧ v ≤ 127) (hp : pc + 1 = pc') (K : rh_At w Y n k Z pc' L S (rh_set M x i v)) : rh_At w Y n k Z pc L ((u, v) :: (t, i) :: (2, x) :: S) M := by
  subst hp
  subst hx
  intro p l e R s m args below meth c H locs ls C D
  obtain ⟨g1, g2, g3, g4, g5⟩ := D
  have hX := C.2.2.2.2.2.2.2.2.1
  have he := rh_e_arr (M := M) hr hkd
  rw [rh_ac_i rfl] at he
  have hrg : rh_rg .byte v := hv
  have hn9 : vp_nar .byte (rhI v) = rhI v := by
    have := (rh_nar (b := rw_b w) (ty := .byte) (x := v) hrg (Or.inl rfl)).1
    unfold vp_nar
    rw [show Value.int (rhI v) = rh_v (rw_b w) .byte v from rfl, this]
    rfl
  have hset : (rh_ws w M).set r (rw_b w + r, .inl (rw_c w .byte, len, .inl (upd (fun j => rhI (M r j)) i.toNat (rhI v)))) = rh_ws w (rh_set M r i v) := by
    refine rh_ws_set ?_ (fun z hz => rh_e_ne hz)
    simp only [rh_e, hkd]
    rw [rh_ac_set rfl h0]
  show W p l e R s m args below meth c H locs k.1 k.2.1 (Z below args s) (F0 m pc ls (rh_a w (u, v) :: rh_a w (t, i) :: va_rf (rh_r (rw_b w) r) :: S.map (rh_a w)))
  rw [rh_r_n, rh_a_i ht, rh_a_i hu]
  refine va_bast C.1 C.2.1 hX.1 g4 (rh_ws_D w M) g5.1 r 1 he (rh_tys_get rfl) (rh_in h0 h1 hn) hd ?_
  rw [rh_cl ⟨by omega, by omega⟩]
  rw [hn9]
  rw [hset]
  exact fun H1 locs1 q1 _ q3 => K p l e R s m args below meth c H1 locs1 ls C ⟨g1.setA hkd hrg, g2, rh_okt (rh_okt (rh_okt g3)), q1, q3, g5.2⟩
theorem rh_zast (pc' : Nat) {r len t u : Nat} {x i v : Int} (hd : decode (ry_c Y) pc = .ok (.bastore, 1)) (hx : (r : Int) = x) (hr : r < rw_n w) (hkd : rw_kd w r = .inl (.boolean, len)) (ht : rh_ik t = true) (hu : rh_ik u = true) (h0 : 0 ≤ i) (h1 : i < (len : Int)) (hn : len ≤ 2147483647) (hv : 0 ≤ v ∧ v ≤ 1) (hp : pc + 1 = pc') (K : rh_At w Y n k Z pc' L S (rh_set M x i v)) : rh_At w Y n k Z pc L ((u, v) :: (t, i) :: (2, x) :: S) M := by
  subst hp
  subst hx
  intro p l e R s m args below meth c H locs ls C D
  obtain ⟨g1, g2, g3, g4, g5⟩ := D
  have hX := C.2.2.2.2.2.2.2.2.1
  have he := rh_e_arr (M := M) hr hkd
  rw [rh_ac_i rfl] at he
  have hrg : rh_rg .boolean v := hv
  have hn9 : vp_nar .boolean (rhI v) = rhI v := by
    have := (rh_nar (b := rw_b w) (ty := .boolean) (x := v) hrg (Or.inl rfl)).1
    unfold vp_nar
    rw [show Value.int (rhI v) = rh_v (rw_b w) .boolean v from rfl, this]
    rfl
  have hset : (rh_ws w M).set r (rw_b w + r, .inl (rw_c w .boolean, len, .inl (upd (fun j => rhI (M r j)) i.toNat (rhI v)))) = rh_ws w (rh_set M r i v) := by
    refine rh_ws_set ?_ (fun z hz => rh_e_ne hz)
    simp only [rh_e, hkd]
    rw [rh_ac_set rfl h0]
  show W p l e R s m args below meth c H locs k.1 k.2.1 (Z below args s) (F0 m pc ls (rh_a w (u, v) :: rh_a w (t, i) :: va_rf (rh_r (rw_b w) r) :: S.map (rh_a w)))
  rw [rh_r_n, rh_a_i ht, rh_a_i hu]
  refine va_zast C.1 C.2.1 hX.1 g4 (rh_ws_D w M) g5.1 r 2 he (rh_tys_get rfl) (rh_in h0 h1 hn) hd ?_
  rw [rh_cl ⟨by omega, by omega⟩]
  rw [hn9]
  rw [hset]
  exact fun H1 locs1 q1 _ q3 => K p l e R s m args below meth c H1 locs1 ls C ⟨g1.setA hkd hrg, g2, rh_okt (rh_okt (rh_okt g3)), q1, q3, g5.2⟩
theorem rh_last (pc' : Nat) {r len t u : Nat} {x i v : Int} (hd : decode (ry_c Y) pc = .ok (.lastore, 1)) (hx : (r : Int) = x) (hr : r < rw_n w) (hkd : rw_kd w r = .inl (.long, len)) (ht : rh_ik t = true) (hu : rh_jk u = true) (h0 : 0 ≤ i) (h1 : i < (len : Int)) (hn : len ≤ 2147483647) (hv : u = 1 ∨ rL v) (hp : pc + 1 = pc') (K : rh_At w Y n k Z pc' L S (rh_set M x i v)) : rh_At w Y n k Z pc L ((u, v) :: (t, i) :: (2, x) :: S) M := by
  subst hp
  subst hx
  intro p l e R s m args below meth c H locs ls C D
  obtain ⟨g1, g2, g3, g4, g5⟩ := D
  have hX := C.2.2.2.2.2.2.2.2.1
  have he : (rh_ws w M)[r]? = some (rw_b w + r, .inl (rw_c w .long, len, .inr (.inl fun j => rhJ (M r j)))) := rh_e_arr (M := M) hr hkd
  have hrg : rh_rg .long v := rh_okj (rh_okh g3) hv
  have hset : (rh_ws w M).set r (rw_b w + r, .inl (rw_c w .long, len, .inr (.inl (vp_updL (fun j => rhJ (M r j)) i.toNat (rhJ v))))) = rh_ws w (rh_set M r i v) := by
    refine rh_ws_set ?_ (fun z hz => rh_e_ne hz)
    simp only [rh_e, hkd, rh_ac]
    congr 5
    funext j
    show rhJ (rh_set M r i v r j) = if j = i.toNat then rhJ v else rhJ (M r j)
    by_cases hj : j = i.toNat
    · rw [if_pos hj, show (j : Int) = i by omega, rh_set_s]
    · rw [if_neg hj, rh_set_j (by omega)]
  show W p l e R s m args below meth c H locs k.1 k.2.1 (Z below args s) (F0 m pc ls (rh_a w (u, v) :: rh_a w (t, i) :: va_rf (rh_r (rw_b w) r) :: S.map (rh_a w)))
  rw [rh_r_n, rh_a_i ht, rh_a_j hu]
  refine va_last C.1 C.2.1 hX.1 g4 (rh_ws_D w M) g5.1 r 3 he (rh_tys_get rfl) (rh_in h0 h1 hn) hd ?_
  rw [rh_cl ⟨by omega, by omega⟩, hset]
  exact fun H1 locs1 q1 _ q3 => K p l e R s m args below meth c H1 locs1 ls C ⟨g1.setA hkd hrg, g2, rh_okt (rh_okt (rh_okt g3)), q1, q3, g5.2⟩
end RhHeap
