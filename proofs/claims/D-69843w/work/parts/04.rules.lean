/-! ===== the rules of At: one an instruction ===== -/
section RhRules
variable {w : rhW} {Y : rhY} {n : Nat} {k : Nat × Nat × Nat × Nat} {Z : List Frame → Array Value → State → State → Prop} {pc : Nat} {L : rhL} {S : List rhA} {M : rhM}
theorem rh_okc {a : rhA} {S : List rhA} (h : rh_ok a) (hs : ∀ z ∈ S, rh_ok z) : ∀ z ∈ a :: S, rh_ok z := by
  intro z hz
  rcases List.mem_cons.mp hz with rfl | hz
  · exact h
  · exact hs z hz
theorem rh_okt {a : rhA} {S : List rhA} (h : ∀ z ∈ a :: S, rh_ok z) : ∀ z ∈ S, rh_ok z := fun z hz => h z (List.mem_cons_of_mem _ hz)
theorem rh_okh {a : rhA} {S : List rhA} (h : ∀ z ∈ a :: S, rh_ok z) : rh_ok a := h a List.mem_cons_self
/-- sorts of ints, of longs -/
def rh_ik : Nat → Bool
  | 0 => true
  | 3 => true
  | _ => false
def rh_jk : Nat → Bool
  | 1 => true
  | 4 => true
  | _ => false
theorem rh_a_i {t : Nat} {x : Int} (h : rh_ik t = true) : rh_a w (t, x) = .int (rhI x) := by
  match t, h with
  | 0, _ => rfl
  | 3, _ => rfl
theorem rh_a_j {t : Nat} {x : Int} (h : rh_jk t = true) : rh_a w (t, x) = .long (rhJ x) := by
  match t, h with
  | 1, _ => rfl
  | 4, _ => rfl
theorem rh_oki {t : Nat} {x : Int} (h : rh_ok (t, x)) (hx : t = 0 ∨ rI x) : rI x := by
  rcases hx with rfl | hx
  · exact h
  · exact hx
theorem rh_okj {t : Nat} {x : Int} (h : rh_ok (t, x)) (hx : t = 1 ∨ rL x) : rL x := by
  rcases hx with rfl | hx
  · exact h
  · exact hx
/-- one more fact: what is known of the numbers at hand -/
theorem rh_known (K : rh_wm w M → (∀ z ∈ L, rh_ok z.2) → (∀ z ∈ S, rh_ok z) → rh_At w Y n k Z pc L S M) : rh_At w Y n k Z pc L S M := by
  intro p l e R s m args below meth c H locs ls C D
  exact K D.1 D.2.1 D.2.2.1 p l e R s m args below meth c H locs ls C D
theorem rh_stepS {pc' : Nat} {S' : List rhA} (K : rh_At w Y n k Z pc' L S' M)
    (hok : (∀ z ∈ L, rh_ok z.2) → (∀ z ∈ S, rh_ok z) → ∀ z ∈ S', rh_ok z)
    (hW : ∀ (p : Program) (l : Launch) (e : Env) (R : Room) (s : State) (m : MethodId) (args : Array Value) (below : List Frame) (meth : Method) (c : Code) (H : Heap) (locs : List Loc) (ls : Array Slot) (cells slots : Nat) (Qf : State → Prop), p.tables.exec = Jvm.exec → c.code = ry_c Y → lv_has ls (ry_L Y) (rh_lv w L) → (∀ z ∈ S, rh_ok z) → W p l e R s m args below meth c H locs cells slots Qf (F0 m pc' ls (S'.map (rh_a w))) → W p l e R s m args below meth c H locs cells slots Qf (F0 m pc ls (S.map (rh_a w)))) : rh_At w Y n k Z pc L S M := by
  intro p l e R s m args below meth c H locs ls C D
  exact hW p l e R s m args below meth c H locs ls _ _ _ C.1 C.2.1 D.2.2.2.2.2 D.2.2.1 (K p l e R s m args below meth c H locs ls C ⟨D.1, D.2.1, hok D.2.1 D.2.2.1, D.2.2.2⟩)

theorem rh_ild_n (pc' : Nat) {q : Fin 4} {i j : Nat} {x : Int} (hd : decode (ry_c Y) pc = .ok (.iload_n q, 1)) (hq : (q : Nat) = i) (hL : L[j]? = some (i, 0, x)) (hp : pc + 1 = pc') (K : rh_At w Y n k Z pc' L ((0, x) :: S) M) : rh_At w Y n k Z pc L S M := by
  subst hp
  exact rh_stepS K (fun h1 h2 => rh_okc (h1 _ (List.mem_of_getElem? hL)) h2) (fun p l e R s m args below meth c H locs ls cells slots Qf hx hb hl hs kk => lv_iload_n hx hb hd hq (lv_at hl j (rh_lv_get hL)) kk)
theorem rh_ild (pc' : Nat) {i j : Nat} {x : Int} (hd : decode (ry_c Y) pc = .ok (.iload i, 2)) (hL : L[j]? = some (i, 0, x)) (hp : pc + 2 = pc') (K : rh_At w Y n k Z pc' L ((0, x) :: S) M) : rh_At w Y n k Z pc L S M := by
  subst hp
  exact rh_stepS K (fun h1 h2 => rh_okc (h1 _ (List.mem_of_getElem? hL)) h2) (fun p l e R s m args below meth c H locs ls cells slots Qf hx hb hl hs kk => lv_iload hx hb hd (lv_at hl j (rh_lv_get hL)) kk)
theorem rh_lld_n (pc' : Nat) {q : Fin 4} {i j : Nat} {x : Int} (hd : decode (ry_c Y) pc = .ok (.lload_n q, 1)) (hq : (q : Nat) = i) (hL : L[j]? = some (i, 1, x)) (hp : pc + 1 = pc') (K : rh_At w Y n k Z pc' L ((1, x) :: S) M) : rh_At w Y n k Z pc L S M := by
  subst hp
  exact rh_stepS K (fun h1 h2 => rh_okc (h1 _ (List.mem_of_getElem? hL)) h2) (fun p l e R s m args below meth c H locs ls cells slots Qf hx hb hl hs kk => lv_lload_n hx hb hd hq (lv_at hl j (rh_lv_get hL)) kk)
theorem rh_lld (pc' : Nat) {i j : Nat} {x : Int} (hd : decode (ry_c Y) pc = .ok (.lload i, 2)) (hL : L[j]? = some (i, 1, x)) (hp : pc + 2 = pc') (K : rh_At w Y n k Z pc' L ((1, x) :: S) M) : rh_At w Y n k Z pc L S M := by
  subst hp
  exact rh_stepS K (fun h1 h2 => rh_okc (h1 _ (List.mem_of_getElem? hL)) h2) (fun p l e R s m args below meth c H locs ls cells slots Qf hx hb hl hs kk => lv_lload hx hb hd (lv_at hl j (rh_lv_get hL)) kk)
def rh_rk : Nat → Bool
  | 2 => true
  | 8 => true
  | 9 => true
  | 10 => true
  | _ => false
theorem rh_a_r {t : Nat} {x : Int} (h : rh_rk t = true) : rh_a w (t, x) = .null ∨ ∃ a, rh_a w (t, x) = .ref a := by
  match t, h with
  | 2, _ =>
    show va_rf (rh_r (rw_b w) x) = .null ∨ ∃ a, va_rf (rh_r (rw_b w) x) = .ref a
    cases rh_r (rw_b w) x with
    | none => exact Or.inl rfl
    | some a => exact Or.inr ⟨a, rfl⟩
  | 8, _ => exact Or.inr ⟨_, rfl⟩
  | 9, _ => exact Or.inr ⟨_, rfl⟩
  | 10, _ => exact Or.inr ⟨_, rfl⟩
theorem rh_ok_r {t : Nat} {x : Int} (h : rh_rk t = true) : rh_ok (t, x) := by
  match t, h with
  | 2, _ => trivial
  | 8, _ => trivial
  | 9, _ => trivial
  | 10, _ => trivial
theorem rh_ald_n (pc' : Nat) {q : Fin 4} {i j t : Nat} {x : Int} (hd : decode (ry_c Y) pc = .ok (.aload_n q, 1)) (hq : (q : Nat) = i) (hL : L[j]? = some (i, t, x)) (ht : rh_rk t = true) (hp : pc + 1 = pc') (K : rh_At w Y n k Z pc' L ((t, x) :: S) M) : rh_At w Y n k Z pc L S M := by
  subst hp
  refine rh_stepS K (fun h1 h2 => rh_okc (rh_ok_r ht) h2) (fun p l e R s m args below meth c H locs ls cells slots Qf hx hb hl hs kk => ?_)
  have hv := lv_at hl j (rh_lv_get hL)
  have kk : W p l e R s m args below meth c H locs cells slots Qf (F0 m (pc + 1) ls (rh_a w (t, x) :: S.map (rh_a w))) := kk
  rcases rh_a_r (w := w) (x := x) ht with h | ⟨a, h⟩
  · rw [h] at hv kk
    exact lv_aload_nN hx hb hd hq hv kk
  · rw [h] at hv kk
    exact lv_aload_n hx hb hd hq hv kk
theorem rh_ald (pc' : Nat) {i j t : Nat} {x : Int} (hd : decode (ry_c Y) pc = .ok (.aload i, 2)) (hL : L[j]? = some (i, t, x)) (ht : rh_rk t = true) (hp : pc + 2 = pc') (K : rh_At w Y n k Z pc' L ((t, x) :: S) M) : rh_At w Y n k Z pc L S M := by
  subst hp
  refine rh_stepS K (fun h1 h2 => rh_okc (rh_ok_r ht) h2) (fun p l e R s m args below meth c H locs ls cells slots Qf hx hb hl hs kk => ?_)
  have hv := lv_at hl j (rh_lv_get hL)
  have kk : W p l e R s m args below meth c H locs cells slots Qf (F0 m (pc + 2) ls (rh_a w (t, x) :: S.map (rh_a w))) := kk
  rcases rh_a_r (w := w) (x := x) ht with h | ⟨a, h⟩
  · rw [h] at hv kk
    exact lv_aloadN hx hb hd hv kk
  · rw [h] at hv kk
    exact lv_aload hx hb hd hv kk
/-- the locals behind a store -/
def rh_s1 (L : rhL) (i : Nat) (a : rhA) : rhL := (i, a) :: L.filter fun q => !(q.1 == i) && !(q.1 + 1 == i && rh_jk q.2.1)
def rh_s2 (L : rhL) (i : Nat) (a : rhA) : rhL := (i, a) :: L.filter fun q => !(q.1 == i) && (!(q.1 == i + 1) && !(q.1 + 1 == i && rh_jk q.2.1))
def rh_pk (L : rhL) (ks : List Nat) : rhL := ks.filterMap fun j => L[j]?
theorem rh_catj (w : rhW) (a : rhA) : ((rh_a w a).category == 2) = rh_jk a.1 := by
  rw [rh_cat]
  obtain ⟨t, x⟩ := a
  show ((if t = 1 ∨ t = 4 then 2 else 1) == 2) = rh_jk t
  unfold rh_jk
  split
  · rename_i h
    rcases h with rfl | rfl <;> rfl
  · rename_i h
    split
    · omega
    · omega
    · rfl
theorem rh_s1_lv (w : rhW) (L : rhL) (i : Nat) (a : rhA) : rh_lv w (rh_s1 L i a) = (i, rh_a w a) :: (rh_lv w L).filter (fun q => !(q.1 == i) && !(q.1 + 1 == i && q.2.category == 2)) := by
  simp only [rh_lv, rh_s1, List.map_cons, List.filter_map, List.cons.injEq, true_and]
  congr 1
  apply List.filter_congr
  intro q _
  simp only [Function.comp, rh_catj]
theorem rh_s2_lv (w : rhW) (L : rhL) (i : Nat) (a : rhA) : rh_lv w (rh_s2 L i a) = (i, rh_a w a) :: (rh_lv w L).filter (fun q => !(q.1 == i) && (!(q.1 == i + 1) && !(q.1 + 1 == i && q.2.category == 2))) := by
  simp only [rh_lv, rh_s2, List.map_cons, List.filter_map, List.cons.injEq, true_and]
  congr 1
  apply List.filter_congr
  intro q _
  simp only [Function.comp, rh_catj]
theorem rh_pk_lv {w : rhW} {L L' : rhL} {ks : List Nat} (h : rh_pk L ks = L') {ls : Array Slot} {nL : Nat} (hl : lv_has ls nL (rh_lv w L)) : lv_has ls nL (rh_lv w L') := by
  subst h
  refine ⟨hl.1, hl.2.1, fun q hq => ?_⟩
  obtain ⟨z, hz, rfl⟩ := List.mem_map.mp hq
  obtain ⟨j, -, hj⟩ := List.mem_filterMap.mp hz
  exact hl.2.2 _ (List.mem_map.mpr ⟨z, List.mem_of_getElem? hj, rfl⟩)
theorem rh_pk_ok {L L' : rhL} {ks : List Nat} (h : rh_pk L ks = L') (hl : ∀ z ∈ L, rh_ok z.2) : ∀ z ∈ L', rh_ok z.2 := by
  subst h
  intro z hz
  obtain ⟨j, -, hj⟩ := List.mem_filterMap.mp hz
  exact hl z (List.mem_of_getElem? hj)
theorem rh_s1_ok {L : rhL} {i : Nat} {a : rhA} (ha : rh_ok a) (hl : ∀ z ∈ L, rh_ok z.2) : ∀ z ∈ rh_s1 L i a, rh_ok z.2 := by
  intro z hz
  rcases List.mem_cons.mp hz with rfl | hz
  · exact ha
  · exact hl z (List.mem_filter.mp hz).1
theorem rh_s2_ok {L : rhL} {i : Nat} {a : rhA} (ha : rh_ok a) (hl : ∀ z ∈ L, rh_ok z.2) : ∀ z ∈ rh_s2 L i a, rh_ok z.2 := by
  intro z hz
  rcases List.mem_cons.mp hz with rfl | hz
  · exact ha
  · exact hl z (List.mem_filter.mp hz).1
/-- fewer locals, in another order -/
theorem rh_less {L' : rhL} (ks : List Nat) (h : rh_pk L ks = L') (K : rh_At w Y n k Z pc L' S M) : rh_At w Y n k Z pc L S M := by
  intro p l e R s m args below meth c H locs ls C D
  exact K p l e R s m args below meth c H locs ls C ⟨D.1, rh_pk_ok h D.2.1, D.2.2.1, D.2.2.2.1, D.2.2.2.2.1, rh_pk_lv h D.2.2.2.2.2⟩
theorem rh_ist_n (pc' : Nat) {L' : rhL} (ks : List Nat) {q : Fin 4} {i t : Nat} {x : Int} (hd : decode (ry_c Y) pc = .ok (.istore_n q, 1)) (hq : (q : Nat) = i) (hn : i < ry_L Y) (ht : rh_ik t = true) (hr : t = 0 ∨ rI x) (hL : rh_pk (rh_s1 L i (0, x)) ks = L') (hp : pc + 1 = pc') (K : rh_At w Y n k Z pc' L' S M) : rh_At w Y n k Z pc L ((t, x) :: S) M := by
  subst hp
  intro p l e R s m args below meth c H locs ls C D
  obtain ⟨h1, h2, h3, h4, h5, h6⟩ := D
  have hr : rI x := rh_oki (rh_okh h3) hr
  have e1 : rh_a w (t, x) = rh_a w (0, x) := by rw [rh_a_i ht]; rfl
  show W p l e R s m args below meth c H locs k.1 k.2.1 (Z below args s) (F0 m pc ls (rh_a w (t, x) :: S.map (rh_a w)))
  rw [e1]
  exact lv_istore_n C.1 C.2.1 hd hq h6 hn (rh_s1_lv w L i (0, x)).symm (fun ls' hl' => K p l e R s m args below meth c H locs ls' C ⟨h1, rh_pk_ok hL (rh_s1_ok (a := (0, x)) hr h2), rh_okt h3, h4, h5, rh_pk_lv hL hl'⟩)
theorem rh_ist (pc' : Nat) {L' : rhL} (ks : List Nat) {i t : Nat} {x : Int} (hd : decode (ry_c Y) pc = .ok (.istore i, 2)) (hn : i < ry_L Y) (ht : rh_ik t = true) (hr : t = 0 ∨ rI x) (hL : rh_pk (rh_s1 L i (0, x)) ks = L') (hp : pc + 2 = pc') (K : rh_At w Y n k Z pc' L' S M) : rh_At w Y n k Z pc L ((t, x) :: S) M := by
  subst hp
  intro p l e R s m args below meth c H locs ls C D
  obtain ⟨h1, h2, h3, h4, h5, h6⟩ := D
  have hr : rI x := rh_oki (rh_okh h3) hr
  have e1 : rh_a w (t, x) = rh_a w (0, x) := by rw [rh_a_i ht]; rfl
  show W p l e R s m args below meth c H locs k.1 k.2.1 (Z below args s) (F0 m pc ls (rh_a w (t, x) :: S.map (rh_a w)))
  rw [e1]
  exact lv_istore C.1 C.2.1 hd h6 hn (rh_s1_lv w L i (0, x)).symm (fun ls' hl' => K p l e R s m args below meth c H locs ls' C ⟨h1, rh_pk_ok hL (rh_s1_ok (a := (0, x)) hr h2), rh_okt h3, h4, h5, rh_pk_lv hL hl'⟩)
theorem rh_lst_n (pc' : Nat) {L' : rhL} (ks : List Nat) {q : Fin 4} {i t : Nat} {x : Int} (hd : decode (ry_c Y) pc = .ok (.lstore_n q, 1)) (hq : (q : Nat) = i) (hn : i + 1 < ry_L Y) (ht : rh_jk t = true) (hr : t = 1 ∨ rL x) (hL : rh_pk (rh_s2 L i (1, x)) ks = L') (hp : pc + 1 = pc') (K : rh_At w Y n k Z pc' L' S M) : rh_At w Y n k Z pc L ((t, x) :: S) M := by
  subst hp
  intro p l e R s m args below meth c H locs ls C D
  obtain ⟨h1, h2, h3, h4, h5, h6⟩ := D
  have hr : rL x := rh_okj (rh_okh h3) hr
  have e1 : rh_a w (t, x) = rh_a w (1, x) := by rw [rh_a_j ht]; rfl
  show W p l e R s m args below meth c H locs k.1 k.2.1 (Z below args s) (F0 m pc ls (rh_a w (t, x) :: S.map (rh_a w)))
  rw [e1]
  exact lv_lstore_n C.1 C.2.1 hd hq h6 hn (rh_s2_lv w L i (1, x)).symm (fun ls' hl' => K p l e R s m args below meth c H locs ls' C ⟨h1, rh_pk_ok hL (rh_s2_ok (a := (1, x)) hr h2), rh_okt h3, h4, h5, rh_pk_lv hL hl'⟩)
theorem rh_lst (pc' : Nat) {L' : rhL} (ks : List Nat) {i t : Nat} {x : Int} (hd : decode (ry_c Y) pc = .ok (.lstore i, 2)) (hn : i + 1 < ry_L Y) (ht : rh_jk t = true) (hr : t = 1 ∨ rL x) (hL : rh_pk (rh_s2 L i (1, x)) ks = L') (hp : pc + 2 = pc') (K : rh_At w Y n k Z pc' L' S M) : rh_At w Y n k Z pc L ((t, x) :: S) M := by
  subst hp
  intro p l e R s m args below meth c H locs ls C D
  obtain ⟨h1, h2, h3, h4, h5, h6⟩ := D
  have hr : rL x := rh_okj (rh_okh h3) hr
  have e1 : rh_a w (t, x) = rh_a w (1, x) := by rw [rh_a_j ht]; rfl
  show W p l e R s m args below meth c H locs k.1 k.2.1 (Z below args s) (F0 m pc ls (rh_a w (t, x) :: S.map (rh_a w)))
  rw [e1]
  exact lv_lstore C.1 C.2.1 hd h6 hn (rh_s2_lv w L i (1, x)).symm (fun ls' hl' => K p l e R s m args below meth c H locs ls' C ⟨h1, rh_pk_ok hL (rh_s2_ok (a := (1, x)) hr h2), rh_okt h3, h4, h5, rh_pk_lv hL hl'⟩)
theorem rh_ast_n (pc' : Nat) {L' : rhL} (ks : List Nat) {q : Fin 4} {i t : Nat} {x : Int} (hd : decode (ry_c Y) pc = .ok (.astore_n q, 1)) (hq : (q : Nat) = i) (hn : i < ry_L Y) (ht : rh_rk t = true) (hL : rh_pk (rh_s1 L i (t, x)) ks = L') (hp : pc + 1 = pc') (K : rh_At w Y n k Z pc' L' S M) : rh_At w Y n k Z pc L ((t, x) :: S) M := by
  subst hp
  intro p l e R s m args below meth c H locs ls C D
  obtain ⟨h1, h2, h3, h4, h5, h6⟩ := D
  show W p l e R s m args below meth c H locs k.1 k.2.1 (Z below args s) (F0 m pc ls (rh_a w (t, x) :: S.map (rh_a w)))
  have hs := rh_s1_lv w L i (t, x)
  have kk : ∀ ls' : Array Slot, lv_has ls' (ry_L Y) (rh_lv w (rh_s1 L i (t, x))) → W p l e R s m args below meth c H locs k.1 k.2.1 (Z below args s) (F0 m (pc + 1) ls' (S.map (rh_a w))) := fun ls' hl' => K p l e R s m args below meth c H locs ls' C ⟨h1, rh_pk_ok hL (rh_s1_ok (a := (t, x)) (rh_ok_r ht) h2), rh_okt h3, h4, h5, rh_pk_lv hL hl'⟩
  rcases rh_a_r (w := w) (x := x) ht with h | ⟨a, h⟩
  · rw [h] at hs ⊢
    exact lv_astore_nN C.1 C.2.1 hd hq h6 hn hs.symm kk
  · rw [h] at hs ⊢
    exact lv_astore_n C.1 C.2.1 hd hq h6 hn hs.symm kk
theorem rh_ast (pc' : Nat) {L' : rhL} (ks : List Nat) {i t : Nat} {x : Int} (hd : decode (ry_c Y) pc = .ok (.astore i, 2)) (hn : i < ry_L Y) (ht : rh_rk t = true) (hL : rh_pk (rh_s1 L i (t, x)) ks = L') (hp : pc + 2 = pc') (K : rh_At w Y n k Z pc' L' S M) : rh_At w Y n k Z pc L ((t, x) :: S) M := by
  subst hp
  intro p l e R s m args below meth c H locs ls C D
  obtain ⟨h1, h2, h3, h4, h5, h6⟩ := D
  show W p l e R s m args below meth c H locs k.1 k.2.1 (Z below args s) (F0 m pc ls (rh_a w (t, x) :: S.map (rh_a w)))
  have hs := rh_s1_lv w L i (t, x)
  have kk : ∀ ls' : Array Slot, lv_has ls' (ry_L Y) (rh_lv w (rh_s1 L i (t, x))) → W p l e R s m args below meth c H locs k.1 k.2.1 (Z below args s) (F0 m (pc + 2) ls' (S.map (rh_a w))) := fun ls' hl' => K p l e R s m args below meth c H locs ls' C ⟨h1, rh_pk_ok hL (rh_s1_ok (a := (t, x)) (rh_ok_r ht) h2), rh_okt h3, h4, h5, rh_pk_lv hL hl'⟩
  rcases rh_a_r (w := w) (x := x) ht with h | ⟨a, h⟩
  · rw [h] at hs ⊢
    exact lv_astoreN C.1 C.2.1 hd h6 hn hs.symm kk
  · rw [h] at hs ⊢
    exact lv_astore C.1 C.2.1 hd h6 hn hs.symm kk
theorem rh_inc (pc' : Nat) {L' : rhL} (ks : List Nat) {i j : Nat} {x c0 : Int} (hd : decode (ry_c Y) pc = .ok (.iinc i c0, 3)) (hj : L[j]? = some (i, 0, x)) (hn : i < ry_L Y) (hr : rI (x + c0)) (hL : rh_pk (rh_s1 L i (0, x + c0)) ks = L') (hp : pc + 3 = pc') (K : rh_At w Y n k Z pc' L' S M) : rh_At w Y n k Z pc L S M := by
  subst hp
  intro p l e R s m args below meth c H locs ls C D
  obtain ⟨h1, h2, h3, h4, h5, h6⟩ := D
  exact lv_iinc (v := rhI (x + c0)) C.1 C.2.1 hd h6 (rh_lv_get hj) (Int32.ofInt_add x c0).symm hn (rh_s1_lv w L i (0, x + c0)).symm (fun ls' hl' => K p l e R s m args below meth c H locs ls' C ⟨h1, rh_pk_ok hL (rh_s1_ok (a := (0, x + c0)) hr h2), h3, h4, h5, rh_pk_lv hL hl'⟩)
theorem rh_ico (pc' : Nat) {v : Int} (hd : decode (ry_c Y) pc = .ok (.iconst v, 1)) (hr : rI v) (hp : pc + 1 = pc') (K : rh_At w Y n k Z pc' L ((0, v) :: S) M) : rh_At w Y n k Z pc L S M := by
  subst hp
  exact rh_stepS K (fun _ h2 => rh_okc (a := (0, v)) hr h2) (fun p l e R s m args below meth c H locs ls cells slots Qf hx hb hl hs kk => lv_iconst hx hb hd rfl kk)
theorem rh_bip (pc' : Nat) {v : Int} (hd : decode (ry_c Y) pc = .ok (.bipush v, 2)) (hv : (Int8.ofInt v).toInt32 = rhI v) (hr : rI v) (hp : pc + 2 = pc') (K : rh_At w Y n k Z pc' L ((0, v) :: S) M) : rh_At w Y n k Z pc L S M := by
  subst hp
  exact rh_stepS K (fun _ h2 => rh_okc (a := (0, v)) hr h2) (fun p l e R s m args below meth c H locs ls cells slots Qf hx hb hl hs kk => lv_bipush hx hb hd hv kk)
theorem rh_sip (pc' : Nat) {v : Int} (hd : decode (ry_c Y) pc = .ok (.sipush v, 3)) (hv : (Int16.ofInt v).toInt32 = rhI v) (hr : rI v) (hp : pc + 3 = pc') (K : rh_At w Y n k Z pc' L ((0, v) :: S) M) : rh_At w Y n k Z pc L S M := by
  subst hp
  exact rh_stepS K (fun _ h2 => rh_okc (a := (0, v)) hr h2) (fun p l e R s m args below meth c H locs ls cells slots Qf hx hb hl hs kk => lv_sipush hx hb hd hv kk)
theorem rh_lco (pc' : Nat) {v : Fin 2} {x : Int} (hd : decode (ry_c Y) pc = .ok (.lconst v, 1)) (hv : Int64.ofNat (v : Nat) = rhJ x) (hr : rL x) (hp : pc + 1 = pc') (K : rh_At w Y n k Z pc' L ((1, x) :: S) M) : rh_At w Y n k Z pc L S M := by
  subst hp
  exact rh_stepS K (fun _ h2 => rh_okc (a := (1, x)) hr h2) (fun p l e R s m args below meth c H locs ls cells slots Qf hx hb hl hs kk => lv_lconst hx hb hd hv kk)
theorem rh_ldc (pc' : Nat) {idx : Nat} {x : Int} {v : Int32} (hq : Cond.constant (ry_y Y).cls idx v ∈ lw_all) (hv : v = rhI x) (hd : decode (ry_c Y) pc = .ok (.ldc idx, 2)) (hr : rI x) (hp : pc + 2 = pc') (K : rh_At w Y n k Z pc' L ((0, x) :: S) M) : rh_At w Y n k Z pc L S M := by
  subst hp
  subst hv
  intro p l e R s m args below meth c H locs ls C D
  exact lv_ldc C.1 C.2.1 C.2.2.2.2.2.1 (C.2.2.2.2.2.2.2.1 _ hq) hd (K p l e R s m args below meth c H locs ls C ⟨D.1, D.2.1, rh_okc (a := (0, x)) hr D.2.2.1, D.2.2.2⟩)
theorem rh_ldcw (pc' : Nat) {idx : Nat} {x : Int} {v : Int32} (hq : Cond.constant (ry_y Y).cls idx v ∈ lw_all) (hv : v = rhI x) (hd : decode (ry_c Y) pc = .ok (.ldc_w idx, 3)) (hr : rI x) (hp : pc + 3 = pc') (K : rh_At w Y n k Z pc' L ((0, x) :: S) M) : rh_At w Y n k Z pc L S M := by
  subst hp
  subst hv
  intro p l e R s m args below meth c H locs ls C D
  exact lv_ldcw C.1 C.2.1 C.2.2.2.2.2.1 (C.2.2.2.2.2.2.2.1 _ hq) hd (K p l e R s m args below meth c H locs ls C ⟨D.1, D.2.1, rh_okc (a := (0, x)) hr D.2.2.1, D.2.2.2⟩)
theorem rh_ldcl (pc' : Nat) {idx : Nat} {x : Int} {v : Int64} (hq : Cond.constantLong (ry_y Y).cls idx v ∈ lw_all) (hv : v = rhJ x) (hd : decode (ry_c Y) pc = .ok (.ldc2_w idx, 3)) (hr : rL x) (hp : pc + 3 = pc') (K : rh_At w Y n k Z pc' L ((1, x) :: S) M) : rh_At w Y n k Z pc L S M := by
  subst hp
  subst hv
  intro p l e R s m args below meth c H locs ls C D
  exact lv_ldc2 C.1 C.2.1 C.2.2.2.2.2.1 (C.2.2.2.2.2.2.2.1 _ hq) hd (K p l e R s m args below meth c H locs ls C ⟨D.1, D.2.1, rh_okc (a := (1, x)) hr D.2.2.1, D.2.2.2⟩)
theorem rh_iadd (pc' : Nat) {t u : Nat} {x y : Int} (hd : decode (ry_c Y) pc = .ok (.iadd, 1)) (ht : rh_ik t = true) (hu : rh_ik u = true) (hp : pc + 1 = pc') (K : rh_At w Y n k Z pc' L ((3, x + y) :: S) M) : rh_At w Y n k Z pc L ((u, y) :: (t, x) :: S) M := by
  subst hp
  refine rh_stepS K (fun _ h2 => rh_okc (a := (3, x + y)) trivial (rh_okt (rh_okt h2))) (fun p l e R s m args below meth c H locs ls cells slots Qf hx hb hl hs kk => ?_)
  show W p l e R s m args below meth c H locs cells slots Qf (F0 m pc ls (rh_a w (u, y) :: rh_a w (t, x) :: S.map (rh_a w)))
  rw [rh_a_i ht, rh_a_i hu]
  refine lv_iadd hx hb hd ?_
  rw [← Int32.ofInt_add]
  exact kk
theorem rh_isub (pc' : Nat) {t u : Nat} {x y : Int} (hd : decode (ry_c Y) pc = .ok (.isub, 1)) (ht : rh_ik t = true) (hu : rh_ik u = true) (hp : pc + 1 = pc') (K : rh_At w Y n k Z pc' L ((3, x - y) :: S) M) : rh_At w Y n k Z pc L ((u, y) :: (t, x) :: S) M := by
  subst hp
  refine rh_stepS K (fun _ h2 => rh_okc (a := (3, x - y)) trivial (rh_okt (rh_okt h2))) (fun p l e R s m args below meth c H locs ls cells slots Qf hx hb hl hs kk => ?_)
  show W p l e R s m args below meth c H locs cells slots Qf (F0 m pc ls (rh_a w (u, y) :: rh_a w (t, x) :: S.map (rh_a w)))
  rw [rh_a_i ht, rh_a_i hu]
  refine lv_isub hx hb hd ?_
  rw [← Int32.ofInt_sub]
  exact kk
theorem rh_imul (pc' : Nat) {t u : Nat} {x y : Int} (hd : decode (ry_c Y) pc = .ok (.imul, 1)) (ht : rh_ik t = true) (hu : rh_ik u = true) (hp : pc + 1 = pc') (K : rh_At w Y n k Z pc' L ((3, x * y) :: S) M) : rh_At w Y n k Z pc L ((u, y) :: (t, x) :: S) M := by
  subst hp
  refine rh_stepS K (fun _ h2 => rh_okc (a := (3, x * y)) trivial (rh_okt (rh_okt h2))) (fun p l e R s m args below meth c H locs ls cells slots Qf hx hb hl hs kk => ?_)
  show W p l e R s m args below meth c H locs cells slots Qf (F0 m pc ls (rh_a w (u, y) :: rh_a w (t, x) :: S.map (rh_a w)))
  rw [rh_a_i ht, rh_a_i hu]
  refine lv_imul hx hb hd ?_
  rw [← Int32.ofInt_mul]
  exact kk
theorem rh_ladd (pc' : Nat) {t u : Nat} {x y : Int} (hd : decode (ry_c Y) pc = .ok (.ladd, 1)) (ht : rh_jk t = true) (hu : rh_jk u = true) (hp : pc + 1 = pc') (K : rh_At w Y n k Z pc' L ((4, x + y) :: S) M) : rh_At w Y n k Z pc L ((u, y) :: (t, x) :: S) M := by
  subst hp
  refine rh_stepS K (fun _ h2 => rh_okc (a := (4, x + y)) trivial (rh_okt (rh_okt h2))) (fun p l e R s m args below meth c H locs ls cells slots Qf hx hb hl hs kk => ?_)
  show W p l e R s m args below meth c H locs cells slots Qf (F0 m pc ls (rh_a w (u, y) :: rh_a w (t, x) :: S.map (rh_a w)))
  rw [rh_a_j ht, rh_a_j hu]
  refine lv_ladd hx hb hd ?_
  rw [← Int64.ofInt_add]
  exact kk
theorem rh_lsub (pc' : Nat) {t u : Nat} {x y : Int} (hd : decode (ry_c Y) pc = .ok (.lsub, 1)) (ht : rh_jk t = true) (hu : rh_jk u = true) (hp : pc + 1 = pc') (K : rh_At w Y n k Z pc' L ((4, x - y) :: S) M) : rh_At w Y n k Z pc L ((u, y) :: (t, x) :: S) M := by
  subst hp
  refine rh_stepS K (fun _ h2 => rh_okc (a := (4, x - y)) trivial (rh_okt (rh_okt h2))) (fun p l e R s m args below meth c H locs ls cells slots Qf hx hb hl hs kk => ?_)
  show W p l e R s m args below meth c H locs cells slots Qf (F0 m pc ls (rh_a w (u, y) :: rh_a w (t, x) :: S.map (rh_a w)))
  rw [rh_a_j ht, rh_a_j hu]
  refine lv_lsub hx hb hd ?_
  rw [← Int64.ofInt_sub]
  exact kk
theorem rh_lmul (pc' : Nat) {t u : Nat} {x y : Int} (hd : decode (ry_c Y) pc = .ok (.lmul, 1)) (ht : rh_jk t = true) (hu : rh_jk u = true) (hp : pc + 1 = pc') (K : rh_At w Y n k Z pc' L ((4, x * y) :: S) M) : rh_At w Y n k Z pc L ((u, y) :: (t, x) :: S) M := by
  subst hp
  refine rh_stepS K (fun _ h2 => rh_okc (a := (4, x * y)) trivial (rh_okt (rh_okt h2))) (fun p l e R s m args below meth c H locs ls cells slots Qf hx hb hl hs kk => ?_)
  show W p l e R s m args below meth c H locs cells slots Qf (F0 m pc ls (rh_a w (u, y) :: rh_a w (t, x) :: S.map (rh_a w)))
  rw [rh_a_j ht, rh_a_j hu]
  refine lv_lmul hx hb hd ?_
  rw [← Int64.ofInt_mul]
  exact kk
theorem rh_ineg (pc' : Nat) {t : Nat} {x : Int} (hd : decode (ry_c Y) pc = .ok (.ineg, 1)) (ht : rh_ik t = true) (hp : pc + 1 = pc') (K : rh_At w Y n k Z pc' L ((3, -x) :: S) M) : rh_At w Y n k Z pc L ((t, x) :: S) M := by
  subst hp
  refine rh_stepS K (fun _ h2 => rh_okc (a := (3, -x)) trivial (rh_okt h2)) (fun p l e R s m args below meth c H locs ls cells slots Qf hx hb hl hs kk => ?_)
  show W p l e R s m args below meth c H locs cells slots Qf (F0 m pc ls (rh_a w (t, x) :: S.map (rh_a w)))
  rw [rh_a_i ht]
  refine lv_ineg hx hb hd ?_
  rw [← Int32.ofInt_neg]
  exact kk
theorem rh_iand_ (pc' : Nat) {t u : Nat} {x y : Int} (hd : decode (ry_c Y) pc = .ok (.iand, 1)) (ht : rh_ik t = true) (hu : rh_ik u = true) (hp : pc + 1 = pc') (K : rh_At w Y n k Z pc' L ((0, rh_and x y) :: S) M) : rh_At w Y n k Z pc L ((u, y) :: (t, x) :: S) M := by
  subst hp
  refine rh_stepS K (fun _ h2 => rh_okc (a := (0, rh_and x y)) (rh_ri _) (rh_okt (rh_okt h2))) (fun p l e R s m args below meth c H locs ls cells slots Qf hx hb hl hs kk => ?_)
  show W p l e R s m args below meth c H locs cells slots Qf (F0 m pc ls (rh_a w (u, y) :: rh_a w (t, x) :: S.map (rh_a w)))
  rw [rh_a_i ht, rh_a_i hu]
  refine lv_iand hx hb hd ?_
  have e1 : rhI (rh_and x y) = rhI x &&& rhI y := Int32.ofInt_toInt _
  rw [← e1]
  exact kk
theorem rh_ior_ (pc' : Nat) {t u : Nat} {x y : Int} (hd : decode (ry_c Y) pc = .ok (.ior, 1)) (ht : rh_ik t = true) (hu : rh_ik u = true) (hp : pc + 1 = pc') (K : rh_At w Y n k Z pc' L ((0, rh_or x y) :: S) M) : rh_At w Y n k Z pc L ((u, y) :: (t, x) :: S) M := by
  subst hp
  refine rh_stepS K (fun _ h2 => rh_okc (a := (0, rh_or x y)) (rh_ri _) (rh_okt (rh_okt h2))) (fun p l e R s m args below meth c H locs ls cells slots Qf hx hb hl hs kk => ?_)
  show W p l e R s m args below meth c H locs cells slots Qf (F0 m pc ls (rh_a w (u, y) :: rh_a w (t, x) :: S.map (rh_a w)))
  rw [rh_a_i ht, rh_a_i hu]
  refine lv_ior hx hb hd ?_
  have e1 : rhI (rh_or x y) = rhI x ||| rhI y := Int32.ofInt_toInt _
  rw [← e1]
  exact kk
theorem rh_ixor_ (pc' : Nat) {t u : Nat} {x y : Int} (hd : decode (ry_c Y) pc = .ok (.ixor, 1)) (ht : rh_ik t = true) (hu : rh_ik u = true) (hp : pc + 1 = pc') (K : rh_At w Y n k Z pc' L ((0, rh_xor x y) :: S) M) : rh_At w Y n k Z pc L ((u, y) :: (t, x) :: S) M := by
  subst hp
  refine rh_stepS K (fun _ h2 => rh_okc (a := (0, rh_xor x y)) (rh_ri _) (rh_okt (rh_okt h2))) (fun p l e R s m args below meth c H locs ls cells slots Qf hx hb hl hs kk => ?_)
  show W p l e R s m args below meth c H locs cells slots Qf (F0 m pc ls (rh_a w (u, y) :: rh_a w (t, x) :: S.map (rh_a w)))
  rw [rh_a_i ht, rh_a_i hu]
  refine lv_ixor hx hb hd ?_
  have e1 : rhI (rh_xor x y) = rhI x ^^^ rhI y := Int32.ofInt_toInt _
  rw [← e1]
  exact kk
theorem rh_ishl_ (pc' : Nat) {t u : Nat} {x y : Int} (hd : decode (ry_c Y) pc = .ok (.ishl, 1)) (ht : rh_ik t = true) (hu : rh_ik u = true) (hp : pc + 1 = pc') (K : rh_At w Y n k Z pc' L ((0, rh_shl x y) :: S) M) : rh_At w Y n k Z pc L ((u, y) :: (t, x) :: S) M := by
  subst hp
  refine rh_stepS K (fun _ h2 => rh_okc (a := (0, rh_shl x y)) (rh_ri _) (rh_okt (rh_okt h2))) (fun p l e R s m args below meth c H locs ls cells slots Qf hx hb hl hs kk => ?_)
  show W p l e R s m args below meth c H locs cells slots Qf (F0 m pc ls (rh_a w (u, y) :: rh_a w (t, x) :: S.map (rh_a w)))
  rw [rh_a_i ht, rh_a_i hu]
  refine lv_ishl hx hb hd ?_
  have e1 : rhI (rh_shl x y) = rhI x <<< (rhI y &&& 31) := Int32.ofInt_toInt _
  rw [← e1]
  exact kk
theorem rh_ishr_ (pc' : Nat) {t u : Nat} {x y : Int} (hd : decode (ry_c Y) pc = .ok (.ishr, 1)) (ht : rh_ik t = true) (hu : rh_ik u = true) (hp : pc + 1 = pc') (K : rh_At w Y n k Z pc' L ((0, rh_shr x y) :: S) M) : rh_At w Y n k Z pc L ((u, y) :: (t, x) :: S) M := by
  subst hp
  refine rh_stepS K (fun _ h2 => rh_okc (a := (0, rh_shr x y)) (rh_ri _) (rh_okt (rh_okt h2))) (fun p l e R s m args below meth c H locs ls cells slots Qf hx hb hl hs kk => ?_)
  show W p l e R s m args below meth c H locs cells slots Qf (F0 m pc ls (rh_a w (u, y) :: rh_a w (t, x) :: S.map (rh_a w)))
  rw [rh_a_i ht, rh_a_i hu]
  refine lv_ishr hx hb hd ?_
  have e1 : rhI (rh_shr x y) = rhI x >>> (rhI y &&& 31) := Int32.ofInt_toInt _
  rw [← e1]
  exact kk
theorem rh_land_ (pc' : Nat) {t u : Nat} {x y : Int} (hd : decode (ry_c Y) pc = .ok (.land, 1)) (ht : rh_jk t = true) (hu : rh_jk u = true) (hp : pc + 1 = pc') (K : rh_At w Y n k Z pc' L ((1, rh_land x y) :: S) M) : rh_At w Y n k Z pc L ((u, y) :: (t, x) :: S) M := by
  subst hp
  refine rh_stepS K (fun _ h2 => rh_okc (a := (1, rh_land x y)) (rh_rl _) (rh_okt (rh_okt h2))) (fun p l e R s m args below meth c H locs ls cells slots Qf hx hb hl hs kk => ?_)
  show W p l e R s m args below meth c H locs cells slots Qf (F0 m pc ls (rh_a w (u, y) :: rh_a w (t, x) :: S.map (rh_a w)))
  rw [rh_a_j ht, rh_a_j hu]
  refine lv_land hx hb hd ?_
  have e1 : rhJ (rh_land x y) = rhJ x &&& rhJ y := Int64.ofInt_toInt _
  rw [← e1]
  exact kk
theorem rh_lor_ (pc' : Nat) {t u : Nat} {x y : Int} (hd : decode (ry_c Y) pc = .ok (.lor, 1)) (ht : rh_jk t = true) (hu : rh_jk u = true) (hp : pc + 1 = pc') (K : rh_At w Y n k Z pc' L ((1, rh_lor x y) :: S) M) : rh_At w Y n k Z pc L ((u, y) :: (t, x) :: S) M := by
  subst hp
  refine rh_stepS K (fun _ h2 => rh_okc (a := (1, rh_lor x y)) (rh_rl _) (rh_okt (rh_okt h2))) (fun p l e R s m args below meth c H locs ls cells slots Qf hx hb hl hs kk => ?_)
  show W p l e R s m args below meth c H locs cells slots Qf (F0 m pc ls (rh_a w (u, y) :: rh_a w (t, x) :: S.map (rh_a w)))
  rw [rh_a_j ht, rh_a_j hu]
  refine lv_lor hx hb hd ?_
  have e1 : rhJ (rh_lor x y) = rhJ x ||| rhJ y := Int64.ofInt_toInt _
  rw [← e1]
  exact kk
theorem rh_lxor_ (pc' : Nat) {t u : Nat} {x y : Int} (hd : decode (ry_c Y) pc = .ok (.lxor, 1)) (ht : rh_jk t = true) (hu : rh_jk u = true) (hp : pc + 1 = pc') (K : rh_At w Y n k Z pc' L ((1, rh_lxor x y) :: S) M) : rh_At w Y n k Z pc L ((u, y) :: (t, x) :: S) M := by
  subst hp
  refine rh_stepS K (fun _ h2 => rh_okc (a := (1, rh_lxor x y)) (rh_rl _) (rh_okt (rh_okt h2))) (fun p l e R s m args below meth c H locs ls cells slots Qf hx hb hl hs kk => ?_)
  show W p l e R s m args below meth c H locs cells slots Qf (F0 m pc ls (rh_a w (u, y) :: rh_a w (t, x) :: S.map (rh_a w)))
  rw [rh_a_j ht, rh_a_j hu]
  refine lv_lxor hx hb hd ?_
  have e1 : rhJ (rh_lxor x y) = rhJ x ^^^ rhJ y := Int64.ofInt_toInt _
  rw [← e1]
  exact kk
theorem rh_lshl_ (pc' : Nat) {t u : Nat} {x y : Int} (hd : decode (ry_c Y) pc = .ok (.lshl, 1)) (ht : rh_jk t = true) (hu : rh_ik u = true) (hp : pc + 1 = pc') (K : rh_At w Y n k Z pc' L ((1, rh_lshl x y) :: S) M) : rh_At w Y n k Z pc L ((u, y) :: (t, x) :: S) M := by
  subst hp
  refine rh_stepS K (fun _ h2 => rh_okc (a := (1, rh_lshl x y)) (rh_rl _) (rh_okt (rh_okt h2))) (fun p l e R s m args below meth c H locs ls cells slots Qf hx hb hl hs kk => ?_)
  show W p l e R s m args below meth c H locs cells slots Qf (F0 m pc ls (rh_a w (u, y) :: rh_a w (t, x) :: S.map (rh_a w)))
  rw [rh_a_j ht, rh_a_i hu]
  have e1 : rhJ (rh_lshl x y) = rhJ x <<< ((rhI y).toInt64 &&& 63) := Int64.ofInt_toInt _
  have kk : W p l e R s m args below meth c H locs cells slots Qf (F0 m (pc + 1) ls (.long (rhJ (rh_lshl x y)) :: S.map (rh_a w))) := kk
  rw [e1] at kk
  first | exact lv_lshl hx hb hd kk | exact lv_lshl hx hb hd rfl kk
theorem rh_lshr_ (pc' : Nat) {t u : Nat} {x y : Int} (hd : decode (ry_c Y) pc = .ok (.lshr, 1)) (ht : rh_jk t = true) (hu : rh_ik u = true) (hp : pc + 1 = pc') (K : rh_At w Y n k Z pc' L ((1, rh_lshr x y) :: S) M) : rh_At w Y n k Z pc L ((u, y) :: (t, x) :: S) M := by
  subst hp
  refine rh_stepS K (fun _ h2 => rh_okc (a := (1, rh_lshr x y)) (rh_rl _) (rh_okt (rh_okt h2))) (fun p l e R s m args below meth c H locs ls cells slots Qf hx hb hl hs kk => ?_)
  show W p l e R s m args below meth c H locs cells slots Qf (F0 m pc ls (rh_a w (u, y) :: rh_a w (t, x) :: S.map (rh_a w)))
  rw [rh_a_j ht, rh_a_i hu]
  have e1 : rhJ (rh_lshr x y) = rhJ x >>> ((rhI y).toInt64 &&& 63) := Int64.ofInt_toInt _
  have kk : W p l e R s m args below meth c H locs cells slots Qf (F0 m (pc + 1) ls (.long (rhJ (rh_lshr x y)) :: S.map (rh_a w))) := kk
  rw [e1] at kk
  first | exact lv_lshr hx hb hd kk | exact lv_lshr hx hb hd rfl kk
theorem rh_lushr_ (pc' : Nat) {t u : Nat} {x y : Int} (hd : decode (ry_c Y) pc = .ok (.lushr, 1)) (ht : rh_jk t = true) (hu : rh_ik u = true) (hp : pc + 1 = pc') (K : rh_At w Y n k Z pc' L ((1, rh_lushr x y) :: S) M) : rh_At w Y n k Z pc L ((u, y) :: (t, x) :: S) M := by
  subst hp
  refine rh_stepS K (fun _ h2 => rh_okc (a := (1, rh_lushr x y)) (rh_rl _) (rh_okt (rh_okt h2))) (fun p l e R s m args below meth c H locs ls cells slots Qf hx hb hl hs kk => ?_)
  show W p l e R s m args below meth c H locs cells slots Qf (F0 m pc ls (rh_a w (u, y) :: rh_a w (t, x) :: S.map (rh_a w)))
  rw [rh_a_j ht, rh_a_i hu]
  have e1 : rhJ (rh_lushr x y) = ((rhJ x).toUInt64 >>> ((rhI y).toInt64.toUInt64 &&& Int64.toUInt64 63)).toInt64 := Int64.ofInt_toInt _
  have kk : W p l e R s m args below meth c H locs cells slots Qf (F0 m (pc + 1) ls (.long (rhJ (rh_lushr x y)) :: S.map (rh_a w))) := kk
  rw [e1] at kk
  first | exact lv_lushr hx hb hd kk | exact lv_lushr hx hb hd rfl kk
theorem rh_idiv_ (pc' : Nat) {t u : Nat} {x y : Int} (hd : decode (ry_c Y) pc = .ok (.idiv, 1)) (ht : rh_ik t = true) (hu : rh_ik u = true) (hx : t = 0 ∨ rI x) (hy : u = 0 ∨ rI y) (h0 : 0 ≤ x) (h1 : 0 < y) (hp : pc + 1 = pc') (K : rh_At w Y n k Z pc' L ((0, x / y) :: S) M) : rh_At w Y n k Z pc L ((u, y) :: (t, x) :: S) M := by
  subst hp
  refine rh_known (fun _ _ hs0 => ?_)
  have hx := rh_oki (rh_okh (rh_okt hs0)) hx
  have hy := rh_oki (rh_okh hs0) hy
  have hq : rI (x / y) := by
    have a1 := Int.ediv_nonneg h0 (Int.le_of_lt h1)
    have a2 := Int.ediv_le_self y h0
    have a3 := Int.emod_nonneg x (Int.ne_of_gt h1)
    have a4 := Int.emod_lt_of_pos x h1
    constructor <;> omega
  refine rh_stepS K (fun _ h2 => rh_okc (a := (0, x / y)) hq (rh_okt (rh_okt h2))) (fun p l e R s m args below meth c H locs ls cells slots Qf hx1 hb hl hs kk => ?_)
  show W p l e R s m args below meth c H locs cells slots Qf (F0 m pc ls (rh_a w (u, y) :: rh_a w (t, x) :: S.map (rh_a w)))
  rw [rh_a_i ht, rh_a_i hu]
  refine lv_idiv hx1 hb hd (fun h => ?_) ?_
  · rw [show (0 : Int32) = rhI 0 from rfl, rh_eq hy ⟨by decide, by decide⟩] at h
    omega
  · rw [rh_div hx hy h0 h1]
    exact kk
theorem rh_irem_ (pc' : Nat) {t u : Nat} {x y : Int} (hd : decode (ry_c Y) pc = .ok (.irem, 1)) (ht : rh_ik t = true) (hu : rh_ik u = true) (hx : t = 0 ∨ rI x) (hy : u = 0 ∨ rI y) (h0 : 0 ≤ x) (h1 : 0 < y) (hp : pc + 1 = pc') (K : rh_At w Y n k Z pc' L ((0, x % y) :: S) M) : rh_At w Y n k Z pc L ((u, y) :: (t, x) :: S) M := by
  subst hp
  refine rh_known (fun _ _ hs0 => ?_)
  have hx := rh_oki (rh_okh (rh_okt hs0)) hx
  have hy := rh_oki (rh_okh hs0) hy
  have hq : rI (x % y) := by
    have a1 := Int.ediv_nonneg h0 (Int.le_of_lt h1)
    have a2 := Int.ediv_le_self y h0
    have a3 := Int.emod_nonneg x (Int.ne_of_gt h1)
    have a4 := Int.emod_lt_of_pos x h1
    constructor <;> omega
  refine rh_stepS K (fun _ h2 => rh_okc (a := (0, x % y)) hq (rh_okt (rh_okt h2))) (fun p l e R s m args below meth c H locs ls cells slots Qf hx1 hb hl hs kk => ?_)
  show W p l e R s m args below meth c H locs cells slots Qf (F0 m pc ls (rh_a w (u, y) :: rh_a w (t, x) :: S.map (rh_a w)))
  rw [rh_a_i ht, rh_a_i hu]
  refine lv_irem hx1 hb hd (fun h => ?_) ?_
  · rw [show (0 : Int32) = rhI 0 from rfl, rh_eq hy ⟨by decide, by decide⟩] at h
    omega
  · rw [rh_rem hx hy h0 h1]
    exact kk
theorem rh_ldiv_ (pc' : Nat) {t u : Nat} {x y : Int} (hd : decode (ry_c Y) pc = .ok (.ldiv, 1)) (ht : rh_jk t = true) (hu : rh_jk u = true) (hx : t = 1 ∨ rL x) (hy : u = 1 ∨ rL y) (h0 : 0 ≤ x) (h1 : 0 < y) (hp : pc + 1 = pc') (K : rh_At w Y n k Z pc' L ((1, x / y) :: S) M) : rh_At w Y n k Z pc L ((u, y) :: (t, x) :: S) M := by
  subst hp
  refine rh_known (fun _ _ hs0 => ?_)
  have hx := rh_okj (rh_okh (rh_okt hs0)) hx
  have hy := rh_okj (rh_okh hs0) hy
  have hq : rL (x / y) := by
    have a1 := Int.ediv_nonneg h0 (Int.le_of_lt h1)
    have a2 := Int.ediv_le_self y h0
    have a3 := Int.emod_nonneg x (Int.ne_of_gt h1)
    have a4 := Int.emod_lt_of_pos x h1
    constructor <;> omega
  refine rh_stepS K (fun _ h2 => rh_okc (a := (1, x / y)) hq (rh_okt (rh_okt h2))) (fun p l e R s m args below meth c H locs ls cells slots Qf hx1 hb hl hs kk => ?_)
  show W p l e R s m args below meth c H locs cells slots Qf (F0 m pc ls (rh_a w (u, y) :: rh_a w (t, x) :: S.map (rh_a w)))
  rw [rh_a_j ht, rh_a_j hu]
  refine lv_ldiv hx1 hb hd (fun h => ?_) ?_
  · rw [show (0 : Int64) = rhJ 0 from rfl, rh_leqj hy ⟨by decide, by decide⟩] at h
    omega
  · rw [rh_ldiv hx hy h0 h1]
    exact kk
theorem rh_lrem_ (pc' : Nat) {t u : Nat} {x y : Int} (hd : decode (ry_c Y) pc = .ok (.lrem, 1)) (ht : rh_jk t = true) (hu : rh_jk u = true) (hx : t = 1 ∨ rL x) (hy : u = 1 ∨ rL y) (h0 : 0 ≤ x) (h1 : 0 < y) (hp : pc + 1 = pc') (K : rh_At w Y n k Z pc' L ((1, x % y) :: S) M) : rh_At w Y n k Z pc L ((u, y) :: (t, x) :: S) M := by
  subst hp
  refine rh_known (fun _ _ hs0 => ?_)
  have hx := rh_okj (rh_okh (rh_okt hs0)) hx
  have hy := rh_okj (rh_okh hs0) hy
  have hq : rL (x % y) := by
    have a1 := Int.ediv_nonneg h0 (Int.le_of_lt h1)
    have a2 := Int.ediv_le_self y h0
    have a3 := Int.emod_nonneg x (Int.ne_of_gt h1)
    have a4 := Int.emod_lt_of_pos x h1
    constructor <;> omega
  refine rh_stepS K (fun _ h2 => rh_okc (a := (1, x % y)) hq (rh_okt (rh_okt h2))) (fun p l e R s m args below meth c H locs ls cells slots Qf hx1 hb hl hs kk => ?_)
  show W p l e R s m args below meth c H locs cells slots Qf (F0 m pc ls (rh_a w (u, y) :: rh_a w (t, x) :: S.map (rh_a w)))
  rw [rh_a_j ht, rh_a_j hu]
  refine lv_lrem hx1 hb hd (fun h => ?_) ?_
  · rw [show (0 : Int64) = rhJ 0 from rfl, rh_leqj hy ⟨by decide, by decide⟩] at h
    omega
  · rw [rh_lrem hx hy h0 h1]
    exact kk
theorem rh_i2l (pc' : Nat) {t : Nat} {x : Int} (hd : decode (ry_c Y) pc = .ok (.i2l, 1)) (ht : rh_ik t = true) (hx : t = 0 ∨ rI x) (hp : pc + 1 = pc') (K : rh_At w Y n k Z pc' L ((1, x) :: S) M) : rh_At w Y n k Z pc L ((t, x) :: S) M := by
  subst hp
  refine rh_known (fun _ _ hs0 => ?_)
  have hx := rh_oki (rh_okh hs0) hx
  refine rh_stepS K (fun _ h2 => rh_okc (a := (1, x)) (show rL x from ⟨by omega, by omega⟩) (rh_okt h2)) (fun p l e R s m args below meth c H locs ls cells slots Qf hx1 hb hl hs kk => ?_)
  show W p l e R s m args below meth c H locs cells slots Qf (F0 m pc ls (rh_a w (t, x) :: S.map (rh_a w)))
  rw [rh_a_i ht]
  first | exact lv_i2l hx1 hb hd (rh_i2l_ hx) kk | (refine lv_i2l hx1 hb hd ?_; rw [rh_i2l_ hx]; exact kk)
theorem rh_l2i (pc' : Nat) {t : Nat} {x : Int} (hd : decode (ry_c Y) pc = .ok (.l2i, 1)) (ht : rh_jk t = true) (hx : rI x) (hp : pc + 1 = pc') (K : rh_At w Y n k Z pc' L ((0, x) :: S) M) : rh_At w Y n k Z pc L ((t, x) :: S) M := by
  subst hp
  refine rh_stepS K (fun _ h2 => rh_okc (a := (0, x)) hx (rh_okt h2)) (fun p l e R s m args below meth c H locs ls cells slots Qf hx1 hb hl hs kk => ?_)
  show W p l e R s m args below meth c H locs cells slots Qf (F0 m pc ls (rh_a w (t, x) :: S.map (rh_a w)))
  rw [rh_a_j ht]
  first | exact lv_l2i hx1 hb hd (rh_lt32 hx) kk | (refine lv_l2i hx1 hb hd ?_; rw [rh_lt32 hx]; exact kk)
theorem rh_i2b_ (pc' : Nat) {t : Nat} {x : Int} (hd : decode (ry_c Y) pc = .ok (.i2b, 1)) (ht : rh_ik t = true) (hp : pc + 1 = pc') (K : rh_At w Y n k Z pc' L ((0, rh_i2b x) :: S) M) : rh_At w Y n k Z pc L ((t, x) :: S) M := by
  subst hp
  refine rh_stepS K (fun _ h2 => rh_okc (a := (0, rh_i2b x)) (rh_ri _) (rh_okt h2)) (fun p l e R s m args below meth c H locs ls cells slots Qf hx1 hb hl hs kk => ?_)
  show W p l e R s m args below meth c H locs cells slots Qf (F0 m pc ls (rh_a w (t, x) :: S.map (rh_a w)))
  rw [rh_a_i ht]
  exact lv_i2b hx1 hb hd (v := rhI (rh_i2b x)) (Int32.ofInt_toInt _).symm kk
/-- what is known behind a test -/
theorem rh_ic_eq (tgt pc' : Nat) {off : Int} {t u : Nat} {x y : Int} (hd : decode (ry_c Y) pc = .ok (.if_icmp .eq off, 3)) (ht : rh_ik t = true) (hu : rh_ik u = true) (hx : t = 0 ∨ rI x) (hy : u = 0 ∨ rI y) (hg : (pc : Int) + off = (tgt : Int)) (hp : pc + 3 = pc') (K1 : x = y → rh_At w Y n k Z tgt L S M) (K2 : ¬ (x = y) → rh_At w Y n k Z pc' L S M) : rh_At w Y n k Z pc L ((u, y) :: (t, x) :: S) M := by
  subst hp
  intro p l e R s m args below meth c H locs ls C D
  obtain ⟨h1, h2, h3, h4⟩ := D
  have hx := rh_oki (rh_okh (rh_okt h3)) hx
  have hy := rh_oki (rh_okh h3) hy
  show W p l e R s m args below meth c H locs k.1 k.2.1 (Z below args s) (F0 m pc ls (rh_a w (u, y) :: rh_a w (t, x) :: S.map (rh_a w)))
  rw [rh_a_i ht, rh_a_i hu]
  refine lv_icmp_eq C.1 C.2.1 hd hg (fun h => K1 ?_ p l e R s m args below meth c H locs ls C ⟨h1, h2, rh_okt (rh_okt h3), h4⟩) (fun h => K2 ?_ p l e R s m args below meth c H locs ls C ⟨h1, h2, rh_okt (rh_okt h3), h4⟩)
  all_goals simp only [GT.gt, GE.ge, ne_eq, Int32.not_le, Int32.not_lt, rh_lt hx hy, rh_lt hy hx, rh_le hx hy, rh_le hy hx, rh_eq hx hy, rh_eq hy hx] at h ⊢
  all_goals first | exact h | omega
theorem rh_ic_ne (tgt pc' : Nat) {off : Int} {t u : Nat} {x y : Int} (hd : decode (ry_c Y) pc = .ok (.if_icmp .ne off, 3)) (ht : rh_ik t = true) (hu : rh_ik u = true) (hx : t = 0 ∨ rI x) (hy : u = 0 ∨ rI y) (hg : (pc : Int) + off = (tgt : Int)) (hp : pc + 3 = pc') (K1 : x ≠ y → rh_At w Y n k Z tgt L S M) (K2 : ¬ (x ≠ y) → rh_At w Y n k Z pc' L S M) : rh_At w Y n k Z pc L ((u, y) :: (t, x) :: S) M := by
  subst hp
  intro p l e R s m args below meth c H locs ls C D
  obtain ⟨h1, h2, h3, h4⟩ := D
  have hx := rh_oki (rh_okh (rh_okt h3)) hx
  have hy := rh_oki (rh_okh h3) hy
  show W p l e R s m args below meth c H locs k.1 k.2.1 (Z below args s) (F0 m pc ls (rh_a w (u, y) :: rh_a w (t, x) :: S.map (rh_a w)))
  rw [rh_a_i ht, rh_a_i hu]
  refine lv_icmp_ne C.1 C.2.1 hd hg (fun h => K1 ?_ p l e R s m args below meth c H locs ls C ⟨h1, h2, rh_okt (rh_okt h3), h4⟩) (fun h => K2 ?_ p l e R s m args below meth c H locs ls C ⟨h1, h2, rh_okt (rh_okt h3), h4⟩)
  all_goals simp only [GT.gt, GE.ge, ne_eq, Int32.not_le, Int32.not_lt, rh_lt hx hy, rh_lt hy hx, rh_le hx hy, rh_le hy hx, rh_eq hx hy, rh_eq hy hx] at h ⊢
  all_goals first | exact h | omega
theorem rh_ic_lt (tgt pc' : Nat) {off : Int} {t u : Nat} {x y : Int} (hd : decode (ry_c Y) pc = .ok (.if_icmp .lt off, 3)) (ht : rh_ik t = true) (hu : rh_ik u = true) (hx : t = 0 ∨ rI x) (hy : u = 0 ∨ rI y) (hg : (pc : Int) + off = (tgt : Int)) (hp : pc + 3 = pc') (K1 : x < y → rh_At w Y n k Z tgt L S M) (K2 : ¬ (x < y) → rh_At w Y n k Z pc' L S M) : rh_At w Y n k Z pc L ((u, y) :: (t, x) :: S) M := by
  subst hp
  intro p l e R s m args below meth c H locs ls C D
  obtain ⟨h1, h2, h3, h4⟩ := D
  have hx := rh_oki (rh_okh (rh_okt h3)) hx
  have hy := rh_oki (rh_okh h3) hy
  show W p l e R s m args below meth c H locs k.1 k.2.1 (Z below args s) (F0 m pc ls (rh_a w (u, y) :: rh_a w (t, x) :: S.map (rh_a w)))
  rw [rh_a_i ht, rh_a_i hu]
  refine lv_icmp_lt C.1 C.2.1 hd hg (fun h => K1 ?_ p l e R s m args below meth c H locs ls C ⟨h1, h2, rh_okt (rh_okt h3), h4⟩) (fun h => K2 ?_ p l e R s m args below meth c H locs ls C ⟨h1, h2, rh_okt (rh_okt h3), h4⟩)
  all_goals simp only [GT.gt, GE.ge, ne_eq, Int32.not_le, Int32.not_lt, rh_lt hx hy, rh_lt hy hx, rh_le hx hy, rh_le hy hx, rh_eq hx hy, rh_eq hy hx] at h ⊢
  all_goals first | exact h | omega
theorem rh_ic_ge (tgt pc' : Nat) {off : Int} {t u : Nat} {x y : Int} (hd : decode (ry_c Y) pc = .ok (.if_icmp .ge off, 3)) (ht : rh_ik t = true) (hu : rh_ik u = true) (hx : t = 0 ∨ rI x) (hy : u = 0 ∨ rI y) (hg : (pc : Int) + off = (tgt : Int)) (hp : pc + 3 = pc') (K1 : y ≤ x → rh_At w Y n k Z tgt L S M) (K2 : ¬ (y ≤ x) → rh_At w Y n k Z pc' L S M) : rh_At w Y n k Z pc L ((u, y) :: (t, x) :: S) M := by
  subst hp
  intro p l e R s m args below meth c H locs ls C D
  obtain ⟨h1, h2, h3, h4⟩ := D
  have hx := rh_oki (rh_okh (rh_okt h3)) hx
  have hy := rh_oki (rh_okh h3) hy
  show W p l e R s m args below meth c H locs k.1 k.2.1 (Z below args s) (F0 m pc ls (rh_a w (u, y) :: rh_a w (t, x) :: S.map (rh_a w)))
  rw [rh_a_i ht, rh_a_i hu]
  refine lv_icmp_ge C.1 C.2.1 hd hg (fun h => K1 ?_ p l e R s m args below meth c H locs ls C ⟨h1, h2, rh_okt (rh_okt h3), h4⟩) (fun h => K2 ?_ p l e R s m args below meth c H locs ls C ⟨h1, h2, rh_okt (rh_okt h3), h4⟩)
  all_goals simp only [GT.gt, GE.ge, ne_eq, Int32.not_le, Int32.not_lt, rh_lt hx hy, rh_lt hy hx, rh_le hx hy, rh_le hy hx, rh_eq hx hy, rh_eq hy hx] at h ⊢
  all_goals first | exact h | omega
theorem rh_ic_gt (tgt pc' : Nat) {off : Int} {t u : Nat} {x y : Int} (hd : decode (ry_c Y) pc = .ok (.if_icmp .gt off, 3)) (ht : rh_ik t = true) (hu : rh_ik u = true) (hx : t = 0 ∨ rI x) (hy : u = 0 ∨ rI y) (hg : (pc : Int) + off = (tgt : Int)) (hp : pc + 3 = pc') (K1 : y < x → rh_At w Y n k Z tgt L S M) (K2 : ¬ (y < x) → rh_At w Y n k Z pc' L S M) : rh_At w Y n k Z pc L ((u, y) :: (t, x) :: S) M := by
  subst hp
  intro p l e R s m args below meth c H locs ls C D
  obtain ⟨h1, h2, h3, h4⟩ := D
  have hx := rh_oki (rh_okh (rh_okt h3)) hx
  have hy := rh_oki (rh_okh h3) hy
  show W p l e R s m args below meth c H locs k.1 k.2.1 (Z below args s) (F0 m pc ls (rh_a w (u, y) :: rh_a w (t, x) :: S.map (rh_a w)))
  rw [rh_a_i ht, rh_a_i hu]
  refine lv_icmp_gt C.1 C.2.1 hd hg (fun h => K1 ?_ p l e R s m args below meth c H locs ls C ⟨h1, h2, rh_okt (rh_okt h3), h4⟩) (fun h => K2 ?_ p l e R s m args below meth c H locs ls C ⟨h1, h2, rh_okt (rh_okt h3), h4⟩)
  all_goals simp only [GT.gt, GE.ge, ne_eq, Int32.not_le, Int32.not_lt, rh_lt hx hy, rh_lt hy hx, rh_le hx hy, rh_le hy hx, rh_eq hx hy, rh_eq hy hx] at h ⊢
  all_goals first | exact h | omega
theorem rh_ic_le (tgt pc' : Nat) {off : Int} {t u : Nat} {x y : Int} (hd : decode (ry_c Y) pc = .ok (.if_icmp .le off, 3)) (ht : rh_ik t = true) (hu : rh_ik u = true) (hx : t = 0 ∨ rI x) (hy : u = 0 ∨ rI y) (hg : (pc : Int) + off = (tgt : Int)) (hp : pc + 3 = pc') (K1 : x ≤ y → rh_At w Y n k Z tgt L S M) (K2 : ¬ (x ≤ y) → rh_At w Y n k Z pc' L S M) : rh_At w Y n k Z pc L ((u, y) :: (t, x) :: S) M := by
  subst hp
  intro p l e R s m args below meth c H locs ls C D
  obtain ⟨h1, h2, h3, h4⟩ := D
  have hx := rh_oki (rh_okh (rh_okt h3)) hx
  have hy := rh_oki (rh_okh h3) hy
  show W p l e R s m args below meth c H locs k.1 k.2.1 (Z below args s) (F0 m pc ls (rh_a w (u, y) :: rh_a w (t, x) :: S.map (rh_a w)))
  rw [rh_a_i ht, rh_a_i hu]
  refine lv_icmp_le C.1 C.2.1 hd hg (fun h => K1 ?_ p l e R s m args below meth c H locs ls C ⟨h1, h2, rh_okt (rh_okt h3), h4⟩) (fun h => K2 ?_ p l e R s m args below meth c H locs ls C ⟨h1, h2, rh_okt (rh_okt h3), h4⟩)
  all_goals simp only [GT.gt, GE.ge, ne_eq, Int32.not_le, Int32.not_lt, rh_lt hx hy, rh_lt hy hx, rh_le hx hy, rh_le hy hx, rh_eq hx hy, rh_eq hy hx] at h ⊢
  all_goals first | exact h | omega
theorem rh_iz_eq (tgt pc' : Nat) {off : Int} {t : Nat} {x : Int} (hd : decode (ry_c Y) pc = .ok (.ifCond .eq off, 3)) (ht : rh_ik t = true) (hx : t = 0 ∨ rI x) (hg : (pc : Int) + off = (tgt : Int)) (hp : pc + 3 = pc') (K1 : x = 0 → rh_At w Y n k Z tgt L S M) (K2 : ¬ (x = 0) → rh_At w Y n k Z pc' L S M) : rh_At w Y n k Z pc L ((t, x) :: S) M := by
  subst hp
  intro p l e R s m args below meth c H locs ls C D
  obtain ⟨h1, h2, h3, h4⟩ := D
  have hx := rh_oki (rh_okh h3) hx
  have hz : rI 0 := ⟨by decide, by decide⟩
  show W p l e R s m args below meth c H locs k.1 k.2.1 (Z below args s) (F0 m pc ls (rh_a w (t, x) :: S.map (rh_a w)))
  rw [rh_a_i ht]
  refine lv_if_eq C.1 C.2.1 hd hg (fun h => K1 ?_ p l e R s m args below meth c H locs ls C ⟨h1, h2, rh_okt h3, h4⟩) (fun h => K2 ?_ p l e R s m args below meth c H locs ls C ⟨h1, h2, rh_okt h3, h4⟩)
  all_goals rw [show (0 : Int32) = rhI 0 from rfl] at h
  all_goals simp only [GT.gt, GE.ge, ne_eq, Int32.not_le, Int32.not_lt, rh_lt hx hz, rh_lt hz hx, rh_le hx hz, rh_le hz hx, rh_eq hx hz, rh_eq hz hx] at h ⊢
  all_goals first | exact h | omega
theorem rh_iz_ne (tgt pc' : Nat) {off : Int} {t : Nat} {x : Int} (hd : decode (ry_c Y) pc = .ok (.ifCond .ne off, 3)) (ht : rh_ik t = true) (hx : t = 0 ∨ rI x) (hg : (pc : Int) + off = (tgt : Int)) (hp : pc + 3 = pc') (K1 : x ≠ 0 → rh_At w Y n k Z tgt L S M) (K2 : ¬ (x ≠ 0) → rh_At w Y n k Z pc' L S M) : rh_At w Y n k Z pc L ((t, x) :: S) M := by
  subst hp
  intro p l e R s m args below meth c H locs ls C D
  obtain ⟨h1, h2, h3, h4⟩ := D
  have hx := rh_oki (rh_okh h3) hx
  have hz : rI 0 := ⟨by decide, by decide⟩
  show W p l e R s m args below meth c H locs k.1 k.2.1 (Z below args s) (F0 m pc ls (rh_a w (t, x) :: S.map (rh_a w)))
  rw [rh_a_i ht]
  refine lv_if_ne C.1 C.2.1 hd hg (fun h => K1 ?_ p l e R s m args below meth c H locs ls C ⟨h1, h2, rh_okt h3, h4⟩) (fun h => K2 ?_ p l e R s m args below meth c H locs ls C ⟨h1, h2, rh_okt h3, h4⟩)
  all_goals rw [show (0 : Int32) = rhI 0 from rfl] at h
  all_goals simp only [GT.gt, GE.ge, ne_eq, Int32.not_le, Int32.not_lt, rh_lt hx hz, rh_lt hz hx, rh_le hx hz, rh_le hz hx, rh_eq hx hz, rh_eq hz hx] at h ⊢
  all_goals first | exact h | omega
theorem rh_iz_lt (tgt pc' : Nat) {off : Int} {t : Nat} {x : Int} (hd : decode (ry_c Y) pc = .ok (.ifCond .lt off, 3)) (ht : rh_ik t = true) (hx : t = 0 ∨ rI x) (hg : (pc : Int) + off = (tgt : Int)) (hp : pc + 3 = pc') (K1 : x < 0 → rh_At w Y n k Z tgt L S M) (K2 : ¬ (x < 0) → rh_At w Y n k Z pc' L S M) : rh_At w Y n k Z pc L ((t, x) :: S) M := by
  subst hp
  intro p l e R s m args below meth c H locs ls C D
  obtain ⟨h1, h2, h3, h4⟩ := D
  have hx := rh_oki (rh_okh h3) hx
  have hz : rI 0 := ⟨by decide, by decide⟩
  show W p l e R s m args below meth c H locs k.1 k.2.1 (Z below args s) (F0 m pc ls (rh_a w (t, x) :: S.map (rh_a w)))
  rw [rh_a_i ht]
  refine lv_if_lt C.1 C.2.1 hd hg (fun h => K1 ?_ p l e R s m args below meth c H locs ls C ⟨h1, h2, rh_okt h3, h4⟩) (fun h => K2 ?_ p l e R s m args below meth c H locs ls C ⟨h1, h2, rh_okt h3, h4⟩)
  all_goals rw [show (0 : Int32) = rhI 0 from rfl] at h
  all_goals simp only [GT.gt, GE.ge, ne_eq, Int32.not_le, Int32.not_lt, rh_lt hx hz, rh_lt hz hx, rh_le hx hz, rh_le hz hx, rh_eq hx hz, rh_eq hz hx] at h ⊢
  all_goals first | exact h | omega
theorem rh_iz_ge (tgt pc' : Nat) {off : Int} {t : Nat} {x : Int} (hd : decode (ry_c Y) pc = .ok (.ifCond .ge off, 3)) (ht : rh_ik t = true) (hx : t = 0 ∨ rI x) (hg : (pc : Int) + off = (tgt : Int)) (hp : pc + 3 = pc') (K1 : 0 ≤ x → rh_At w Y n k Z tgt L S M) (K2 : ¬ (0 ≤ x) → rh_At w Y n k Z pc' L S M) : rh_At w Y n k Z pc L ((t, x) :: S) M := by
  subst hp
  intro p l e R s m args below meth c H locs ls C D
  obtain ⟨h1, h2, h3, h4⟩ := D
  have hx := rh_oki (rh_okh h3) hx
  have hz : rI 0 := ⟨by decide, by decide⟩
  show W p l e R s m args below meth c H locs k.1 k.2.1 (Z below args s) (F0 m pc ls (rh_a w (t, x) :: S.map (rh_a w)))
  rw [rh_a_i ht]
  refine lv_if_ge C.1 C.2.1 hd hg (fun h => K1 ?_ p l e R s m args below meth c H locs ls C ⟨h1, h2, rh_okt h3, h4⟩) (fun h => K2 ?_ p l e R s m args below meth c H locs ls C ⟨h1, h2, rh_okt h3, h4⟩)
  all_goals rw [show (0 : Int32) = rhI 0 from rfl] at h
  all_goals simp only [GT.gt, GE.ge, ne_eq, Int32.not_le, Int32.not_lt, rh_lt hx hz, rh_lt hz hx, rh_le hx hz, rh_le hz hx, rh_eq hx hz, rh_eq hz hx] at h ⊢
  all_goals first | exact h | omega
theorem rh_iz_gt (tgt pc' : Nat) {off : Int} {t : Nat} {x : Int} (hd : decode (ry_c Y) pc = .ok (.ifCond .gt off, 3)) (ht : rh_ik t = true) (hx : t = 0 ∨ rI x) (hg : (pc : Int) + off = (tgt : Int)) (hp : pc + 3 = pc') (K1 : 0 < x → rh_At w Y n k Z tgt L S M) (K2 : ¬ (0 < x) → rh_At w Y n k Z pc' L S M) : rh_At w Y n k Z pc L ((t, x) :: S) M := by
  subst hp
  intro p l e R s m args below meth c H locs ls C D
  obtain ⟨h1, h2, h3, h4⟩ := D
  have hx := rh_oki (rh_okh h3) hx
  have hz : rI 0 := ⟨by decide, by decide⟩
  show W p l e R s m args below meth c H locs k.1 k.2.1 (Z below args s) (F0 m pc ls (rh_a w (t, x) :: S.map (rh_a w)))
  rw [rh_a_i ht]
  refine lv_if_gt C.1 C.2.1 hd hg (fun h => K1 ?_ p l e R s m args below meth c H locs ls C ⟨h1, h2, rh_okt h3, h4⟩) (fun h => K2 ?_ p l e R s m args below meth c H locs ls C ⟨h1, h2, rh_okt h3, h4⟩)
  all_goals rw [show (0 : Int32) = rhI 0 from rfl] at h
  all_goals simp only [GT.gt, GE.ge, ne_eq, Int32.not_le, Int32.not_lt, rh_lt hx hz, rh_lt hz hx, rh_le hx hz, rh_le hz hx, rh_eq hx hz, rh_eq hz hx] at h ⊢
  all_goals first | exact h | omega
theorem rh_iz_le (tgt pc' : Nat) {off : Int} {t : Nat} {x : Int} (hd : decode (ry_c Y) pc = .ok (.ifCond .le off, 3)) (ht : rh_ik t = true) (hx : t = 0 ∨ rI x) (hg : (pc : Int) + off = (tgt : Int)) (hp : pc + 3 = pc') (K1 : x ≤ 0 → rh_At w Y n k Z tgt L S M) (K2 : ¬ (x ≤ 0) → rh_At w Y n k Z pc' L S M) : rh_At w Y n k Z pc L ((t, x) :: S) M := by
  subst hp
  intro p l e R s m args below meth c H locs ls C D
  obtain ⟨h1, h2, h3, h4⟩ := D
  have hx := rh_oki (rh_okh h3) hx
  have hz : rI 0 := ⟨by decide, by decide⟩
  show W p l e R s m args below meth c H locs k.1 k.2.1 (Z below args s) (F0 m pc ls (rh_a w (t, x) :: S.map (rh_a w)))
  rw [rh_a_i ht]
  refine lv_if_le C.1 C.2.1 hd hg (fun h => K1 ?_ p l e R s m args below meth c H locs ls C ⟨h1, h2, rh_okt h3, h4⟩) (fun h => K2 ?_ p l e R s m args below meth c H locs ls C ⟨h1, h2, rh_okt h3, h4⟩)
  all_goals rw [show (0 : Int32) = rhI 0 from rfl] at h
  all_goals simp only [GT.gt, GE.ge, ne_eq, Int32.not_le, Int32.not_lt, rh_lt hx hz, rh_lt hz hx, rh_le hx hz, rh_le hz hx, rh_eq hx hz, rh_eq hz hx] at h ⊢
  all_goals first | exact h | omega
theorem rh_goto (tgt : Nat) {off : Int} (hd : decode (ry_c Y) pc = .ok (.goto off, 3)) (hg : (pc : Int) + off = (tgt : Int)) (K : rh_At w Y n k Z tgt L S M) : rh_At w Y n k Z pc L S M :=
  rh_stepS K (fun _ h => h) (fun p l e R s m args below meth c H locs ls cells slots Qf hx hb hl hs kk => lv_goto hx hb hd hg kk)
theorem rh_dup (pc' : Nat) {a : rhA} (hd : decode (ry_c Y) pc = .ok (.dup, 1)) (h1 : rh_jk a.1 = false) (hp : pc + 1 = pc') (K : rh_At w Y n k Z pc' L (a :: a :: S) M) : rh_At w Y n k Z pc L (a :: S) M := by
  subst hp
  have hc : (rh_a w a).category = 1 := by
    have := rh_catj w a
    rw [h1] at this
    rcases lv_cat (rh_a w a) with h | h
    · exact h
    · rw [h] at this; cases this
  exact rh_stepS K (fun _ h => rh_okc (rh_okh h) h) (fun p l e R s m args below meth c H locs ls cells slots Qf hx hb hl hs kk => lv_dup hx hb hd hc kk)
theorem rh_pop (pc' : Nat) {a : rhA} (hd : decode (ry_c Y) pc = .ok (.pop, 1)) (h1 : rh_jk a.1 = false) (hp : pc + 1 = pc') (K : rh_At w Y n k Z pc' L S M) : rh_At w Y n k Z pc L (a :: S) M := by
  subst hp
  have hc : (rh_a w a).category = 1 := by
    have := rh_catj w a
    rw [h1] at this
    rcases lv_cat (rh_a w a) with h | h
    · exact h
    · rw [h] at this; cases this
  exact rh_stepS K (fun _ h => rh_okt h) (fun p l e R s m args below meth c H locs ls cells slots Qf hx hb hl hs kk => lv_pop hx hb hd hc kk)
theorem rh_dup2 (pc' : Nat) {a b : rhA} (hd : decode (ry_c Y) pc = .ok (.dup2, 1)) (h1 : rh_jk a.1 = false) (h2 : rh_jk b.1 = false) (hp : pc + 1 = pc') (K : rh_At w Y n k Z pc' L (a :: b :: a :: b :: S) M) : rh_At w Y n k Z pc L (a :: b :: S) M := by
  subst hp
  have hc : ∀ a : rhA, rh_jk a.1 = false → (rh_a w a).category = 1 := by
    intro a h1
    have := rh_catj w a
    rw [h1] at this
    rcases lv_cat (rh_a w a) with h | h
    · exact h
    · rw [h] at this; cases this
  exact rh_stepS K (fun _ h => rh_okc (rh_okh h) (rh_okc (rh_okh (rh_okt h)) h)) (fun p l e R s m args below meth c H locs ls cells slots Qf hx hb hl hs kk => lv_dup2_11 hx hb hd (hc a h1) (hc b h2) kk)
theorem rh_dup_x1 (pc' : Nat) {a b : rhA} (hd : decode (ry_c Y) pc = .ok (.dup_x1, 1)) (h1 : rh_jk a.1 = false) (h2 : rh_jk b.1 = false) (hp : pc + 1 = pc') (K : rh_At w Y n k Z pc' L (a :: b :: a :: S) M) : rh_At w Y n k Z pc L (a :: b :: S) M := by
  subst hp
  have hc : ∀ a : rhA, rh_jk a.1 = false → (rh_a w a).category = 1 := by
    intro a h1
    have := rh_catj w a
    rw [h1] at this
    rcases lv_cat (rh_a w a) with h | h
    · exact h
    · rw [h] at this; cases this
  exact rh_stepS K (fun _ h => rh_okc (rh_okh h) (rh_okc (rh_okh (rh_okt h)) (rh_okc (rh_okh h) (rh_okt (rh_okt h))))) (fun p l e R s m args below meth c H locs ls cells slots Qf hx hb hl hs kk => lv_dup_x1 hx hb hd (hc a h1) (hc b h2) kk)
end RhRules
