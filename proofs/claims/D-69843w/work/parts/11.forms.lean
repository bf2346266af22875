/-! ===== formulas: what is left to show of a region ===== -/
section RhForm
noncomputable def rh_dL (e : rhEn) : rhX → rhL
  | .add (.pow x k) r => (k / 16, k % 16, (rh_den e x).1) :: rh_dL e r
  | _ => []
noncomputable def rh_dS (e : rhEn) : rhX → List rhA
  | .add (.pow x k) r => (k, (rh_den e x).1) :: rh_dS e r
  | _ => []
def rh_ny : List rhY → Nat → rhY
  | [], _ => (⟨"", "", ""⟩, .empty, 0, none)
  | y :: _, 0 => y
  | _ :: l, k + 1 => rh_ny l k
def rh_gr (ret : Option FieldType) (r : Int) (P : Prop) : Prop := match ret with
  | some .int => rI r → P
  | some .long => rL r → P
  | some .boolean => (0 ≤ r ∧ r ≤ 1) → P
  | some .byte => (-128 ≤ r ∧ r ≤ 127) → P
  | _ => P
/-- add: and; sub: one or the other; mul: a name; pow: an end, a place, a call -/
def rh_dF (w : rhW) (ys : List rhY) (n : Nat) (Q : Int → rhM → Prop) (A : Nat → rhL → List rhA → rhM → Prop) : rhX → rhEn → Prop
  | .add o f, e => (rh_den e o).2.2 ∧ rh_dF w ys n Q A f e
  | .sub c (.add f g), e => ((rh_den e c).2.2 → rh_dF w ys n Q A f e) ∧ (¬ (rh_den e c).2.2 → rh_dF w ys n Q A g e)
  | .mul (.var i) (.add x f), e => ∀ v : Int, v = (rh_den e x).1 → rh_dF w ys n Q A f (rh_ei e i v)
  | .mul (.natCast i) (.add x f), e => ∀ M : rhM, M = (rh_den e x).2.1 → rh_dF w ys n Q A f (rh_em e i M)
  | .pow (.add v m) _, e => Q (rh_den e v).1 (rh_den e m).2.1
  | .pow (.sub m (.add l s)) pc, e => A pc (rh_dL e l) (rh_dS e s) (rh_den e m).2.1
  | .pow (.mul (.add (.var i) (.natCast j)) (.add (.add m as) f)) k, e => rh_OK w (rh_ny ys k) n (rh_dS e as) (rh_den e m).2.1 (fun r M' => rh_gr (ry_r (rh_ny ys k)) r (rh_wm w M' → rh_dF w ys n Q A f (rh_em (rh_ei e i r) j M')))
  | _, _ => False
/-- lists as the executor keeps them -/
abbrev rhLx : Type := List (Nat × Nat × rhX)
abbrev rhSx : Type := List (Nat × rhX)
noncomputable def rh_sL (e : rhEn) (L : rhLx) : rhL := L.map fun q => (q.1, q.2.1, (rh_den e q.2.2).1)
noncomputable def rh_sS (e : rhEn) (S : rhSx) : List rhA := S.map fun q => (q.1, (rh_den e q.2).1)
def rh_cL : rhLx → rhX
  | [] => .num 0
  | q :: l => .add (.pow q.2.2 (q.1 * 16 + q.2.1)) (rh_cL l)
def rh_cSt : rhSx → rhX
  | [] => .num 0
  | q :: l => .add (.pow q.2 q.1) (rh_cSt l)
theorem rh_cL_d (e : rhEn) : ∀ {L : rhLx}, L.all (fun q => Nat.blt q.2.1 16) = true → rh_dL e (rh_cL L) = rh_sL e L
  | [], _ => rfl
  | q :: l, h => by
    simp only [List.all_cons, Bool.and_eq_true] at h
    have h1 : q.2.1 < 16 := by
      have := h.1
      simp [Nat.blt] at this
      omega
    have ih := rh_cL_d e h.2
    simp only [rh_cL, rh_dL, ih, rh_sL, List.map_cons, List.cons.injEq, Prod.mk.injEq, and_true]
    exact ⟨by omega, by omega⟩
theorem rh_cSt_d (e : rhEn) : ∀ {S : rhSx}, rh_dS e (rh_cSt S) = rh_sS e S
  | [] => rfl
  | q :: l => by
    have ih := rh_cSt_d e (S := l)
    simp only [rh_cSt, rh_dS, ih, rh_sS, List.map_cons]
end RhForm
