section
/-! The pure picture: row i of the packed triangle starts at tq_b i; tq_x is the right-hand side behind i finished rows -/
def tq_b (i : Nat) : Nat := i * (i - 1) / 2
def tq_s (a : Nat → Int32) (r : Nat → Int64) (b : Nat) : Nat → Int64
  | 0 => 0
  | j + 1 => tq_s a r b j + (a (b + j)).toInt64 * r j
def tq_row (a : Nat → Int32) (r : Nat → Int64) (i : Nat) : Nat → Int64 := vp_updL r i (r i - tq_s a r (tq_b i) i)
def tq_x (a : Nat → Int32) (r : Nat → Int64) : Nat → Nat → Int64
  | 0 => r
  | i + 1 => tq_row a (tq_x a r i) i
/-- the reference's right-hand side at row i, column j -/
def tq_m (a : Nat → Int32) (r : Nat → Int64) (i j : Nat) : Nat → Int64 :=
  vp_updL (tq_x a r i) i (tq_x a r i i - tq_s a (tq_x a r i) (tq_b i) (if j < i then j else i))
/-- the packed triangle and the square hold the same cells below the diagonal -/
def tq_L (a c : Nat → Int32) : Prop := ∀ i, i < 5 → ∀ j, j < i → a (tq_b i + j) = c (i * 5 + j)
theorem tq_us {f : Nat → Int64} {k : Nat} {x : Int64} : vp_updL f k x k = x := if_pos rfl
theorem tq_un {f : Nat → Int64} {k j : Nat} {x : Int64} (h : j ≠ k) : vp_updL f k x j = f j := if_neg h
theorem tq_uu {f : Nat → Int64} {k : Nat} {x y : Int64} : vp_updL (vp_updL f k x) k y = vp_updL f k y := by
  funext j
  by_cases h : j = k
  · subst h; rw [tq_us, tq_us]
  · rw [tq_un h, tq_un h, tq_un h]
theorem tq_ui {f : Nat → Int64} {k : Nat} : vp_updL f k (f k) = f := by
  funext j
  by_cases h : j = k
  · subst h; rw [tq_us]
  · rw [tq_un h]
theorem tq_sub (x s t : Int64) : x - s - t = x - (s + t) := by grind
theorem tq_m0 (a : Nat → Int32) (r : Nat → Int64) (i : Nat) : tq_m a r i 0 = tq_x a r i := by
  have h : (if 0 < i then 0 else i) = 0 := by split <;> omega
  unfold tq_m
  rw [h]
  show vp_updL (tq_x a r i) i (tq_x a r i i - 0) = _
  rw [Int64.sub_zero, tq_ui]
theorem tq_mS (a : Nat → Int32) (r : Nat → Int64) {i j : Nat} (h : j < i) :
    vp_updL (tq_m a r i j) i (tq_m a r i j i - (a (tq_b i + j)).toInt64 * tq_m a r i j j) = tq_m a r i (j + 1) := by
  have h1 : (if j + 1 < i then j + 1 else i) = j + 1 := by split <;> omega
  have h2 : j ≠ i := by omega
  unfold tq_m
  rw [h1, if_pos h, tq_uu, tq_us, tq_un h2, tq_sub]
  rfl
theorem tq_mK (a : Nat → Int32) (r : Nat → Int64) {i j : Nat} (h : i ≤ j) : tq_m a r i (j + 1) = tq_m a r i j := by
  unfold tq_m
  rw [if_neg (by omega), if_neg (by omega)]
theorem tq_mN (a : Nat → Int32) (r : Nat → Int64) {i j : Nat} (h : i ≤ j) : tq_m a r i j = tq_m a r (i + 1) 0 := by
  rw [tq_m0]
  unfold tq_m
  rw [if_neg (by omega)]
  rfl
/-! tables of small numbers -/
theorem tq_bI : ∀ i, i < 5 → nI i * (nI i - 1) / 2 = nI (tq_b i) := by decide +kernel
theorem tq_bl : ∀ i, i < 5 → ∀ j, j < i → tq_b i + j < 10 := by decide +kernel
theorem tq_5I : ∀ i, i < 5 → nI i * 5 = nI (i * 5) := by decide +kernel
theorem tq_div : ∀ i, i < 5 → ∀ j, j < 5 → nI (i * 5 + j) / 5 = nI i := by decide +kernel
theorem tq_rem : ∀ i, i < 5 → ∀ j, j < 5 → nI (i * 5 + j) - nI (i * 5 + j) / 5 * 5 = nI j := by decide +kernel
theorem tq_25 : ∀ i, i < 5 → ∀ j, j < 5 → ¬ (25 : Int32) ≤ nI (i * 5 + j) := by decide +kernel
theorem tq_inj : ∀ i, i < 5 → ∀ j, j < i → ∀ p, p < 5 → ∀ q, q < p → (tq_b p + q = tq_b i + j ↔ p * 5 + q = i * 5 + j) := by decide +kernel
theorem tq_n2 : ¬ (2 : Int32) = 0 := by decide
theorem tq_n5 : ¬ (5 : Int32) = 0 := by decide
theorem tq_Lu {a c : Nat → Int32} (h : tq_L a c) {i j : Nat} (hi : i < 5) (hj : j < i) (x : Int32) : tq_L (upd a (tq_b i + j) x) (upd c (i * 5 + j) x) := by
  intro p hp q hq
  have e := tq_inj i hi j hj p hp q hq
  show (if tq_b p + q = tq_b i + j then x else a (tq_b p + q)) = (if p * 5 + q = i * 5 + j then x else c (p * 5 + q))
  by_cases z : tq_b p + q = tq_b i + j
  · rw [if_pos z, if_pos (e.mp z)]
  · rw [if_neg z, if_neg (fun w => z (e.mpr w))]
    exact h p hp q hq
end
section
/-! solve: each side against the pure picture -/
theorem tq_xin (post : Int64 → SX → Prop) (J2 : Int32 → (Nat → Int32) → (Nat → Int64) → Prop) (a : Nat → Int32) (r : Nat → Int64) (i : Nat) (hi : i < 5) (h : J2 (nI (i + 1)) a (tq_row a r i)) :
    ∀ d j : Nat, j + d = i → wX_solve_20 post J2 (nI i) (nI (tq_b i)) a r (d + 1) (tq_s a r (tq_b i) j) (nI j) := by
  intro d
  induction d with
  | zero =>
    intro j hj
    have e : j = i := by omega
    rw [e]
    have hin : vp_in (nI i) 5 := vp_in_nI hi (by decide)
    refine br_t (Int32.le_refl _) ⟨hin, hin, fun y ey z ez => ?_⟩
    rw [nI_clamp (by omega)] at ey
    rw [ez, nI_1, ey]
    exact h
  | succ d ih =>
    intro j hj
    have hb := tq_bl i hi j (by omega)
    refine br_f (nI_ge (by omega) (by omega)) ⟨?_, vp_in_nI (by omega) (by decide), fun y ey z ez => ?_⟩
    · rw [nI_add]; exact vp_in_nI hb (by decide)
    · rw [nI_add, nI_clamp (by omega), nI_clamp (by omega)] at ey
      rw [ez, nI_1, ey]
      exact ih (j + 1) (by omega)
theorem tq_xout (post : Int64 → SX → Prop) (a : Nat → Int32) (r : Nat → Int64) (h : post (tq_x a r 5 4) (a, tq_x a r 5)) :
    ∀ d i : Nat, i + d = 5 → wX_solve_2 post (d + 1) (nI i) a (tq_x a r i) := by
  intro d
  induction d with
  | zero =>
    intro i hi
    have e : i = 5 := by omega
    rw [e]
    exact br_t (by decide) h
  | succ d ih =>
    intro i hi
    have h5 : i < 5 := by omega
    refine br_f (lt5' i h5) ⟨tq_n2, fun y ey => ⟨i + 1, ?_⟩⟩
    rw [ey, tq_bI i h5]
    exact tq_xin post (wX_solve_2 post (d + 1)) a (tq_x a r i) i h5 (ih (i + 1) (by omega)) i 0 (by omega)
theorem tq_y (post : Int64 → SY → Prop) (a c : Nat → Int32) (r : Nat → Int64) (hL : tq_L a c) (h : post (tq_x a r 5 4) (c, tq_x a r 5)) :
    ∀ e i j : Nat, j < 5 → i * 5 + j + e = 25 → wY_solve_2 post (e + 1) (nI (i * 5 + j)) c (tq_m a r i j) := by
  intro e
  induction e with
  | zero =>
    intro i j hj he
    have e1 : i = 5 := by omega
    have e2 : j = 0 := by omega
    rw [e1, e2, tq_m0]
    exact br_t (by decide) h
  | succ e ih =>
    intro i j hj he
    have hi : i < 5 := by omega
    have nx : wY_solve_2 post (e + 1) (nI (i * 5 + j + 1)) c (tq_m a r i (j + 1)) := by
      by_cases z : j + 1 < 5
      · exact ih i (j + 1) z (by omega)
      · have w := ih (i + 1) 0 (by omega) (by omega)
        have e3 : (i + 1) * 5 + 0 = i * 5 + j + 1 := by omega
        rw [e3, ← tq_mN a r (i := i) (j := j + 1) (by omega)] at w
        exact w
    refine br_f (tq_25 i hi j hj) ⟨tq_n5, fun y ey => ⟨tq_n5, fun z ez => ?_⟩⟩
    rw [tq_div i hi j hj] at ey
    rw [tq_rem i hi j hj] at ez
    subst ey
    subst ez
    by_cases hl : i ≤ j
    · refine br_t (nI_le hl (by omega)) fun w ew => ?_
      rw [ew, nI_1, ← tq_mK a r hl]
      exact nx
    · have hji : j < i := by omega
      refine br_f (nI_ge hji (by omega)) ⟨vp_in_nI hi (by decide), vp_in_nI (by omega) (by decide), vp_in_nI hj (by decide), vp_in_nI hi (by decide), fun b eb w ew => ?_⟩
      rw [nI_clamp (by omega), nI_clamp (by omega), nI_clamp (by omega), ← hL i hi j hji, tq_mS a r hji] at eb
      rw [ew, nI_1, eb]
      exact nx
end
section
/-- the same right-hand side; the packed triangle is the square's lower part -/
def i_Rel (k : Nat) (u : SX) (v : SY) : Prop := v.2 = u.2 ∧ tq_L u.1 v.1
theorem i_up {k : Nat} {u : SX} {v : SY} (h : i_Rel k u v) : i_Rel (k + 4) u v := h
theorem i_vc0 : wpX_init (fun u => wpY_init (fun v => i_Rel 0 u v)) := ⟨rfl, fun _ _ _ _ => rfl⟩
theorem i_vc_setL {k : Nat} {u : SX} {v : SY} (I : i_Rel k u v) (hk : k + 4 ≤ 2048) (v1 : Int32) (v2 : Int32) (v3 : Int32) : wpX_setL (fun r u' => wpY_setL (fun r' v' => r' = r ∧ i_Rel (k + 4) u' v') v v1 v2 v3) u v1 v2 v3 := by
  obtain ⟨a, r⟩ := u
  obtain ⟨c, b⟩ := v
  by_cases h0 : v1 < 0
  · exact br_t h0 (br_t h0 ⟨rfl, I⟩)
  by_cases h4 : 4 < v1
  · exact br_f h0 (br_t h4 (br_f h0 (br_t h4 ⟨rfl, I⟩)))
  by_cases g0 : 0 ≤ v2
  · by_cases g1 : v2 < v1
    · obtain ⟨i, hi, rfl⟩ := nI_of2 (M := 4) (n := 4) (by decide) h0 (Int32.not_lt.mp h4)
      obtain ⟨j, hj, rfl⟩ := nI_of (x := v2) (Int32.not_lt.mpr g0)
      have hji : j < i := (nI_ltI hj (by omega)).mp g1
      have hi5 : i < 5 := by omega
      have hb := tq_bl i hi5 j hji
      refine br_f h0 (br_f h4 (br_t g0 (br_t g1 ⟨tq_n2, ?_, fun x ex => br_f h0 (br_f h4 (br_t g0 (br_t g1 ⟨?_, fun y ey => ⟨rfl, I.1, ?_⟩⟩)))⟩)))
      · rw [tq_bI i hi5, nI_add]; exact vp_in_nI hb (by decide)
      · rw [tq_5I i hi5, nI_add]; exact vp_in_nI (by omega) (by decide)
      · rw [tq_bI i hi5, nI_add, nI_clamp (by omega)] at ex
        rw [tq_5I i hi5, nI_add, nI_clamp (by omega)] at ey
        rw [ex, ey]
        exact tq_Lu I.2 hi5 hji v3
    · exact br_f h0 (br_f h4 (br_t g0 (br_f g1 (br_f h0 (br_f h4 (br_t g0 (br_f g1 ⟨rfl, I⟩)))))))
  · exact br_f h0 (br_f h4 (br_f g0 (br_f h0 (br_f h4 (br_f g0 ⟨rfl, I⟩)))))
theorem i_vc_setB {k : Nat} {u : SX} {v : SY} (I : i_Rel k u v) (hk : k + 4 ≤ 2048) (v1 : Int32) (a1 : Int64) : wpX_setB (fun r u' => wpY_setB (fun r' v' => r' = r ∧ i_Rel (k + 4) u' v') v v1 a1) u v1 a1 := by
  obtain ⟨a, r⟩ := u
  obtain ⟨c, b⟩ := v
  obtain ⟨e, hL⟩ := I
  have e' : b = r := e
  subst e'
  by_cases h0 : v1 < 0
  · exact br_t h0 (br_t h0 ⟨rfl, rfl, hL⟩)
  by_cases h4 : v1 ≤ 4
  · obtain ⟨i, hi, rfl⟩ := nI_of2 (M := 4) (n := 4) (by decide) h0 h4
    have hin : vp_in (nI i) 5 := vp_in_nI (by omega) (by decide)
    exact br_f h0 (br_t h4 ⟨hin, fun x ex => br_f h0 (br_t h4 ⟨hin, fun y ey => ⟨rfl, ey.trans ex.symm, hL⟩⟩)⟩)
  · exact br_f h0 (br_f h4 (br_f h0 (br_f h4 ⟨rfl, rfl, hL⟩)))
theorem i_vc_solve {k : Nat} {u : SX} {v : SY} (I : i_Rel k u v) (hk : k + 4 ≤ 2048) : wpX_solve (fun r u' => wpY_solve (fun r' v' => r' = r ∧ i_Rel (k + 4) u' v') v) u := by
  obtain ⟨a, r⟩ := u
  obtain ⟨c, b⟩ := v
  obtain ⟨e, hL⟩ := I
  have e' : b = r := e
  subst e'
  refine ⟨6, tq_xout _ a b ?_ 5 0 rfl⟩
  refine ⟨26, ?_⟩
  have w := tq_y (fun r' v' => r' = tq_x a b 5 4 ∧ i_Rel (k + 4) (a, tq_x a b 5) v') a c b hL ⟨rfl, rfl, hL⟩ 25 0 0 (by omega) (by omega)
  rw [tq_m0] at w
  exact w
theorem i_vc_x {k : Nat} {u : SX} {v : SY} (I : i_Rel k u v) (hk : k + 4 ≤ 2048) (v1 : Int32) : wpX_x (fun r => wpY_x (fun r' => r' = r ∧ i_Rel (k + 4) u v) v v1) u v1 := by
  obtain ⟨a, r⟩ := u
  obtain ⟨c, b⟩ := v
  obtain ⟨e, hL⟩ := I
  have e' : b = r := e
  subst e'
  by_cases h0 : v1 < 0
  · exact br_t h0 (br_t h0 ⟨rfl, rfl, hL⟩)
  by_cases h4 : v1 ≤ 4
  · obtain ⟨i, hi, rfl⟩ := nI_of2 (M := 4) (n := 4) (by decide) h0 h4
    have hin : vp_in (nI i) 5 := vp_in_nI (by omega) (by decide)
    exact br_f h0 (br_t h4 ⟨hin, br_f h0 (br_t h4 ⟨hin, rfl, rfl, hL⟩)⟩)
  · exact br_f h0 (br_f h4 (br_f h0 (br_f h4 ⟨rfl, rfl, hL⟩)))
end
