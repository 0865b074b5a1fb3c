section
/-! The plain law: a maximum and a minimum, each written in the class's way (<) and in the twin's (≤). -/
theorem ws_min_t {l d : Int32} (h : d ≤ l) : (if l < d then l else d) = d := if_neg (Int32.not_lt.mpr h)
theorem ws_min_f {l d : Int32} (h : ¬ d ≤ l) : (if l < d then l else d) = l := if_pos (Int32.not_le.mp h)
theorem ws_max_t {f m : Int32} (h : f ≤ m) : (if f < m then m else f) = m := by
  by_cases g : f < m
  · exact if_pos g
  · rw [if_neg g]
    exact Int32.le_antisymm h (Int32.not_lt.mp g)
theorem ws_max_f {f m : Int32} (h : ¬ f ≤ m) : (if f < m then m else f) = f := if_neg (fun z => h (Int32.le_of_lt z))
/-- the distance as the class takes it: abs of the wrapped difference -/
def ws_dist (a b : Int32) : Int32 := if 0 ≤ (a - b) then (a - b) else 0 - (a - b)
theorem ws_dist_t {a b : Int32} (h : 0 ≤ a - b) : ws_dist a b = a - b := if_pos h
theorem ws_dist_f {a b : Int32} (h : ¬ 0 ≤ a - b) : ws_dist a b = b - a := by
  unfold ws_dist
  rw [if_neg h, Int32.zero_sub, Int32.neg_sub]
/-- a distance held within a limit, as the class writes it -/
def ws_held (l d : Int32) : Int32 := if (-l) < (if l < d then l else d) then (if l < d then l else d) else (-l)
/-! The walk: a lemma a method. -/
theorem ws_19 {post : Int32 → Prop} {l m : Int32} (h : post (if (-l) < m then m else (-l))) : wX1_clampedGap_19 post l m := by
  unfold wX1_clampedGap_19
  refine nm_r (Int32.zero_sub l) (br_c (fun z => ?_) (fun z => ?_))
  · rw [ws_max_t z] at h
    exact h
  · rw [ws_max_f z] at h
    exact h
theorem ws_12 {post : Int32 → Prop} {l d : Int32} (h : post (ws_held l d)) : wX1_clampedGap_12 post l d := by
  unfold wX1_clampedGap_12
  unfold ws_held at h
  refine br_c (fun z => ws_19 ?_) (fun z => ws_19 ?_)
  · rw [ws_min_t z] at h
    exact h
  · rw [ws_min_f z] at h
    exact h
theorem ws_x1 {post : Int32 → Prop} {a b l : Int32} (h : post (ws_held l (ws_dist a b))) : wpX1_clampedGap post () a b l := by
  unfold wpX1_clampedGap
  refine nm_e (br_c (fun z => ws_12 ?_) (fun z => nm_e (ws_12 ?_)))
  · rw [ws_dist_t z] at h
    exact h
  · rw [ws_dist_f z] at h
    exact h
theorem ws_x0 {post : Int32 → Prop} {a b l : Int32} (h : post (ws_held l (ws_dist a b))) : wpX0_clampedGap post () a b l := by
  unfold wpX0_clampedGap
  exact fun d ed => by
    rw [ed]
    exact h
theorem ws_lawOf {post : Int32 → Prop} {a b l : Int32} (h : post 1) : wpL_lawOf post () a b l := by
  unfold wpL_lawOf
  exact ws_x0 (ws_x1 (br_t rfl h))
theorem ws_cell {post : Int32 → Prop} {L : Nat} {xs : Nat → Int32} {p : Int32} (hL : L ≤ 3) (k : Nat) (hk : k < 3) (hp : p = nI k) (h : ∀ x, post x) : wpL_cellAt post L xs () p := by
  unfold wpL_cellAt
  exact pk_le L k (fun _ => h 0) (fun z => ⟨hp ▸ vp_in_nI z (by omega), h _⟩) rfl hp
theorem i_vc (xs : Nat → Int32) (L : Nat) (hL : L ≤ 3) : wpL_law (fun r => r = 1) L xs := by
  unfold wpL_law
  exact ws_cell hL 0 (by decide) rfl (fun _ => ws_cell hL 1 (by decide) rfl (fun _ => ws_cell hL 2 (by decide) rfl (fun _ => ws_lawOf rfl)))
end
