section
/-! ===== plain rows: the remainder, the sign of an exclusive or, the floor's remainder ===== -/
/-- Java's remainder as the print writes it: it is the truncated remainder of the whole numbers -/
theorem ws_rem (a s : Int32) : (a - a / s * s).toInt = a.toInt.tmod s.toInt := by
  have h : (a - a / s * s).toInt = (a % s).toInt.bmod (2 ^ 32) := by
    rw [Int32.toInt_sub, Int32.toInt_mul, Int32.toInt_div, Int.bmod_mul_bmod, Int.sub_bmod_bmod, Int32.toInt_mod, Int.tmod_def, Int.mul_comm (a.toInt.tdiv s.toInt) s.toInt]
  exact h.trans ((Int32.toInt_bmod (a % s)).trans (Int32.toInt_mod a s))
theorem ws_sgn {x y z : Int} (h : decide (x < 0) = (decide (y < 0) ^^ decide (z < 0))) : 0 ≤ x ↔ (0 ≤ y ↔ 0 ≤ z) := by
  by_cases hx : x < 0 <;> by_cases hy : y < 0 <;> by_cases hz : z < 0 <;> simp [hx, hy, hz] at h <;> omega
/-- the exclusive or isn't negative just where the signs agree -/
theorem ws_xor (a s : Int32) : 0 ≤ (a ^^^ s) ↔ (0 ≤ a.toInt ↔ 0 ≤ s.toInt) := by
  have h : (a ^^^ s).toBitVec.msb = (a.toBitVec.msb ^^ s.toBitVec.msb) := by
    rw [Int32.toBitVec_xor, BitVec.msb_xor]
  rw [BitVec.msb_eq_toInt (x := (a ^^^ s).toBitVec), BitVec.msb_eq_toInt (x := a.toBitVec), BitVec.msb_eq_toInt (x := s.toBitVec), Int32.toInt_toBitVec, Int32.toInt_toBitVec, Int32.toInt_toBitVec] at h
  rw [Int32.le_iff_toInt_le, Int32.toInt_zero]
  exact ws_sgn h
theorem ws_tpos {a b : Int} (h : 0 < a.tmod b) : 0 ≤ a := by
  by_cases ha : 0 ≤ a
  · exact ha
  · have h2 := Int.tmod_nonneg (a := -a) b (by omega)
    rw [Int.neg_tmod] at h2
    omega
theorem ws_tneg {a b : Int} (h : a.tmod b < 0) : ¬ 0 ≤ a := by
  intro ha
  have h2 := Int.tmod_nonneg (a := a) b ha
  omega
theorem ws_ne {s : Int32} (hs : ¬ s = 0) : ¬ s.toInt = 0 := by
  intro h
  exact hs (Int32.toInt_inj.mp (h.trans Int32.toInt_zero.symm))
theorem ws_le0 (x : Int32) : 0 ≤ x ↔ 0 ≤ x.toInt := by
  rw [Int32.le_iff_toInt_le, Int32.toInt_zero]
theorem ws_ge0 (x : Int32) : x ≤ 0 ↔ x.toInt ≤ 0 := by
  rw [Int32.le_iff_toInt_le, Int32.toInt_zero]
/-- the picture: the floor's remainder, as Math.floorMod says it -/
def ws_v (a s : Int32) : Int32 := if 0 ≤ (a ^^^ s) then a - a / s * s else if a - a / s * s = 0 then a - a / s * s else a - a / s * s + s
theorem ws_v1 {a s x : Int32} (hx : x = a - a / s * s) (h : 0 ≤ (a ^^^ s)) : ws_v a s = x := by
  subst hx
  exact if_pos h
theorem ws_v2 {a s x : Int32} (hx : x = a - a / s * s) (h : x = 0) : ws_v a s = x := by
  subst hx
  unfold ws_v
  by_cases h1 : 0 ≤ (a ^^^ s)
  · exact if_pos h1
  · rw [if_neg h1, if_pos h]
theorem ws_v3 {a s x : Int32} (hx : x = a - a / s * s) (h : ¬ 0 ≤ (a ^^^ s)) (h2 : ¬ x = 0) : ws_v a s = x + s := by
  subst hx
  unfold ws_v
  rw [if_neg h, if_neg h2]
theorem ws_r1 (q a s : Int32) : q * s + (a - q * s) = a := by grind
theorem ws_r2 (q a s : Int32) : (q - 1) * s + ((a - q * s) + s) = a := by grind
theorem ws_r3 {q a s : Int32} (h : a - q * s = 0) : q * s = a := by grind
theorem ws_r4 {q a s : Int32} (h : q * s = a) : a - q * s = 0 := by grind
end
section
/-! ===== the class's method and its twin: both answer the picture ===== -/
theorem ws_new {post : Int32 → Prop} {a s : Int32} (hs : ¬ s = 0) (h : post (ws_v a s)) : wpX0_ringPlace post () a s := by
  unfold wpX0_ringPlace
  refine ⟨hs, fun x ex => ?_⟩
  by_cases hx : 0 ≤ (a ^^^ s)
  · rw [ws_v1 ex hx] at h
    refine br_t hx ⟨hs, fun q eq => br_t hx (br_t ?_ h)⟩
    rw [ex, eq]
    exact ws_r1 _ _ _
  · by_cases hz : x = 0
    · rw [ws_v2 ex hz] at h
      refine br_f hx (br_t hz ⟨hs, fun q eq => br_f hx (br_t ?_ (br_t ?_ h))⟩)
      · rw [ex] at hz
        rw [eq]
        exact ws_r3 hz
      · rw [ex, eq]
        exact ws_r1 _ _ _
    · rw [ws_v3 ex hx hz] at h
      refine br_f hx (br_f hz ⟨hs, fun q eq => br_f hx (br_f ?_ (br_t ?_ h))⟩)
      · rw [ex] at hz
        rw [eq]
        exact fun h4 => hz (ws_r4 h4)
      · rw [ex, eq]
        exact ws_r2 _ _ _
theorem ws_old {post : Int32 → Prop} {a s : Int32} (hs : ¬ s = 0) (h : post (ws_v a s)) : wpX1_ringPlace post () a s := by
  unfold wpX1_ringPlace
  refine ⟨hs, fun x ex => ?_⟩
  have hr : x.toInt = a.toInt.tmod s.toInt := by rw [ex]; exact ws_rem a s
  have hn := ws_ne hs
  by_cases h1 : 0 ≤ x
  · refine br_t h1 ?_
    have k1 := (ws_le0 x).mp h1
    by_cases h2 : x ≤ 0
    · have k2 := (ws_ge0 x).mp h2
      have hz : x = 0 := Int32.toInt_inj.mp (by rw [Int32.toInt_zero]; omega)
      rw [ws_v2 ex hz] at h
      exact br_t h2 h
    · have k2 : ¬ x.toInt ≤ 0 := fun k => h2 ((ws_ge0 x).mpr k)
      have ha : 0 ≤ a.toInt := ws_tpos (b := s.toInt) (by omega)
      by_cases h3 : 0 ≤ s
      · rw [ws_v1 ex ((ws_xor a s).mpr ⟨fun _ => (ws_le0 s).mp h3, fun _ => ha⟩)] at h
        exact br_f h2 (br_t h3 h)
      · have hz : ¬ x = 0 := fun z => h2 (by rw [z]; exact Int32.le_refl 0)
        rw [ws_v3 ex (fun z => h3 ((ws_le0 s).mpr (((ws_xor a s).mp z).mp ha))) hz] at h
        exact br_f h2 (br_f h3 h)
  · refine br_f h1 ?_
    have k1 : ¬ 0 ≤ x.toInt := fun k => h1 ((ws_le0 x).mpr k)
    have ha : ¬ 0 ≤ a.toInt := ws_tneg (b := s.toInt) (by omega)
    by_cases h2 : s ≤ 0
    · have k2 := (ws_ge0 s).mp h2
      rw [ws_v1 ex ((ws_xor a s).mpr ⟨fun z => absurd z ha, fun z => absurd z (by omega)⟩)] at h
      exact br_t h2 (br_t ((ws_ge0 x).mpr (by omega)) h)
    · have k2 : ¬ s.toInt ≤ 0 := fun k => h2 ((ws_ge0 s).mpr k)
      have hz : ¬ x = 0 := fun z => h1 (by rw [z]; exact Int32.le_refl 0)
      rw [ws_v3 ex (fun z => ha (((ws_xor a s).mp z).mpr (by omega))) hz] at h
      exact br_f h2 h
/-! ===== the law ===== -/
theorem ws_10 {a s : Int32} (hs : ¬ s = 0) : wL_lawOf_10 (fun r => r = 1) a s := by
  unfold wL_lawOf_10
  exact ws_new hs (ws_old hs (br_t rfl rfl))
theorem ws_lawOf (a b : Int32) : wpL_lawOf (fun r => r = 1) () a b :=
  br_c (fun _ => ws_10 (by decide)) (fun h => ws_10 h)
theorem ws_cell {post : Int32 → Prop} {L : Nat} {xs : Nat → Int32} (hL : L ≤ 2) (k : Nat) (hk : k < 2) (h : ∀ v, post v) : wpL_cellAt post L xs () (nI k) := by
  refine br_c (fun _ => h 0) (fun hn => ⟨?_, h _⟩)
  by_cases hc : k < L
  · exact vp_in_nI hc (by omega)
  · exact absurd (nI_le (a := L) (b := k) (by omega) (by omega)) hn
/-! ===== WHAT IS OWED for WholeStepsLaw: one statement: the law answers true on every script of L ints xs ===== -/
theorem i_vc (xs : Nat → Int32) (L : Nat) (hL : L ≤ 2) : wpL_law (fun r => r = 1) L xs := by
  unfold wpL_law
  exact ws_cell hL 0 (by decide) (fun a => ws_cell hL 1 (by decide) (fun b => ws_lawOf a b))
end
