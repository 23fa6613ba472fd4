section
/-! the plain law: division and remainder of longs and ints, no program in sight -/
theorem dv_ss (a c : Int64) : a - (a - c) = c :=
  Int64.sub_eq_iff_eq_add.mpr (by rw [Int64.add_comm, Int64.sub_add_cancel])
/-- the truncating remainder of a number that is not negative lies between 0 and the number -/
theorem dv_tp (A B : Int) (h : 0 ≤ A) : 0 ≤ A.tmod B ∧ A.tmod B ≤ A := by
  have h1 := Int.tmod_nonneg B h
  have h2 : (A.tmod B).natAbs ≤ A.natAbs := by
    rw [Int.natAbs_tmod]
    exact Nat.mod_le _ _
  omega
/-- so does that of a negative one, from the other side -/
theorem dv_tn (A B : Int) (h : A ≤ 0) : A ≤ A.tmod B ∧ A.tmod B ≤ 0 := by
  have h1 := dv_tp (-A) B (by omega)
  rw [Int.neg_tmod] at h1
  omega
/-- quotient times divisor stays within a long, the wrapping quotient of MIN by -1 among them -/
theorem dv_in (A B : Int) (h1 : -2 ^ 63 ≤ A) (h2 : A < 2 ^ 63) : -2 ^ 63 ≤ A.tdiv B * B ∧ A.tdiv B * B < 2 ^ 63 := by
  have e := Int.tmod_add_tdiv_mul A B
  rcases Int.le_total 0 A with h | h
  · have t := dv_tp A B h
    omega
  · have t := dv_tn A B h
    omega
theorem dv_qb (a b : Int64) : (a / b * b).toInt = a.toInt.tdiv b.toInt * b.toInt := by
  have t := dv_in a.toInt b.toInt a.le_toInt a.toInt_lt
  rw [Int64.toInt_mul, Int64.toInt_div, Int.bmod_mul_bmod]
  exact Jvm.Kit.bmod64 t.1 t.2
theorem dv_b0 {b : Int64} (hb : ¬ b = 0) : b.toInt ≠ 0 := by
  intro h
  exact hb (Int64.toInt_inj.mp (by rw [h, Int64.toInt_zero]))
theorem dv_qq (a b : Int64) (hb : ¬ b = 0) : a / b * b / b = a / b := by
  apply Int64.toInt_inj.mp
  rw [Int64.toInt_div (a / b * b) b, dv_qb, Int.mul_tdiv_cancel _ (dv_b0 hb), Int64.toInt_div a b]
/-- the reference's quotient of longs is the component's -/
theorem dv_y64 (a b : Int64) (hb : ¬ b = 0) : (a - (a - a / b * b)) / b = a / b := by
  rw [dv_ss, dv_qq a b hb]
/-- the remainder of two ints, taken as longs -/
theorem dv_r32 (a b : Int32) : a.toInt64 - a.toInt64 / b.toInt64 * b.toInt64 = (a - a / b * b).toInt64 := by
  apply Int64.toInt_inj.mp
  rw [Jvm.Kit.i64_rem, Int32.toInt_toInt64 a, Int32.toInt_toInt64 b, Int32.toInt_toInt64 (a - a / b * b), rem_toInt]
/-- the quotient of two ints, taken as longs and cut to an int: MIN by -1 wraps -/
theorem dv_q32 (a b : Int32) : (a.toInt64 / b.toInt64).toInt32 = a / b := by
  apply Int32.toInt_inj.mp
  rw [Int64.toInt_toInt32, Int64.toInt_div, Int32.toInt_toInt64 a, Int32.toInt_toInt64 b, Int32.toInt_div]
  exact Int.bmod_bmod_of_dvd (by decide)
theorem dv_n0 {b : Int32} (hb : ¬ b = 0) : ¬ b.toInt64 = 0 := by
  intro h
  have e := Int32.toInt_toInt64 b
  rw [h, Int64.toInt_zero] at e
  exact hb (Int32.toInt_inj.mp (by rw [← e, Int32.toInt_zero]))
theorem dv_nm (a : Int32) : ¬ a.toInt64 = (-9223372036854775808) := by
  intro h
  have e := Int32.toInt_toInt64 a
  rw [h, show (-9223372036854775808 : Int64).toInt = -9223372036854775808 from by decide] at e
  have t := a.le_toInt
  omega
theorem dv_m64 : (-9223372036854775808 : Int64) / (-1) = -9223372036854775808 := by decide +kernel
theorem dv_z64 : (0 : Int64) = -9223372036854775808 - -9223372036854775808 / (-1) * (-1) := by decide +kernel
theorem dv_m32 : (-2147483648 : Int32) / (-1) = -2147483648 := by decide +kernel
theorem dv_z32 : (0 : Int64) = ((-2147483648 : Int32) - -2147483648 / (-1) * (-1)).toInt64 := by decide +kernel
end
section
/-! the relation: both units hold the same trap bits and the same remainder; one lemma a join, then the owed statements -/
def i_Rel (_ : Nat) (u : SX) (v : SY) : Prop := u = v
theorem i_up {k : Nat} {u : SX} {v : SY} (h : i_Rel k u v) : i_Rel (k + 5) u v := h
theorem i_vc0 : wpX_init (fun u => wpY_init (fun v => i_Rel 0 u v)) := rfl
theorem dv_rel {k : Nat} {t t' : Int32} {r r' : Int64} (h : t = t') (h' : r = r') : i_Rel k (t, r) (t', r') := by
  subst h h'
  exact rfl
theorem dv_X51 {post : Int64 → SX → Prop} {a b : Int64} {t : Int32} {r : Int64} (hb : ¬ b = 0) (h : post (a / b) (t, a - a / b * b)) : wX_div64_51 post a b t r := by
  unfold wX_div64_51
  refine ⟨hb, fun x ex => ⟨hb, fun y ey => ?_⟩⟩
  rw [ex, ey]
  exact h
theorem dv_X45 {post : Int32 → SX → Prop} {a b : Int32} {t : Int32} {r : Int64} (hb : ¬ b = 0) (h : post (a / b) (t, (a - a / b * b).toInt64)) : wX_div32_45 post a b t r := by
  unfold wX_div32_45
  refine ⟨hb, fun x ex => ⟨hb, fun y ey => ?_⟩⟩
  rw [ex, ey]
  exact h
theorem dv_Y44 {post : Int64 → SY → Prop} {a b : Int64} {t : Int32} {r : Int64} (hb : ¬ b = 0) (h : post (a / b) (t, a - a / b * b)) : wY_div64_44 post a b t r := by
  unfold wY_div64_44
  refine ⟨hb, fun x ex y ey => ⟨hb, ?_⟩⟩
  rw [ex, ey, dv_y64 a b hb]
  exact h
theorem dv_Y37 {post : Int32 → SY → Prop} {a b : Int32} {t : Int32} {r : Int64} (hb : ¬ b = 0) (h : post (a / b) (t, (a - a / b * b).toInt64)) : wY_div32_37 post a b t r := by
  unfold wY_div32_37
  refine br_f (dv_n0 hb) ?_
  refine br_f (dv_nm a) ?_
  refine dv_Y44 (dv_n0 hb) ?_
  show post (a.toInt64 / b.toInt64).toInt32 (t, a.toInt64 - a.toInt64 / b.toInt64 * b.toInt64)
  rw [dv_q32, dv_r32]
  exact h
theorem i_vc_div32 {k : Nat} {u : SX} {v : SY} (I : i_Rel k u v) (hk : k + 5 ≤ 2560) (v1 : Int32) (v2 : Int32) : wpX_div32 (fun r u' => wpY_div32 (fun r' v' => r' = r ∧ i_Rel (k + 5) u' v') v v1 v2) u v1 v2 := by
  obtain ⟨t, r⟩ := u
  cases I
  by_cases hb : v2 = 0
  · exact br_t hb (fun f ef => br_t hb (fun g eg => ⟨rfl, dv_rel (ef.trans eg.symm) rfl⟩))
  · by_cases ha : v1 = -2147483648
    · by_cases hm : v2 = -1
      · refine br_f hb (br_t ha (br_t hm (fun f ef => br_f hb (br_t ha (br_t hm (fun g eg => dv_Y37 hb ⟨?_, dv_rel (ef.trans eg.symm) ?_⟩))))))
        · rw [ha, hm]; exact dv_m32
        · rw [ha, hm]; exact dv_z32
      · exact br_f hb (br_t ha (br_f hm (dv_X45 hb (br_f hb (br_t ha (br_f hm (dv_Y37 hb ⟨rfl, dv_rel rfl rfl⟩)))))))
    · exact br_f hb (br_f ha (dv_X45 hb (br_f hb (br_f ha (dv_Y37 hb ⟨rfl, dv_rel rfl rfl⟩)))))
theorem i_vc_div64 {k : Nat} {u : SX} {v : SY} (I : i_Rel k u v) (hk : k + 5 ≤ 2560) (a0 : Int64) (a1 : Int64) : wpX_div64 (fun r u' => wpY_div64 (fun r' v' => r' = r ∧ i_Rel (k + 5) u' v') v a0 a1) u a0 a1 := by
  obtain ⟨t, r⟩ := u
  cases I
  by_cases hb : a1 = 0
  · exact br_t hb (fun f ef => br_t hb (fun g eg => ⟨rfl, dv_rel (ef.trans eg.symm) rfl⟩))
  · by_cases ha : a0 = -9223372036854775808
    · by_cases hm : a1 = -1
      · refine br_f hb (br_t ha (br_t hm (fun f ef => br_f hb (br_t ha (br_t hm (fun g eg => dv_Y44 hb ⟨?_, dv_rel (ef.trans eg.symm) ?_⟩))))))
        · rw [ha, hm]; exact dv_m64
        · rw [ha, hm]; exact dv_z64
      · exact br_f hb (br_t ha (br_f hm (dv_X51 hb (br_f hb (br_t ha (br_f hm (dv_Y44 hb ⟨rfl, dv_rel rfl rfl⟩)))))))
    · exact br_f hb (br_f ha (dv_X51 hb (br_f hb (br_f ha (dv_Y44 hb ⟨rfl, dv_rel rfl rfl⟩)))))
theorem i_vc_rem {k : Nat} {u : SX} {v : SY} (I : i_Rel k u v) (hk : k + 5 ≤ 2560) : wpX_rem (fun r => wpY_rem (fun r' => r' = r ∧ i_Rel (k + 5) u v) v) u := by
  obtain ⟨t, r⟩ := u
  cases I
  exact And.intro rfl (dv_rel rfl rfl)
theorem i_vc_clearTrap {k : Nat} {u : SX} {v : SY} (I : i_Rel k u v) (hk : k + 5 ≤ 2560) : wpX_clearTrap (fun r u' => wpY_clearTrap (fun r' v' => r' = r ∧ i_Rel (k + 5) u' v') v) u := by
  obtain ⟨t, r⟩ := u
  cases I
  exact And.intro rfl (dv_rel rfl rfl)
end
