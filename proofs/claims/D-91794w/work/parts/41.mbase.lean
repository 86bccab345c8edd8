set_option maxRecDepth 100000
/-! STAGE 2, the model's state; truth values -/
/-- 1 or 0 -/
def bi (c : Prop) [Decidable c] : Int := if c then 1 else 0
theorem bi_0 {c : Prop} [Decidable c] : (zi (bi c) = zi 0) = ¬ c := by
  unfold bi; by_cases h : c
  · rw [if_pos h]; simp only [h, not_true_eq_false, eq_iff_iff, iff_false]; decide
  · rw [if_neg h]; simp [h]
theorem bi_1 {c : Prop} [Decidable c] : (zi (bi c) = zi 1) = c := by
  unfold bi; by_cases h : c
  · rw [if_pos h]; simp [h]
  · rw [if_neg h]; simp only [h, eq_iff_iff, iff_false]; decide
theorem bi_01 {c : Prop} [Decidable c] : (zi (bi c) = zi 0 ∨ zi (bi c) = zi 1) = True := by
  rw [bi_0, bi_1]; simp [Decidable.em, or_comm]
theorem bi_or {c : Prop} [Decidable c] : bi c = 0 ∨ bi c = 1 := by unfold bi; split <;> simp
theorem bi_t {c : Prop} [Decidable c] (h : c) : bi c = 1 := if_pos h
theorem bi_f {c : Prop} [Decidable c] (h : ¬ c) : bi c = 0 := if_neg h
def fu (g : Nat → Int) (i : Nat) (n : Int) : Nat → Int := fun j => if j = i then n else g j
/-- the model's state: the row of all, and the rest -/
def sg (g : Nat → Int) (s : Nat → Nat → Int32) : Nat → Nat → Int32 := fun a j => if a = 0 then zi (g j) else s a j
theorem sg_0 (g : Nat → Int) (s : Nat → Nat → Int32) (j : Nat) : sg g s 0 j = zi (g j) := rfl
theorem sg_o (g : Nat → Int) (s : Nat → Nat → Int32) {k : Nat} (h : ¬ k = 0) : sg g s k = s k := by funext j; unfold sg; rw [if_neg h]
theorem mU_0 (g : Nat → Int) (s : Nat → Nat → Int32) (i : Nat) (n : Int) : mU (sg g s) 0 i (zi n) = sg (fu g i n) s := by
  funext a j; unfold mU sg fu
  by_cases h : a = 0
  · subst h; by_cases h2 : j = i <;> simp [h2]
  · simp [h]
theorem mU_o (g : Nat → Int) (s : Nat → Nat → Int32) {k : Nat} (i : Nat) (v : Int32) (h : ¬ k = 0) : mU (sg g s) k i v = sg g (mU s k i v) := by
  funext a j; unfold mU sg
  by_cases h0 : a = 0
  · subst h0
    have : ¬ 0 = k := fun e => h e.symm
    simp [this]
  · simp [h0]
theorem sg_ex (S : zS) : ∃ g : Nat → Int, S = (S.1, sg g S.2) := by
  refine ⟨fun k => (S.2 0 k).toInt, ?_⟩
  have : sg (fun k => (S.2 0 k).toInt) S.2 = S.2 := by
    funext a j; unfold sg; by_cases h : a = 0
    · subst h; simp [zi]
    · simp [h]
  rw [this]
theorem wm_isIn {S : zS} {Q : Int32 → zS → Prop} {a b c : Int} (h1 : -2147483648 ≤ a) (h2 : a < 2147483648) (h3 : -2147483648 ≤ b) (h4 : b < 2147483648) (h5 : -2147483648 ≤ c) (h6 : c < 2147483648) : wp (m_isIn (zi a) (zi b) (zi c)) S Q = Q (zi (bi (b ≤ a ∧ a ≤ c))) S := by
  unfold m_isIn
  simp (disch := first | omega | (simp only [zlen, if_true, if_false, A_nc_sfi, A_us_sfi, A_kd_sfi, A_ln_sfi, A_fi_sfi, A_fl_sfi, A_fr_sfi, A_ai_sfi, A_al_sfi, A_ar_sfi, A_bs_sfi, A_st_sfi, A_nc_sfl, A_us_sfl, A_kd_sfl, A_ln_sfl, A_fi_sfl, A_fl_sfl, A_fr_sfl, A_ai_sfl, A_al_sfl, A_ar_sfl, A_bs_sfl, A_st_sfl, A_nc_sfr, A_us_sfr, A_kd_sfr, A_ln_sfr, A_fi_sfr, A_fl_sfr, A_fr_sfr, A_ai_sfr, A_al_sfr, A_ar_sfr, A_bs_sfr, A_st_sfr, A_nc_sai, A_us_sai, A_kd_sai, A_ln_sai, A_fi_sai, A_fl_sai, A_fr_sai, A_ai_sai, A_al_sai, A_ar_sai, A_bs_sai, A_st_sai, A_nc_sal, A_us_sal, A_kd_sal, A_ln_sal, A_fi_sal, A_fl_sal, A_fr_sal, A_ai_sal, A_al_sal, A_ar_sal, A_bs_sal, A_st_sal, A_nc_sar, A_us_sar, A_kd_sar, A_ln_sar, A_fi_sar, A_fl_sar, A_fr_sar, A_ai_sar, A_al_sar, A_ar_sar, A_bs_sar, A_st_sar, A_nc_sln, A_us_sln, A_kd_sln, A_ln_sln, A_fi_sln, A_fl_sln, A_fr_sln, A_ai_sln, A_al_sln, A_ar_sln, A_bs_sln, A_st_sln, A_nc_new, A_us_new, A_kd_new, A_ln_new, A_fi_new, A_fl_new, A_fr_new, A_ai_new, A_al_new, A_ar_new, A_bs_new, A_st_new]; omega) | decide) only [wp_P, wp_B, wp_E, wp_X, wp_C, wp_I, wp_D, zi_0, zi_1, zi_add, zi_sub, zi_mul, zi_neg, zi_lt, zi_le, zi_eq, bi_0, bi_1, bi_01, true_and, and_true, not_true_eq_false, not_false_eq_true, if_true, if_false, Int.reduceToNat, Int.reduceAdd, Int.reduceSub, Int.reduceMul, Int.reduceNeg, wp_mF, wp_mW, wp_mA, wp_mS, wp_mZ, wp_mV, sg_0, sg_o, mU_0, mU_o]
  split
  · rw [bi_f (by omega)]
  · split
    · rw [bi_f (by omega)]
    · rw [bi_t (by omega)]
