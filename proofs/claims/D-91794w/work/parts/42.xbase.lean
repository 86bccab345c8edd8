set_option maxRecDepth 100000
/-! STAGE 2, reading through writing -/
theorem A_nc_sfi (A : zA) (k a : Nat) (v : Int32) : A_nc (A_sfi A k a v) = A_nc A := rfl
theorem A_us_sfi (A : zA) (k a : Nat) (v : Int32) : A_us (A_sfi A k a v) = A_us A := rfl
theorem A_kd_sfi (A : zA) (k a : Nat) (v : Int32) : A_kd (A_sfi A k a v) = A_kd A := rfl
theorem A_ln_sfi (A : zA) (k a : Nat) (v : Int32) : A_ln (A_sfi A k a v) = A_ln A := rfl
theorem A_fi_sfi (A : zA) (k a : Nat) (v : Int32) (k' a' : Nat) : A_fi (A_sfi A k a v) k' a' = if k' = k ∧ a' = a then v else A_fi A k' a' := rfl
theorem A_fl_sfi (A : zA) (k a : Nat) (v : Int32) : A_fl (A_sfi A k a v) = A_fl A := rfl
theorem A_fr_sfi (A : zA) (k a : Nat) (v : Int32) : A_fr (A_sfi A k a v) = A_fr A := rfl
theorem A_ai_sfi (A : zA) (k a : Nat) (v : Int32) : A_ai (A_sfi A k a v) = A_ai A := rfl
theorem A_al_sfi (A : zA) (k a : Nat) (v : Int32) : A_al (A_sfi A k a v) = A_al A := rfl
theorem A_ar_sfi (A : zA) (k a : Nat) (v : Int32) : A_ar (A_sfi A k a v) = A_ar A := rfl
theorem A_bs_sfi (A : zA) (k a : Nat) (v : Int32) : A_bs (A_sfi A k a v) = A_bs A := rfl
theorem A_st_sfi (A : zA) (k a : Nat) (v : Int32) : A_st (A_sfi A k a v) = A_st A := rfl
theorem A_nc_sfl (A : zA) (k a : Nat) (v : Int64) : A_nc (A_sfl A k a v) = A_nc A := rfl
theorem A_us_sfl (A : zA) (k a : Nat) (v : Int64) : A_us (A_sfl A k a v) = A_us A := rfl
theorem A_kd_sfl (A : zA) (k a : Nat) (v : Int64) : A_kd (A_sfl A k a v) = A_kd A := rfl
theorem A_ln_sfl (A : zA) (k a : Nat) (v : Int64) : A_ln (A_sfl A k a v) = A_ln A := rfl
theorem A_fi_sfl (A : zA) (k a : Nat) (v : Int64) : A_fi (A_sfl A k a v) = A_fi A := rfl
theorem A_fl_sfl (A : zA) (k a : Nat) (v : Int64) (k' a' : Nat) : A_fl (A_sfl A k a v) k' a' = if k' = k ∧ a' = a then v else A_fl A k' a' := rfl
theorem A_fr_sfl (A : zA) (k a : Nat) (v : Int64) : A_fr (A_sfl A k a v) = A_fr A := rfl
theorem A_ai_sfl (A : zA) (k a : Nat) (v : Int64) : A_ai (A_sfl A k a v) = A_ai A := rfl
theorem A_al_sfl (A : zA) (k a : Nat) (v : Int64) : A_al (A_sfl A k a v) = A_al A := rfl
theorem A_ar_sfl (A : zA) (k a : Nat) (v : Int64) : A_ar (A_sfl A k a v) = A_ar A := rfl
theorem A_bs_sfl (A : zA) (k a : Nat) (v : Int64) : A_bs (A_sfl A k a v) = A_bs A := rfl
theorem A_st_sfl (A : zA) (k a : Nat) (v : Int64) : A_st (A_sfl A k a v) = A_st A := rfl
theorem A_nc_sfr (A : zA) (k a : Nat) (v : Option Nat) : A_nc (A_sfr A k a v) = A_nc A := rfl
theorem A_us_sfr (A : zA) (k a : Nat) (v : Option Nat) : A_us (A_sfr A k a v) = A_us A := rfl
theorem A_kd_sfr (A : zA) (k a : Nat) (v : Option Nat) : A_kd (A_sfr A k a v) = A_kd A := rfl
theorem A_ln_sfr (A : zA) (k a : Nat) (v : Option Nat) : A_ln (A_sfr A k a v) = A_ln A := rfl
theorem A_fi_sfr (A : zA) (k a : Nat) (v : Option Nat) : A_fi (A_sfr A k a v) = A_fi A := rfl
theorem A_fl_sfr (A : zA) (k a : Nat) (v : Option Nat) : A_fl (A_sfr A k a v) = A_fl A := rfl
theorem A_fr_sfr (A : zA) (k a : Nat) (v : Option Nat) (k' a' : Nat) : A_fr (A_sfr A k a v) k' a' = if k' = k ∧ a' = a then v else A_fr A k' a' := rfl
theorem A_ai_sfr (A : zA) (k a : Nat) (v : Option Nat) : A_ai (A_sfr A k a v) = A_ai A := rfl
theorem A_al_sfr (A : zA) (k a : Nat) (v : Option Nat) : A_al (A_sfr A k a v) = A_al A := rfl
theorem A_ar_sfr (A : zA) (k a : Nat) (v : Option Nat) : A_ar (A_sfr A k a v) = A_ar A := rfl
theorem A_bs_sfr (A : zA) (k a : Nat) (v : Option Nat) : A_bs (A_sfr A k a v) = A_bs A := rfl
theorem A_st_sfr (A : zA) (k a : Nat) (v : Option Nat) : A_st (A_sfr A k a v) = A_st A := rfl
theorem A_nc_sai (A : zA) (a : Nat) (f : Nat → Int32) : A_nc (A_sai A a f) = A_nc A := rfl
theorem A_us_sai (A : zA) (a : Nat) (f : Nat → Int32) : A_us (A_sai A a f) = A_us A := rfl
theorem A_kd_sai (A : zA) (a : Nat) (f : Nat → Int32) : A_kd (A_sai A a f) = A_kd A := rfl
theorem A_ln_sai (A : zA) (a : Nat) (f : Nat → Int32) : A_ln (A_sai A a f) = A_ln A := rfl
theorem A_fi_sai (A : zA) (a : Nat) (f : Nat → Int32) : A_fi (A_sai A a f) = A_fi A := rfl
theorem A_fl_sai (A : zA) (a : Nat) (f : Nat → Int32) : A_fl (A_sai A a f) = A_fl A := rfl
theorem A_fr_sai (A : zA) (a : Nat) (f : Nat → Int32) : A_fr (A_sai A a f) = A_fr A := rfl
theorem A_ai_sai (A : zA) (a : Nat) (f : Nat → Int32) (a' : Nat) : A_ai (A_sai A a f) a' = if a' = a then f else A_ai A a' := rfl
theorem A_al_sai (A : zA) (a : Nat) (f : Nat → Int32) : A_al (A_sai A a f) = A_al A := rfl
theorem A_ar_sai (A : zA) (a : Nat) (f : Nat → Int32) : A_ar (A_sai A a f) = A_ar A := rfl
theorem A_bs_sai (A : zA) (a : Nat) (f : Nat → Int32) : A_bs (A_sai A a f) = A_bs A := rfl
theorem A_st_sai (A : zA) (a : Nat) (f : Nat → Int32) : A_st (A_sai A a f) = A_st A := rfl
theorem A_nc_sal (A : zA) (a : Nat) (f : Nat → Int64) : A_nc (A_sal A a f) = A_nc A := rfl
theorem A_us_sal (A : zA) (a : Nat) (f : Nat → Int64) : A_us (A_sal A a f) = A_us A := rfl
theorem A_kd_sal (A : zA) (a : Nat) (f : Nat → Int64) : A_kd (A_sal A a f) = A_kd A := rfl
theorem A_ln_sal (A : zA) (a : Nat) (f : Nat → Int64) : A_ln (A_sal A a f) = A_ln A := rfl
theorem A_fi_sal (A : zA) (a : Nat) (f : Nat → Int64) : A_fi (A_sal A a f) = A_fi A := rfl
theorem A_fl_sal (A : zA) (a : Nat) (f : Nat → Int64) : A_fl (A_sal A a f) = A_fl A := rfl
theorem A_fr_sal (A : zA) (a : Nat) (f : Nat → Int64) : A_fr (A_sal A a f) = A_fr A := rfl
theorem A_ai_sal (A : zA) (a : Nat) (f : Nat → Int64) : A_ai (A_sal A a f) = A_ai A := rfl
theorem A_al_sal (A : zA) (a : Nat) (f : Nat → Int64) (a' : Nat) : A_al (A_sal A a f) a' = if a' = a then f else A_al A a' := rfl
theorem A_ar_sal (A : zA) (a : Nat) (f : Nat → Int64) : A_ar (A_sal A a f) = A_ar A := rfl
theorem A_bs_sal (A : zA) (a : Nat) (f : Nat → Int64) : A_bs (A_sal A a f) = A_bs A := rfl
theorem A_st_sal (A : zA) (a : Nat) (f : Nat → Int64) : A_st (A_sal A a f) = A_st A := rfl
theorem A_nc_sar (A : zA) (a : Nat) (f : Nat → Option Nat) : A_nc (A_sar A a f) = A_nc A := rfl
theorem A_us_sar (A : zA) (a : Nat) (f : Nat → Option Nat) : A_us (A_sar A a f) = A_us A := rfl
theorem A_kd_sar (A : zA) (a : Nat) (f : Nat → Option Nat) : A_kd (A_sar A a f) = A_kd A := rfl
theorem A_ln_sar (A : zA) (a : Nat) (f : Nat → Option Nat) : A_ln (A_sar A a f) = A_ln A := rfl
theorem A_fi_sar (A : zA) (a : Nat) (f : Nat → Option Nat) : A_fi (A_sar A a f) = A_fi A := rfl
theorem A_fl_sar (A : zA) (a : Nat) (f : Nat → Option Nat) : A_fl (A_sar A a f) = A_fl A := rfl
theorem A_fr_sar (A : zA) (a : Nat) (f : Nat → Option Nat) : A_fr (A_sar A a f) = A_fr A := rfl
theorem A_ai_sar (A : zA) (a : Nat) (f : Nat → Option Nat) : A_ai (A_sar A a f) = A_ai A := rfl
theorem A_al_sar (A : zA) (a : Nat) (f : Nat → Option Nat) : A_al (A_sar A a f) = A_al A := rfl
theorem A_ar_sar (A : zA) (a : Nat) (f : Nat → Option Nat) (a' : Nat) : A_ar (A_sar A a f) a' = if a' = a then f else A_ar A a' := rfl
theorem A_bs_sar (A : zA) (a : Nat) (f : Nat → Option Nat) : A_bs (A_sar A a f) = A_bs A := rfl
theorem A_st_sar (A : zA) (a : Nat) (f : Nat → Option Nat) : A_st (A_sar A a f) = A_st A := rfl
theorem A_nc_sln (A : zA) (a n : Nat) : A_nc (A_sln A a n) = A_nc A := rfl
theorem A_us_sln (A : zA) (a n : Nat) : A_us (A_sln A a n) = A_us A := rfl
theorem A_kd_sln (A : zA) (a n : Nat) : A_kd (A_sln A a n) = A_kd A := rfl
theorem A_ln_sln (A : zA) (a n : Nat) (a' : Nat) : A_ln (A_sln A a n) a' = if a' = a then n else A_ln A a' := rfl
theorem A_fi_sln (A : zA) (a n : Nat) : A_fi (A_sln A a n) = A_fi A := rfl
theorem A_fl_sln (A : zA) (a n : Nat) : A_fl (A_sln A a n) = A_fl A := rfl
theorem A_fr_sln (A : zA) (a n : Nat) : A_fr (A_sln A a n) = A_fr A := rfl
theorem A_ai_sln (A : zA) (a n : Nat) : A_ai (A_sln A a n) = A_ai A := rfl
theorem A_al_sln (A : zA) (a n : Nat) : A_al (A_sln A a n) = A_al A := rfl
theorem A_ar_sln (A : zA) (a n : Nat) : A_ar (A_sln A a n) = A_ar A := rfl
theorem A_bs_sln (A : zA) (a n : Nat) : A_bs (A_sln A a n) = A_bs A := rfl
theorem A_st_sln (A : zA) (a n : Nat) : A_st (A_sln A a n) = A_st A := rfl
theorem A_nc_new (A : zA) (d n : Nat) : A_nc (A_new A d n) = A_nc A + 1 := rfl
theorem A_us_new (A : zA) (d n : Nat) : A_us (A_new A d n) = A_us A + n := rfl
theorem A_kd_new (A : zA) (d n b : Nat) : A_kd (A_new A d n) b = if b = A_bs A + A_nc A then d else A_kd A b := rfl
theorem A_ln_new (A : zA) (d n b : Nat) : A_ln (A_new A d n) b = if b = A_bs A + A_nc A then n else A_ln A b := rfl
theorem A_fi_new (A : zA) (d n k b : Nat) : A_fi (A_new A d n) k b = if b = A_bs A + A_nc A then 0 else A_fi A k b := rfl
theorem A_fl_new (A : zA) (d n k b : Nat) : A_fl (A_new A d n) k b = if b = A_bs A + A_nc A then 0 else A_fl A k b := rfl
theorem A_fr_new (A : zA) (d n k b : Nat) : A_fr (A_new A d n) k b = if b = A_bs A + A_nc A then none else A_fr A k b := rfl
theorem A_ai_new (A : zA) (d n b : Nat) : A_ai (A_new A d n) b = if b = A_bs A + A_nc A then fun _ => 0 else A_ai A b := rfl
theorem A_al_new (A : zA) (d n b : Nat) : A_al (A_new A d n) b = if b = A_bs A + A_nc A then fun _ => 0 else A_al A b := rfl
theorem A_ar_new (A : zA) (d n b : Nat) : A_ar (A_new A d n) b = if b = A_bs A + A_nc A then fun _ => none else A_ar A b := rfl
theorem A_bs_new (A : zA) (d n : Nat) : A_bs (A_new A d n) = A_bs A := rfl
theorem A_st_new (A : zA) (d n : Nat) : A_st (A_new A d n) = A_st A := rfl
section WX
variable {β : Type} {A : zA}
theorem wp_gI {Q : Int32 → zA → Prop} {k ci a : Nat} (h : A_kd A a = ci + 1) : wp (gI k ci a) A Q = Q (A_fi A k a) A := by
  have e : gI k ci a A = some (A_fi A k a, A) := by unfold gI; rw [if_pos h]
  apply propext; constructor
  · rintro ⟨w, S', h, q⟩; rw [e] at h; cases h; exact q
  · exact fun q => ⟨_, _, e, q⟩
theorem wp_gL {Q : Int64 → zA → Prop} {k ci a : Nat} (h : A_kd A a = ci + 1) : wp (gL k ci a) A Q = Q (A_fl A k a) A := by
  have e : gL k ci a A = some (A_fl A k a, A) := by unfold gL; rw [if_pos h]
  apply propext; constructor
  · rintro ⟨w, S', h, q⟩; rw [e] at h; cases h; exact q
  · exact fun q => ⟨_, _, e, q⟩
theorem wp_gR {Q : Option Nat → zA → Prop} {k ci a : Nat} (h : A_kd A a = ci + 1) : wp (gR k ci a) A Q = Q (A_fr A k a) A := by
  have e : gR k ci a A = some (A_fr A k a, A) := by unfold gR; rw [if_pos h]
  apply propext; constructor
  · rintro ⟨w, S', h, q⟩; rw [e] at h; cases h; exact q
  · exact fun q => ⟨_, _, e, q⟩
theorem wp_pI {Q : Unit → zA → Prop} {k ci a : Nat} {v : Int32} (h : A_kd A a = ci + 1) : wp (pI k ci a v) A Q = Q () (A_sfi A k a v) := by
  have e : pI k ci a v A = some ((), A_sfi A k a v) := by unfold pI; rw [if_pos h]
  apply propext; constructor
  · rintro ⟨w, S', h, q⟩; rw [e] at h; cases h; exact q
  · exact fun q => ⟨_, _, e, q⟩
theorem wp_pZ {Q : Unit → zA → Prop} {k ci a : Nat} {v : Int} (h : A_kd A a = ci + 1) (h4 : v = 0 ∨ v = 1) : wp (pZ k ci a (zi v)) A Q = Q () (A_sfi A k a (zi v)) := by
  have e : pZ k ci a (zi v) A = some ((), A_sfi A k a (zi v)) := by unfold pZ; rw [if_pos ⟨h, by rcases h4 with rfl | rfl; exact Or.inl rfl; exact Or.inr rfl⟩]
  apply propext; constructor
  · rintro ⟨w, S', h, q⟩; rw [e] at h; cases h; exact q
  · exact fun q => ⟨_, _, e, q⟩
theorem wp_pL {Q : Unit → zA → Prop} {k ci a : Nat} {v : Int64} (h : A_kd A a = ci + 1) : wp (pL k ci a v) A Q = Q () (A_sfl A k a v) := by
  have e : pL k ci a v A = some ((), A_sfl A k a v) := by unfold pL; rw [if_pos h]
  apply propext; constructor
  · rintro ⟨w, S', h, q⟩; rw [e] at h; cases h; exact q
  · exact fun q => ⟨_, _, e, q⟩
theorem wp_pR {Q : Unit → zA → Prop} {k ci a : Nat} {v : Option Nat} (h : A_kd A a = ci + 1) : wp (pR k ci a v) A Q = Q () (A_sfr A k a v) := by
  have e : pR k ci a v A = some ((), A_sfr A k a v) := by unfold pR; rw [if_pos h]
  apply propext; constructor
  · rintro ⟨w, S', h, q⟩; rw [e] at h; cases h; exact q
  · exact fun q => ⟨_, _, e, q⟩
theorem xi_in {i : Int} {a t : Nat} (h : A_kd A a = 101 + t) (h1 : 0 ≤ i) (h2 : i < (A_ln A a : Nat)) (h3 : i < 2147483648) : A_kd A a = 101 + t ∧ ¬ (zi i < 0 ∨ A_ln A a ≤ (zi i).toNatClampNeg) := by
  refine ⟨h, ?_⟩
  rw [zi_0, zi_lt (by omega) (by omega) (by omega) (by omega), zi_tn h1 (by omega)]
  omega
theorem wp_aI {Q : Int32 → zA → Prop} {t a : Nat} {i : Int} (h : A_kd A a = 101 + t) (h1 : 0 ≤ i) (h2 : i < (A_ln A a : Nat)) (h3 : i < 2147483648) : wp (aI t a (zi i)) A Q = Q (A_ai A a i.toNat) A := by
  have e : aI t a (zi i) A = some (A_ai A a i.toNat, A) := by unfold aI; rw [if_pos (xi_in h h1 h2 h3), zi_tn h1 h3]
  apply propext; constructor
  · rintro ⟨w, S', h, q⟩; rw [e] at h; cases h; exact q
  · exact fun q => ⟨_, _, e, q⟩
theorem wp_aL {Q : Int64 → zA → Prop} {a : Nat} {i : Int} (h : A_kd A a = 104) (h1 : 0 ≤ i) (h2 : i < (A_ln A a : Nat)) (h3 : i < 2147483648) : wp (aL a (zi i)) A Q = Q (A_al A a i.toNat) A := by
  have e : aL a (zi i) A = some (A_al A a i.toNat, A) := by unfold aL; rw [if_pos (xi_in (t := 3) h h1 h2 h3), zi_tn h1 h3]
  apply propext; constructor
  · rintro ⟨w, S', h, q⟩; rw [e] at h; cases h; exact q
  · exact fun q => ⟨_, _, e, q⟩
theorem wp_aR {Q : Option Nat → zA → Prop} {t a : Nat} {i : Int} (h : A_kd A a = 101 + t) (h1 : 0 ≤ i) (h2 : i < (A_ln A a : Nat)) (h3 : i < 2147483648) : wp (aR t a (zi i)) A Q = Q (A_ar A a i.toNat) A := by
  have e : aR t a (zi i) A = some (A_ar A a i.toNat, A) := by unfold aR; rw [if_pos (xi_in h h1 h2 h3), zi_tn h1 h3]
  apply propext; constructor
  · rintro ⟨w, S', h, q⟩; rw [e] at h; cases h; exact q
  · exact fun q => ⟨_, _, e, q⟩
theorem wp_sI {Q : Unit → zA → Prop} {a : Nat} {i : Int} {v : Int32} (h : A_kd A a = 101) (h1 : 0 ≤ i) (h2 : i < (A_ln A a : Nat)) (h3 : i < 2147483648) : wp (sI a (zi i) v) A Q = Q () (A_sai A a (upd (A_ai A a) i.toNat v)) := by
  have e : sI a (zi i) v A = some ((), A_sai A a (upd (A_ai A a) i.toNat v)) := by unfold sI; rw [if_pos (xi_in (t := 0) h h1 h2 h3), zi_tn h1 h3]
  apply propext; constructor
  · rintro ⟨w, S', h, q⟩; rw [e] at h; cases h; exact q
  · exact fun q => ⟨_, _, e, q⟩
theorem wp_sB {Q : Unit → zA → Prop} {a : Nat} {i : Int} {v : Int32} (h : A_kd A a = 102) (h1 : 0 ≤ i) (h2 : i < (A_ln A a : Nat)) (h3 : i < 2147483648) : wp (sB a (zi i) v) A Q = Q () (A_sai A a (upd (A_ai A a) i.toNat v.toInt8.toInt32)) := by
  have e : sB a (zi i) v A = some ((), A_sai A a (upd (A_ai A a) i.toNat v.toInt8.toInt32)) := by unfold sB; rw [if_pos (xi_in (t := 1) h h1 h2 h3), zi_tn h1 h3]
  apply propext; constructor
  · rintro ⟨w, S', h, q⟩; rw [e] at h; cases h; exact q
  · exact fun q => ⟨_, _, e, q⟩
theorem wp_sL {Q : Unit → zA → Prop} {a : Nat} {i : Int} {v : Int64} (h : A_kd A a = 104) (h1 : 0 ≤ i) (h2 : i < (A_ln A a : Nat)) (h3 : i < 2147483648) : wp (sL a (zi i) v) A Q = Q () (A_sal A a (vp_updL (A_al A a) i.toNat v)) := by
  have e : sL a (zi i) v A = some ((), A_sal A a (vp_updL (A_al A a) i.toNat v)) := by unfold sL; rw [if_pos (xi_in (t := 3) h h1 h2 h3), zi_tn h1 h3]
  apply propext; constructor
  · rintro ⟨w, S', h, q⟩; rw [e] at h; cases h; exact q
  · exact fun q => ⟨_, _, e, q⟩
theorem wp_sR {Q : Unit → zA → Prop} {t ci a v : Nat} {i : Int} (h : A_kd A a = 101 + t) (h0 : A_kd A v = ci + 1) (h1 : 0 ≤ i) (h2 : i < (A_ln A a : Nat)) (h3 : i < 2147483648) : wp (sR t ci a (zi i) v) A Q = Q () (A_sar A a (va_up (A_ar A a) i.toNat (some v))) := by
  have e : sR t ci a (zi i) v A = some ((), A_sar A a (va_up (A_ar A a) i.toNat (some v))) := by unfold sR; rw [if_pos ⟨⟨h, h0⟩, (xi_in h h1 h2 h3).2⟩, zi_tn h1 h3]
  apply propext; constructor
  · rintro ⟨w, S', h, q⟩; rw [e] at h; cases h; exact q
  · exact fun q => ⟨_, _, e, q⟩
theorem wp_aN {Q : Int32 → zA → Prop} {a : Nat} (h : 101 ≤ A_kd A a) (h' : A_kd A a < 114) : wp (aN a) A Q = Q (zi (A_ln A a : Nat)) A := by
  have e : aN a A = some (zi (A_ln A a : Nat), A) := by unfold aN; rw [if_pos ⟨h, h'⟩]
  apply propext; constructor
  · rintro ⟨w, S', h, q⟩; rw [e] at h; cases h; exact q
  · exact fun q => ⟨_, _, e, q⟩
theorem wp_nO {Q : Nat → zA → Prop} {d N : Nat} (h : A_nc A + 1 ≤ 601024) (h' : A_us A + N ≤ 7293034) : wp (nO d N) A Q = Q (A_bs A + A_nc A) (A_new A d N) := by
  have e : nO d N A = some (A_bs A + A_nc A, A_new A d N) := by unfold nO; rw [if_pos ⟨h, h'⟩]
  apply propext; constructor
  · rintro ⟨w, S', h, q⟩; rw [e] at h; cases h; exact q
  · exact fun q => ⟨_, _, e, q⟩
theorem wp_nA {Q : Nat → zA → Prop} {t : Nat} {n : Int} (h1 : 0 ≤ n) (h2 : n ≤ 1000000) (h : A_nc A + 1 ≤ 601024) (h' : A_us A + n.toNat ≤ 7293034) : wp (nA t (zi n)) A Q = Q (A_bs A + A_nc A) (A_new A (101 + t) n.toNat) := by
  have e : nA t (zi n) A = some (A_bs A + A_nc A, A_new A (101 + t) n.toNat) := by
    unfold nA; rw [zi_tn h1 (by omega), if_pos ⟨⟨by rw [zi_0, zi_lt (by omega) (by omega) (by omega) (by omega)]; omega, by omega⟩, h, h'⟩]
  apply propext; constructor
  · rintro ⟨w, S', h, q⟩; rw [e] at h; cases h; exact q
  · exact fun q => ⟨_, _, e, q⟩
theorem wp_N {Q : β → zA → Prop} {a : Nat} {k : Nat → xN β} : wp (nN (some a) k) A Q = wp (k a) A Q := rfl
theorem wp_K {Q : β → zA → Prop} {ci b : Nat} {k : xN β} (h : A_kd A b = ci + 1) : wp (nK ci b k) A Q = wp k A Q := by
  unfold nK wp; simp only [if_pos h]
end WX
