set_option maxRecDepth 100000
/-! STAGE 1, PretendDesk's rows: arrays, new cells, calls, contracts -/
section XA
variable {Γ : zG} {p : Program} {l : Launch} {e : Env} {R : Room} {s : State} {m : MethodId} {args : Array Value} {below : List Frame} {meth : Method} {c : Code} {H : Heap} {locs : List Loc} {cells slots : Nat} {Q : State → Prop} {A0 A : zA} {So : Option zS}
variable {cc : ByteArray} {nL pc fr lo : Nat} {own nm : String} {ret : Option FieldType} {ls : Array Slot} {rest : List Value}
theorem zarr_i {t a : Nat} (h : t < 3) : zarr A t a = (A_ln A a, .inl (A_ai A a)) := by simp [zarr, h]
theorem zarr_l {a : Nat} : zarr A 3 a = (A_ln A a, .inr (.inl (A_al A a))) := by simp [zarr]
theorem zarr_q {t a : Nat} (h : 4 ≤ t) : zarr A t a = (A_ln A a, .inr (.inr (.inr (.inr (A_ar A a))))) := by
  have h1 : ¬ t < 3 := by omega
  have h2 : ¬ t = 3 := by omega
  simp [zarr, h1, h2]
theorem zx_aI {β : Type} {K : Int32 → xN β} {r : β × zA} {a : Nat} {i : Int32} (C : xCx Γ p R s m args meth c cc nL own ret fr lo nm A0) (hG : xR Γ A0 A So H locs) (hf : nB (aI 0 a i) K A = some r) (hd : decode cc pc = .ok (.iaload, 1))
    (kk : ∀ v, K v A = some r → W p l e R s m args below meth c H locs cells slots Q (F0 m (pc + 1) ls (.int v :: rest))) : W p l e R s m args below meth c H locs cells slots Q (F0 m pc ls (.int i :: .ref a :: rest)) := by
  obtain ⟨⟨hx, hb, hml, hown, hts⟩, hr, hlk, hK, -⟩ := C
  obtain ⟨v, A1, h1, h2⟩ := nB_some hf
  obtain ⟨⟨h3, hin⟩, h4⟩ := z_if h1
  cases h4
  obtain ⟨hc, -⟩ := hG.1.1.1.2.2.2.2.1 a 0 h3 (by omega)
  rw [zarr_i (by omega)] at hc
  have hlt : i.toNatClampNeg < A_ln A a := Nat.not_le.mp fun q => hin (Or.inr q)
  exact W.iald (v := .int (A_ai A a i.toNatClampNeg)) hx hb hc ((hK.K.2 0 _ (zTY_at _ (by omega))).1 (A_ln A a) (fun j => .int (A_ai A a j))) (fun q => by cases q) (by show ¬ (i < 0 ∨ (arrV _ _ _).slots.size ≤ _); rw [arrV_size]; exact hin) (by show (arrV _ _ _).slots[_]? = _; rw [arrV_read _ _ hlt]) rfl rfl hd (kk _ h2)
theorem zx_aB {β : Type} {K : Int32 → xN β} {r : β × zA} {a : Nat} {i : Int32} (C : xCx Γ p R s m args meth c cc nL own ret fr lo nm A0) (hG : xR Γ A0 A So H locs) (hf : nB (aI 1 a i) K A = some r) (hd : decode cc pc = .ok (.baload, 1))
    (kk : ∀ v, K v A = some r → W p l e R s m args below meth c H locs cells slots Q (F0 m (pc + 1) ls (.int v :: rest))) : W p l e R s m args below meth c H locs cells slots Q (F0 m pc ls (.int i :: .ref a :: rest)) := by
  obtain ⟨⟨hx, hb, hml, hown, hts⟩, hr, hlk, hK, -⟩ := C
  obtain ⟨v, A1, h1, h2⟩ := nB_some hf
  obtain ⟨⟨h3, hin⟩, h4⟩ := z_if h1
  cases h4
  obtain ⟨hc, -⟩ := hG.1.1.1.2.2.2.2.1 a 1 h3 (by omega)
  rw [zarr_i (by omega)] at hc
  have hlt : i.toNatClampNeg < A_ln A a := Nat.not_le.mp fun q => hin (Or.inr q)
  exact W.bald (v := .int (A_ai A a i.toNatClampNeg)) hx hb hc ((hK.K.2 1 _ (zTY_at _ (by omega))).1 (A_ln A a) (fun j => .int (A_ai A a j))) (fun q => by cases q) (by show ¬ (i < 0 ∨ (arrV _ _ _).slots.size ≤ _); rw [arrV_size]; exact hin) (by show (arrV _ _ _).slots[_]? = _; rw [arrV_read _ _ hlt]) rfl rfl hd (kk _ h2)
theorem zx_aL {β : Type} {K : Int64 → xN β} {r : β × zA} {a : Nat} {i : Int32} (C : xCx Γ p R s m args meth c cc nL own ret fr lo nm A0) (hG : xR Γ A0 A So H locs) (hf : nB (aL a i) K A = some r) (hd : decode cc pc = .ok (.laload, 1))
    (kk : ∀ v, K v A = some r → W p l e R s m args below meth c H locs cells slots Q (F0 m (pc + 1) ls (.long v :: rest))) : W p l e R s m args below meth c H locs cells slots Q (F0 m pc ls (.int i :: .ref a :: rest)) := by
  obtain ⟨⟨hx, hb, hml, hown, hts⟩, hr, hlk, hK, -⟩ := C
  obtain ⟨v, A1, h1, h2⟩ := nB_some hf
  obtain ⟨⟨h3, hin⟩, h4⟩ := z_if h1
  cases h4
  obtain ⟨hc, -⟩ := hG.1.1.1.2.2.2.2.1 a 3 h3 (by omega)
  rw [zarr_l] at hc
  have hlt : i.toNatClampNeg < A_ln A a := Nat.not_le.mp fun q => hin (Or.inr q)
  exact W.lald (v := .long (A_al A a i.toNatClampNeg)) hx hb hc ((hK.K.2 3 _ (zTY_at _ (by omega))).1 (A_ln A a) (fun j => .long (A_al A a j))) (fun q => by cases q) (by show ¬ (i < 0 ∨ (arrV _ _ _).slots.size ≤ _); rw [arrV_size]; exact hin) (by show (arrV _ _ _).slots[_]? = _; rw [arrV_read _ _ hlt]) rfl rfl hd (kk _ h2)
theorem zx_aR {β : Type} {K : Option Nat → xN β} {r : β × zA} {a t : Nat} {i : Int32} (C : xCx Γ p R s m args meth c cc nL own ret fr lo nm A0) (hG : xR Γ A0 A So H locs) (hf : nB (aR t a i) K A = some r) (ht : 4 ≤ t) (ht2 : t < 13) (hd : decode cc pc = .ok (.aaload, 1))
    (kk : ∀ v, K v A = some r → W p l e R s m args below meth c H locs cells slots Q (F0 m (pc + 1) ls (va_rf v :: rest))) : W p l e R s m args below meth c H locs cells slots Q (F0 m pc ls (.int i :: .ref a :: rest)) := by
  obtain ⟨⟨hx, hb, hml, hown, hts⟩, hr, hlk, hK, -⟩ := C
  obtain ⟨v, A1, h1, h2⟩ := nB_some hf
  obtain ⟨⟨h3, hin⟩, h4⟩ := z_if h1
  cases h4
  obtain ⟨hc, -⟩ := hG.1.1.1.2.2.2.2.1 a t h3 ht2
  rw [zarr_q ht] at hc
  have hlt : i.toNatClampNeg < A_ln A a := Nat.not_le.mp fun q => hin (Or.inr q)
  refine W.aald (v := va_rf (A_ar A a i.toNatClampNeg)) (ty := zAt t) hx hb hc ((hK.K.2 t _ (zTY_at _ ht2)).1 (A_ln A a) (fun j => va_rf (A_ar A a j))) ?_ (fun q => by cases q) (by show ¬ (i < 0 ∨ (arrV _ _ _).slots.size ≤ _); rw [arrV_size]; exact hin) (by show (arrV _ _ _).slots[_]? = _; rw [arrV_read _ _ hlt]) rfl rfl hd (kk _ h2)
  rcases (show t = 4 ∨ t = 5 ∨ t = 6 ∨ t = 7 ∨ t = 8 ∨ t = 9 ∨ t = 10 ∨ t = 11 ∨ t = 12 by omega) with rfl | rfl | rfl | rfl | rfl | rfl | rfl | rfl | rfl <;> rfl
theorem zx_sI {β : Type} {K : Unit → xN β} {r : β × zA} {a : Nat} {i v : Int32} (C : xCx Γ p R s m args meth c cc nL own ret fr lo nm A0) (hG : xR Γ A0 A So H locs) (hf : nB (sI a i v) K A = some r) (hd : decode cc pc = .ok (.iastore, 1))
    (kk : ∀ (A : zA) (H1 : Heap) (locs1 : List Loc), xR Γ A0 A So H1 locs1 → K () A = some r → W p l e R s m args below meth c H1 locs1 (A_nc A - A_nc A0) (A_us A - A_us A0) Q (F0 m (pc + 1) ls rest)) : W p l e R s m args below meth c H locs (A_nc A - A_nc A0) (A_us A - A_us A0) Q (F0 m pc ls (.int v :: .int i :: .ref a :: rest)) := by
  obtain ⟨⟨hx, hb, hml, hown, hts⟩, hr, hlk, hK, -⟩ := C
  obtain ⟨u, A1, h1, h2⟩ := nB_some hf
  obtain ⟨⟨h3, hin⟩, h4⟩ := z_if h1
  cases h4
  obtain ⟨hc, hln, hby⟩ := hG.1.1.1.2.2.2.2.1 a 0 h3 (by omega)
  rw [zarr_i (by omega)] at hc
  refine W.iast hx hb hc ((hK.K.2 0 _ (zTY_at _ (by omega))).1 (A_ln A a) (fun j => .int (A_ai A a j))) (fun q => by cases q) (by show ¬ (i < 0 ∨ (arrV _ _ _).slots.size ≤ _); rw [arrV_size]; exact hin) rfl rfl hd fun H1 e z oq => ?_
  have ho := zOther.ai A a (upd (A_ai A a) i.toNatClampNeg v)
  refine (kk _ H1 _ (ho.xr hG (by omega) z oq (zC.arrs (t := 0) (by rw [ho.1]; exact h3) (by omega) ?_ (by rw [ho.2.2.2.2.2.1]; exact hln) (fun e9 => by omega))) h2 :)
  rw [e, zarr_i (by omega), vp_cell_i, vp_cell_i, arrV_store]
  rw [show A_ai (A_sai A a (upd (A_ai A a) i.toNatClampNeg v)) a = upd (A_ai A a) i.toNatClampNeg v by show va_up _ _ _ a = _; simp [va_up]]
  congr 2
  funext q
  by_cases hq : q = i.toNatClampNeg
  · subst hq; simp [updV, upd]
  · simp [updV, upd, hq]
theorem z_b8 (v : Int32) : v.toInt8.toInt32.toInt8.toInt32 = v.toInt8.toInt32 := by
  rw [Int8.toInt8_toInt32]
theorem zx_sB {β : Type} {K : Unit → xN β} {r : β × zA} {a : Nat} {i v : Int32} (C : xCx Γ p R s m args meth c cc nL own ret fr lo nm A0) (hG : xR Γ A0 A So H locs) (hf : nB (sB a i v) K A = some r) (hd : decode cc pc = .ok (.bastore, 1))
    (kk : ∀ (A : zA) (H1 : Heap) (locs1 : List Loc), xR Γ A0 A So H1 locs1 → K () A = some r → W p l e R s m args below meth c H1 locs1 (A_nc A - A_nc A0) (A_us A - A_us A0) Q (F0 m (pc + 1) ls rest)) : W p l e R s m args below meth c H locs (A_nc A - A_nc A0) (A_us A - A_us A0) Q (F0 m pc ls (.int v :: .int i :: .ref a :: rest)) := by
  obtain ⟨⟨hx, hb, hml, hown, hts⟩, hr, hlk, hK, -⟩ := C
  obtain ⟨u, A1, h1, h2⟩ := nB_some hf
  obtain ⟨⟨h3, hin⟩, h4⟩ := z_if h1
  cases h4
  obtain ⟨hc, hln, hby⟩ := hG.1.1.1.2.2.2.2.1 a 1 h3 (by omega)
  rw [zarr_i (by omega)] at hc
  refine W.bast hx hb hc ((hK.K.2 1 _ (zTY_at _ (by omega))).1 (A_ln A a) (fun j => .int (A_ai A a j))) (fun q => by cases q) (by show ¬ (i < 0 ∨ (arrV _ _ _).slots.size ≤ _); rw [arrV_size]; exact hin) rfl rfl hd fun H1 e z oq => ?_
  have ho := zOther.ai A a (upd (A_ai A a) i.toNatClampNeg v.toInt8.toInt32)
  refine (kk _ H1 _ (ho.xr hG (by omega) z oq (zC.arrs (t := 1) (by rw [ho.1]; exact h3) (by omega) ?_ (by rw [ho.2.2.2.2.2.1]; exact hln) (fun _ j => ?_))) h2 :)
  · rw [e, zarr_i (by omega), vp_cell_i, vp_cell_i, arrV_store]
    rw [show A_ai (A_sai A a (upd (A_ai A a) i.toNatClampNeg v.toInt8.toInt32)) a = upd (A_ai A a) i.toNatClampNeg v.toInt8.toInt32 by show va_up _ _ _ a = _; simp [va_up]]
    congr 2
    funext q
    by_cases hq : q = i.toNatClampNeg
    · subst hq; simp [updV, upd]; rfl
    · simp [updV, upd, hq]
  · rw [show A_ai (A_sai A a (upd (A_ai A a) i.toNatClampNeg v.toInt8.toInt32)) a = upd (A_ai A a) i.toNatClampNeg v.toInt8.toInt32 by show va_up _ _ _ a = _; simp [va_up]]
    by_cases hj : j = i.toNatClampNeg
    · subst hj; simp only [upd, if_true]; exact z_b8 v
    · simp only [upd, if_neg hj]; exact hby rfl j
theorem zx_sL {β : Type} {K : Unit → xN β} {r : β × zA} {a : Nat} {i : Int32} {v : Int64} (C : xCx Γ p R s m args meth c cc nL own ret fr lo nm A0) (hG : xR Γ A0 A So H locs) (hf : nB (sL a i v) K A = some r) (hd : decode cc pc = .ok (.lastore, 1))
    (kk : ∀ (A : zA) (H1 : Heap) (locs1 : List Loc), xR Γ A0 A So H1 locs1 → K () A = some r → W p l e R s m args below meth c H1 locs1 (A_nc A - A_nc A0) (A_us A - A_us A0) Q (F0 m (pc + 1) ls rest)) : W p l e R s m args below meth c H locs (A_nc A - A_nc A0) (A_us A - A_us A0) Q (F0 m pc ls (.long v :: .int i :: .ref a :: rest)) := by
  obtain ⟨⟨hx, hb, hml, hown, hts⟩, hr, hlk, hK, -⟩ := C
  obtain ⟨u, A1, h1, h2⟩ := nB_some hf
  obtain ⟨⟨h3, hin⟩, h4⟩ := z_if h1
  cases h4
  obtain ⟨hc, hln, hby⟩ := hG.1.1.1.2.2.2.2.1 a 3 h3 (by omega)
  rw [zarr_l] at hc
  refine W.last hx hb hc ((hK.K.2 3 _ (zTY_at _ (by omega))).1 (A_ln A a) (fun j => .long (A_al A a j))) (fun q => by cases q) (by show ¬ (i < 0 ∨ (arrV _ _ _).slots.size ≤ _); rw [arrV_size]; exact hin) rfl rfl hd fun H1 e z oq => ?_
  have ho := zOther.al A a (vp_updL (A_al A a) i.toNatClampNeg v)
  refine (kk _ H1 _ (ho.xr hG (by omega) z oq (zC.arrs (t := 3) (by rw [ho.1]; exact h3) (by omega) ?_ (by rw [ho.2.2.2.2.2.1]; exact hln) (fun e9 => by omega))) h2 :)
  rw [e, zarr_l, vp_cell_l, vp_cell_l, arrV_store]
  rw [show A_al (A_sal A a (vp_updL (A_al A a) i.toNatClampNeg v)) a = vp_updL (A_al A a) i.toNatClampNeg v by show va_up _ _ _ a = _; simp [va_up]]
  congr 2
  funext q
  by_cases hq : q = i.toNatClampNeg
  · subst hq; simp [updV, vp_updL]
  · simp [updV, vp_updL, hq]
theorem zx_sR {β : Type} {K : Unit → xN β} {r : β × zA} {a t ci v : Nat} {i : Int32} {q : vw_C} {ty : Nat → FieldType} (C : xCx Γ p R s m args meth c cc nL own ret fr lo nm A0) (hG : xR Γ A0 A So H locs) (hf : nB (sR t ci a i v) K A = some r) (ht : 4 ≤ t) (ht2 : t < 13) (hC : zCls ci q ty) (htq : zAt t = .object q.1) (hd : decode cc pc = .ok (.aastore, 1))
    (kk : ∀ (A : zA) (H1 : Heap) (locs1 : List Loc), xR Γ A0 A So H1 locs1 → K () A = some r → W p l e R s m args below meth c H1 locs1 (A_nc A - A_nc A0) (A_us A - A_us A0) Q (F0 m (pc + 1) ls rest)) : W p l e R s m args below meth c H locs (A_nc A - A_nc A0) (A_us A - A_us A0) Q (F0 m pc ls (.ref v :: .int i :: .ref a :: rest)) := by
  obtain ⟨⟨hx, hb, hml, hown, hts⟩, hr, hlk, hK, -⟩ := C
  obtain ⟨u, A1, h1, h2⟩ := nB_some hf
  obtain ⟨⟨⟨h3, h5⟩, hin⟩, h4⟩ := z_if h1
  cases h4
  obtain ⟨hc, hln, hby⟩ := hG.1.1.1.2.2.2.2.1 a t h3 ht2
  rw [zarr_q ht] at hc
  have hlt : i.toNatClampNeg < A_ln A a := Nat.not_le.mp fun q => hin (Or.inr q)
  have h0 : ¬ i < 0 := fun q => hin (Or.inl q)
  obtain ⟨cellV, g1, g2, g3, -⟩ := hG.1.1.1.2.2.1 v ci q h5 hC.2.1 hC.1
  have hcls := (hK.K.1 ci q hC.1).2
  have hra := (hK.K.2 t _ (zTY_at _ ht2)).2
  rw [htq] at hra
  obtain ⟨kA, comp, k1, k2, k3, -⟩ := hra
  have hcomp : comp = (G_D Γ).1 ci := Option.some.inj (k3.symm.trans hcls.1)
  subst hcomp
  obtain ⟨kC, hkC, -⟩ := hcls.2
  refine W.aast hx hb hc (fun q h => by cases h) (fun h => by cases h) k1 k2 rfl hkC ⟨h0, by show _ < (arrV _ _ _).slots.size; rw [arrV_size]; exact hlt⟩ g1 (fun q h => by rw [g3] at h; cases h) (by rw [g2]; exact hkC) (by rw [g2]; exact va_assign hcls) rfl rfl hd fun H1 e z oq => ?_
  have ho := zOther.ar A a (va_up (A_ar A a) i.toNatClampNeg (some v))
  refine (kk _ H1 _ (ho.xr hG (by omega) z oq (zC.arrs (t := t) (by rw [ho.1]; exact h3) ht2 ?_ (by rw [ho.2.2.2.2.2.1]; exact hln) (fun e9 => by omega))) h2 :)
  rw [e, zarr_q ht, vp_cell_q, vp_cell_q, arrV_store]
  rw [show A_ar (A_sar A a (va_up (A_ar A a) i.toNatClampNeg (some v))) a = va_up (A_ar A a) i.toNatClampNeg (some v) by show va_up _ _ _ a = _; simp [va_up]]
  congr 2
  funext q
  by_cases hq : q = i.toNatClampNeg
  · subst hq; simp [updV, va_up, va_rf]
  · simp [updV, va_up, hq]
theorem zi_nat (n : Nat) : zi (n : Int) = Int32.ofNat n := by
  unfold zi
  exact Int32.ofInt_eq_ofNat
theorem zx_aN {β : Type} {K : Int32 → xN β} {r : β × zA} {a : Nat} (C : xCx Γ p R s m args meth c cc nL own ret fr lo nm A0) (hG : xR Γ A0 A So H locs) (hf : nB (aN a) K A = some r) (hd : decode cc pc = .ok (.arraylength, 1))
    (kk : ∀ v, K v A = some r → W p l e R s m args below meth c H locs cells slots Q (F0 m (pc + 1) ls (.int v :: rest))) : W p l e R s m args below meth c H locs cells slots Q (F0 m pc ls (.ref a :: rest)) := by
  obtain ⟨⟨hx, hb, hml, hown, hts⟩, hr, hlk, hK, -⟩ := C
  obtain ⟨v, A1, h1, h2⟩ := nB_some hf
  obtain ⟨⟨h3, h5⟩, h4⟩ := z_if h1
  cases h4
  obtain ⟨t, ht⟩ : ∃ t, A_kd A a = 101 + t := ⟨A_kd A a - 101, by omega⟩
  have ht2 : t < 13 := by omega
  obtain ⟨hc, -⟩ := hG.1.1.1.2.2.2.2.1 a t ht ht2
  have harr := (hK.K.2 t _ (zTY_at _ ht2)).1
  by_cases h6 : t < 3
  · rw [zarr_i h6] at hc
    exact W.alen (n := zi (A_ln A a : Nat)) hx hb hc (harr (A_ln A a) (fun j => .int (A_ai A a j))) (by rw [vp_cell_i, arrV_size, zi_nat]) rfl rfl hd (kk _ h2)
  · by_cases h7 : t = 3
    · subst h7
      rw [zarr_l] at hc
      exact W.alen (n := zi (A_ln A a : Nat)) hx hb hc (harr (A_ln A a) (fun j => .long (A_al A a j))) (by rw [vp_cell_l, arrV_size, zi_nat]) rfl rfl hd (kk _ h2)
    · rw [zarr_q (by omega)] at hc
      exact W.alen (n := zi (A_ln A a : Nat)) hx hb hc (harr (A_ln A a) (fun j => va_rf (A_ar A a j))) (by rw [vp_cell_q, arrV_size, zi_nat]) rfl rfl hd (kk _ h2)
/-! new cells: the counts are those of A over A0 -/
theorem xR.new {H1 : Heap} {d n : Nat} (hG : xR Γ A0 A So H locs) (hok : A_nc A + 1 ≤ 601024 ∧ A_us A + n ≤ 7293034) (z : H1.size = H.size + 1) (o : ∀ x : Nat, x < H.size → H1[x]? = H[x]?) (hc : zC Γ (A_new A d n) H1 H.size) : xR Γ A0 (A_new A d n) So H1 locs ∧ A_bs A + A_nc A = H.size := by
  obtain ⟨g1, g2, g3, g4⟩ := hG
  obtain ⟨h1, h2⟩ := g1.1.xnew z o hc
  refine ⟨⟨⟨h1, g1.2⟩, ?_, ?_, ?_⟩, h2⟩
  · show A_nc A0 ≤ A_nc A + 1; omega
  · show A_us A0 ≤ A_us A + n; omega
  · exact hok
theorem zfv_new {d n a ci k : Nat} (ha : a = A_bs A + A_nc A) : zfv (A_new A d n) ci a k = if ztag ci k = 0 then .int 0 else if ztag ci k = 1 then .long 0 else .null := by
  subst ha
  unfold zfv
  show (if _ then Value.int (va_up _ _ _ (A_bs A + A.1)) else if _ then Value.long (va_up _ _ _ (A_bs A + A.1)) else va_rf (va_up _ _ _ (A_bs A + A.1))) = _
  simp [va_up, va_rf]
theorem zx_new {β : Type} {K : Nat → xN β} {r : β × zA} {idx ci N : Nat} {q : vw_C} {ty : Nat → FieldType} (C : xCx Γ p R s m args meth c cc nL own ret fr lo nm A0) (hG : xR Γ A0 A So H locs) (hf : nB (nO (ci + 1) N) K A = some r) (hC : zCls ci q ty) (hN : q.2.2 = N) (hq : Cond.classLink own idx q.1 ∈ lw_all) (hi : Cond.instantiable q.1 N ∈ lw_all) (hini : Cond.initialized q.1 ∈ lw_all) (hdf : ∀ k, k < N → defaultValue (ty k) = if ztag ci k = 0 then .int 0 else if ztag ci k = 1 then .long 0 else .null) (hd : decode cc pc = .ok (.new idx, 3))
    (kk : ∀ (a : Nat) (A : zA) (H1 : Heap), xR Γ A0 A So H1 locs → K a A = some r → W p l e R s m args below meth c H1 locs (A_nc A - A_nc A0) (A_us A - A_us A0) Q (F0 m (pc + 3) ls (.ref a :: rest))) : W p l e R s m args below meth c H locs (A_nc A - A_nc A0) (A_us A - A_us A0) Q (F0 m pc ls rest) := by
  obtain ⟨⟨hx, hb, hml, hown, hts⟩, hr, hlk, hK, -, -, hRc, hRs, -⟩ := C
  obtain ⟨a9, A1, h1, h2⟩ := nB_some hf
  obtain ⟨hok, h4⟩ := z_if h1
  cases h4
  have g2 := hG.2.1
  have g3 := hG.2.2.1
  obtain ⟨hc, hci, hin, hty, hnn⟩ := hC
  have hKn := hK.K.1 ci q hc
  refine W.newcK hx hb hown (hts _ hq) (hts _ hi) (hts _ hini) rfl hd (by omega) (by omega) hKn.2.1 rfl fun H1 kC hkC e1 z1 o1 => ?_
  have hkd : A_kd (A_new A (ci + 1) N) H.size = ci + 1 := by
    have e0 : A_bs A + A.1 = H.size := by rw [hG.1.1.1.1, hG.1.1.1.2.2.2.2.2.2.1]; rfl
    show va_up _ _ _ H.size = _
    rw [e0]; simp [va_up]
  have hob : t_OB H.size ((G_D Γ).1 ci) q.2.2 ((G_D Γ).2 ci) H1 (zfv (A_new A (ci + 1) N) ci H.size) := by
    refine (u_born ty hts hin hKn hkC e1 hty).to (fun k hk => ?_)
    rw [zfv_new (by rw [hG.1.1.1.1, hG.1.1.1.2.2.2.2.2.2.1])]
    exact hdf k (by omega)
  obtain ⟨hG1, ha⟩ := hG.new hok z1 o1 (zC.obj hkd hci hc hob)
  have h3 := kk _ _ H1 hG1 h2
  rw [ha] at h3
  refine W.cs ?_ ?_ h3
  · show _ = A_nc A + 1 - A_nc A0; omega
  · show _ = A_us A + N - A_us A0; omega
theorem zx_newa {β : Type} {K : Nat → xN β} {r : β × zA} {t : Nat} {n : Int32} {atype : ArrayType} (C : xCx Γ p R s m args meth c cc nL own ret fr lo nm A0) (hG : xR Γ A0 A So H locs) (hf : nB (nA t n) K A = some r) (ht : t < 4) (hty : newarray.typeOf atype = zAt t) (hq : Cond.arrayClass (zAt t) ∈ lw_all) (hd : decode cc pc = .ok (.newarray atype, 2))
    (kk : ∀ (a : Nat) (A : zA) (H1 : Heap), xR Γ A0 A So H1 locs → K a A = some r → W p l e R s m args below meth c H1 locs (A_nc A - A_nc A0) (A_us A - A_us A0) Q (F0 m (pc + 2) ls (.ref a :: rest))) : W p l e R s m args below meth c H locs (A_nc A - A_nc A0) (A_us A - A_us A0) Q (F0 m pc ls (.int n :: rest)) := by
  obtain ⟨⟨hx, hb, hml, hown, hts⟩, hr, hlk, hK, -, -, hRc, hRs, -⟩ := C
  obtain ⟨a9, A1, h1, h2⟩ := nB_some hf
  obtain ⟨⟨⟨hn0, hn1⟩, hok⟩, h4⟩ := z_if h1
  cases h4
  have g2 := hG.2.1
  have g3 := hG.2.2.1
  have hcb : ∀ ty : FieldType, ty = .int ∨ ty = .byte ∨ ty = .boolean ∨ ty = .long → componentBytes ty ≤ 8 := by
    intro ty h; rcases h with rfl | rfl | rfl | rfl <;> decide
  have hcb2 : componentBytes (newarray.typeOf atype) ≤ 8 := by
    rw [hty]; apply hcb
    rcases (show t = 0 ∨ t = 1 ∨ t = 2 ∨ t = 3 by omega) with rfl | rfl | rfl | rfl <;> simp [zAt]
  have hbytes : n.toNatClampNeg * componentBytes (newarray.typeOf atype) ≤ 536870912 := Nat.le_trans (Nat.mul_le_mul hn1 hcb2) (by decide)
  refine va_newaK hx hb (by rw [hty]; exact hts _ hq) rfl hd rfl hn0 rfl hbytes (by omega) (by omega) rfl fun H1 cA e1 z1 o1 hAr hNm => ?_
  have hra := (hK.K.2 t _ (zTY_at _ (by omega))).2
  have hcA : cA = G_a Γ t := by
    have h8 : s.vm.findClass ("[" ++ (zAt t).toString) = some (G_a Γ t) := by
      rcases (show t = 0 ∨ t = 1 ∨ t = 2 ∨ t = 3 by omega) with rfl | rfl | rfl | rfl <;> exact hra
    rw [hty] at hNm
    exact Option.some.inj (hNm.symm.trans h8)
  subst hcA
  have e0 : A_bs A + A_nc A = H.size := by rw [hG.1.1.1.1, hG.1.1.1.2.2.2.2.2.2.1]
  have hkd : A_kd (A_new A (101 + t) n.toNatClampNeg) H.size = 101 + t := by
    show va_up _ (A_bs A + A.1) _ H.size = _
    rw [show A_bs A + A.1 = H.size from e0]; simp [va_up]
  have hln : A_ln (A_new A (101 + t) n.toNatClampNeg) H.size = n.toNatClampNeg := by
    show va_up _ (A_bs A + A.1) _ H.size = _
    rw [show A_bs A + A.1 = H.size from e0]; simp [va_up]
  have hai : A_ai (A_new A (101 + t) n.toNatClampNeg) H.size = fun _ => 0 := by
    show va_up _ (A_bs A + A.1) _ H.size = _
    rw [show A_bs A + A.1 = H.size from e0]; simp [va_up]
  have hal : A_al (A_new A (101 + t) n.toNatClampNeg) H.size = fun _ => 0 := by
    show va_up _ (A_bs A + A.1) _ H.size = _
    rw [show A_bs A + A.1 = H.size from e0]; simp [va_up]
  obtain ⟨hG1, ha⟩ := hG.new hok z1 o1 (zC.arrs hkd (by omega) (by
    rw [e1, hty]
    rcases (show t = 0 ∨ t = 1 ∨ t = 2 ∨ t = 3 by omega) with rfl | rfl | rfl | rfl
    · rw [zarr_i (by omega), vp_cell_i, hln, hai]; rfl
    · rw [zarr_i (by omega), vp_cell_i, hln, hai]; rfl
    · rw [zarr_i (by omega), vp_cell_i, hln, hai]; rfl
    · rw [zarr_l, vp_cell_l, hln, hal]; rfl) (by rw [hln]; omega) (fun _ j => by rw [hai]; show (0 : Int32).toInt8.toInt32 = 0; decide))
  have h3 := kk _ _ H1 hG1 h2
  rw [ha] at h3
  refine W.cs ?_ ?_ h3
  · show _ = A_nc A + 1 - A_nc A0; omega
  · show _ = A_us A + n.toNatClampNeg - A_us A0; omega
theorem zK.ao {U : State} (hK : zK Γ U) {C : String} (hw : Cond.arrayOver (.object C) ∈ lw_tbl) (av : Array Value) : (Cond.arrayOver (.object C)).before av U = true :=
  va_AO.use (va_AO.moved hK.2.alike (va_AO.of (hK.1.2.1 _ hw)))
theorem zx_newq {β : Type} {K : Nat → xN β} {r : β × zA} {t idx : Nat} {n : Int32} {CN : String} (C : xCx Γ p R s m args meth c cc nL own ret fr lo nm A0) (hG : xR Γ A0 A So H locs) (hf : nB (nA t n) K A = some r) (ht : 4 ≤ t) (ht2 : t < 13) (hty : zAt t = .object CN) (hq : Cond.classLink own idx CN ∈ lw_all) (hao : Cond.arrayOver (.object CN) ∈ lw_tbl) (hd : decode cc pc = .ok (.anewarray idx, 3))
    (kk : ∀ (a : Nat) (A : zA) (H1 : Heap), xR Γ A0 A So H1 locs → K a A = some r → W p l e R s m args below meth c H1 locs (A_nc A - A_nc A0) (A_us A - A_us A0) Q (F0 m (pc + 3) ls (.ref a :: rest))) : W p l e R s m args below meth c H locs (A_nc A - A_nc A0) (A_us A - A_us A0) Q (F0 m pc ls (.int n :: rest)) := by
  obtain ⟨⟨hx, hb, hml, hown, hts⟩, hr, hlk, hK, -, -, hRc, hRs, -⟩ := C
  obtain ⟨a9, A1, h1, h2⟩ := nB_some hf
  obtain ⟨⟨⟨hn0, hn1⟩, hok⟩, h4⟩ := z_if h1
  cases h4
  have g2 := hG.2.1
  have g3 := hG.2.2.1
  refine W.anew hx hb hown (hts _ hq) (hK.ao hao _) rfl hd rfl hn0 (by omega) (by omega) (by omega) fun cA kA comp f1 f2 f3 f4 => ?_
  generalize hH1 : H.push ({ cls := cA, slots := Array.replicate n.toNatClampNeg .null, vm := .none } : Cell) = H1
  have z1 : H1.size = H.size + 1 := by rw [← hH1, Array.size_push]
  have e1 : H1[H.size]? = some (arrV cA n.toNatClampNeg (fun _ => .null)) := by rw [← hH1, Array.getElem?_push_size, ← arrV_new]
  have o1 : ∀ q : Nat, q < H.size → H1[q]? = H[q]? := fun q hq => by rw [← hH1, Array.getElem?_push, if_neg (Nat.ne_of_lt hq)]
  have hra := (hK.K.2 t _ (zTY_at _ ht2)).2
  rw [hty] at hra
  obtain ⟨kA2, comp2, -, -, -, k4⟩ := hra
  have hcA : cA = G_a Γ t := Option.some.inj (f1.symm.trans k4)
  subst hcA
  have e0 : A_bs A + A_nc A = H.size := by rw [hG.1.1.1.1, hG.1.1.1.2.2.2.2.2.2.1]
  have hkd : A_kd (A_new A (101 + t) n.toNatClampNeg) H.size = 101 + t := by
    show va_up _ (A_bs A + A.1) _ H.size = _
    rw [show A_bs A + A.1 = H.size from e0]; simp [va_up]
  have hln : A_ln (A_new A (101 + t) n.toNatClampNeg) H.size = n.toNatClampNeg := by
    show va_up _ (A_bs A + A.1) _ H.size = _
    rw [show A_bs A + A.1 = H.size from e0]; simp [va_up]
  have har : A_ar (A_new A (101 + t) n.toNatClampNeg) H.size = fun _ => none := by
    show va_up _ (A_bs A + A.1) _ H.size = _
    rw [show A_bs A + A.1 = H.size from e0]; simp [va_up]
  obtain ⟨hG1, ha⟩ := hG.new hok z1 o1 (zC.arrs hkd ht2 (by rw [e1, zarr_q ht, vp_cell_q, hln, har]; rfl) (by rw [hln]; omega) (fun e9 => by omega))
  have h3 := kk _ _ H1 hG1 h2
  rw [ha] at h3
  refine W.cs ?_ ?_ h3
  · show _ = A_nc A + 1 - A_nc A0; omega
  · show _ = A_us A + n.toNatClampNeg - A_us A0; omega
end XA
