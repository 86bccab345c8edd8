set_option maxRecDepth 100000
/-! STAGE 1, PretendDesk: System.arraycopy; the classes -/
def cI (t s : Nat) (sp : Int32) (d : Nat) (dp n : Int32) : xN Unit := fun A => if (A_kd A s = 101 + t ∧ A_kd A d = 101 + t) ∧ (¬ sp < 0 ∧ ¬ dp < 0 ∧ ¬ n < 0) ∧ sp.toNatClampNeg + n.toNatClampNeg ≤ A_ln A s ∧ dp.toNatClampNeg + n.toNatClampNeg ≤ A_ln A d then some ((), A_sai A d (va_cpy (A_ai A s) (A_ai A d) sp.toNatClampNeg dp.toNatClampNeg n.toNatClampNeg)) else none
def cL (s : Nat) (sp : Int32) (d : Nat) (dp n : Int32) : xN Unit := fun A => if (A_kd A s = 104 ∧ A_kd A d = 104) ∧ (¬ sp < 0 ∧ ¬ dp < 0 ∧ ¬ n < 0) ∧ sp.toNatClampNeg + n.toNatClampNeg ≤ A_ln A s ∧ dp.toNatClampNeg + n.toNatClampNeg ≤ A_ln A d then some ((), A_sal A d (va_cpy (A_al A s) (A_al A d) sp.toNatClampNeg dp.toNatClampNeg n.toNatClampNeg)) else none
/-- each of the first n from sp on is null or an object of class ci -/
def xall (A : zA) (ci s sp n : Nat) : Bool := (List.range n).all fun i => match A_ar A s (sp + i) with
  | none => true
  | some y => A_kd A y == ci + 1
def cR (t ci s : Nat) (sp : Int32) (d : Nat) (dp n : Int32) : xN Unit := fun A => if ((A_kd A s = 101 + t ∧ A_kd A d = 101 + t) ∧ (¬ sp < 0 ∧ ¬ dp < 0 ∧ ¬ n < 0) ∧ sp.toNatClampNeg + n.toNatClampNeg ≤ A_ln A s ∧ dp.toNatClampNeg + n.toNatClampNeg ≤ A_ln A d) ∧ xall A ci s sp.toNatClampNeg n.toNatClampNeg = true then some ((), A_sar A d (va_cpy (A_ar A s) (A_ar A d) sp.toNatClampNeg dp.toNatClampNeg n.toNatClampNeg)) else none
theorem xall_at {A : zA} {ci s sp n i y : Nat} (h : xall A ci s sp n = true) (hi : i < n) (hy : A_ar A s (sp + i) = some y) : A_kd A y = ci + 1 := by
  have h1 := List.all_eq_true.mp h i (List.mem_range.mpr hi)
  rw [hy] at h1
  simpa using h1
section XCP
variable {Γ : zG} {p : Program} {l : Launch} {e : Env} {R : Room} {s : State} {m : MethodId} {args : Array Value} {below : List Frame} {meth : Method} {c : Code} {H : Heap} {locs : List Loc} {cells slots : Nat} {Q : State → Prop} {A0 A : zA} {So : Option zS}
variable {cc : ByteArray} {nL pc fr lo index : Nat} {own nm : String} {ret : Option FieldType} {ls : Array Slot} {rest : List Value}
theorem z_nn0 (z : Int32) (hz : ¬ z < 0) : z.toInt = (z.toNatClampNeg : Int) := by
  have hz0 : (0 : Int) ≤ z.toInt := by
    have := Int32.not_lt.mp hz
    simpa using Int32.le_iff_toInt_le.mp this
  show z.toInt = ((z.toInt.toNat : Nat) : Int)
  omega
/-- what the tables say of arraycopy -/
def xCp (own : String) (index : Nat) : Prop := Cond.methodLink own index arraycopyName ∈ lw_all ∧ Cond.native arraycopyName ∈ lw_all ∧ Cond.static arraycopyName ∈ lw_all ∧ Cond.initialized "java/lang/System" ∈ lw_all
theorem xcopied {A' : zA} {d i : Nat} {L : List Loc} (hG : xR Γ A0 A So H locs) (ho : zOther A A' d) (hk0 : A_kd A d ≠ 0) (hL : ∀ q ∈ L, q.base = d) {H1 : Heap} (z : H1.size = H.size) (oq : ∀ x : Nat, x ≠ d → H1[x]? = H[x]?) (hc : zC Γ A' H1 d) : xR Γ A0 A' So H1 (locs ++ L) := by
  obtain ⟨⟨h1, h2⟩, h3⟩ := ho.xr (i := i) hG hk0 z oq hc
  refine ⟨⟨h1, fun q hq => ?_⟩, h3⟩
  rcases List.mem_append.mp hq with h | h
  · exact hG.1.2 q h
  · rw [hL q h]; exact (hG.1.1.1.2.1 d hk0).1
theorem zx_cI {β : Type} {K : Unit → xN β} {r : β × zA} {t a0 a : Nat} {sp dp n : Int32} (C : xCx Γ p R s m args meth c cc nL own ret fr lo nm A0) (hG : xR Γ A0 A So H locs) (hf : nB (cI t a0 sp a dp n) K A = some r) (ht : t < 2) (hq : xCp own index) (hl : ls.size = nL) (hfr : 1 ≤ fr) (hlo : (rest.map fun v => v.category).sum + (nativeFrameWords "java/lang/System" "arraycopy" 5 + 11) ≤ lo) (hd : decode cc pc = .ok (.invokestatic index, 3))
    (kk : ∀ (A : zA) (H1 : Heap) (locs1 : List Loc), xR Γ A0 A So H1 locs1 → K () A = some r → W p l e R s m args below meth c H1 locs1 (A_nc A - A_nc A0) (A_us A - A_us A0) Q (F0 m (pc + 3) ls rest)) : W p l e R s m args below meth c H locs (A_nc A - A_nc A0) (A_us A - A_us A0) Q (F0 m pc ls (.int n :: .int dp :: .ref a :: .int sp :: .ref a0 :: rest)) := by
  obtain ⟨⟨hx, hb, hml, hown, hts⟩, hr, hlk, hK, hR1, hR2, -⟩ := C
  obtain ⟨u, A1, g1, g2⟩ := nB_some hf
  obtain ⟨⟨⟨k0, k1⟩, ⟨h1, h2, h3⟩, h4, h5⟩, g3⟩ := z_if g1
  cases g3
  obtain ⟨hc0, -, hby0⟩ := hG.1.1.1.2.2.2.2.1 a0 t k0 (by omega)
  obtain ⟨hc1, hln1, hby1⟩ := hG.1.1.1.2.2.2.2.1 a t k1 (by omega)
  rw [zarr_i (by omega)] at hc0 hc1
  intro T hT X
  obtain ⟨-, kk0, hk0, cm0, hkk0⟩ := (hK.K.2 t _ (zTY_at _ (by omega))).1 (A_ln A a0) (fun j => .int (A_ai A a0 j))
  obtain ⟨-, kk1, hk1, cm1, hkk1⟩ := (hK.K.2 t _ (zTY_at _ (by omega))).1 (A_ln A a) (fun j => .int (A_ai A a j))
  have hprim : refKind (zAt t) = false := by rcases (show t = 0 ∨ t = 1 by omega) with rfl | rfl <;> rfl
  have hfit : ∀ i, i < n.toNatClampNeg → fits (zAt t) (.int (A_ai A a0 (sp.toNatClampNeg + i))) = true := by
    intro i hi
    rcases (show t = 0 ∨ t = 1 by omega) with rfl | rfl
    · rfl
    · rw [← hby0 rfl]; exact pk_fb _
  obtain ⟨vm', X', step⟩ := X.arraycopy hx hown (hts _ hq.1) (hts _ hq.2.1) (hts _ hq.2.2.1) (hts _ hq.2.2.2) (src := a0) (dst := a) (cs := vp_cell (G_a Γ t) (A_ln A a0, .inl (A_ai A a0))) (cd := vp_cell (G_a Γ t) (A_ln A a, .inl (A_ai A a))) (srcPos := sp) (destPos := dp) (n := n) (by rw [hT]; exact hc0) (by rw [hT]; exact hc1)
    (fun _ h => by cases h) (fun _ h => by cases h) (fun h => by cases h) (fun h => by cases h) hk0 hk1 hkk0 hkk1 (by simp [hprim]) h1 h2 h3
    (by rw [z_nn0 sp h1, z_nn0 n h3]; show ¬ _ > ((arrV (G_a Γ t) (A_ln A a0) (fun j => .int (A_ai A a0 j))).slots.size : Int); rw [arrV_size]; omega)
    (by rw [z_nn0 dp h2, z_nn0 n h3]; show ¬ _ > ((arrV (G_a Γ t) (A_ln A a) (fun j => .int (A_ai A a j))).slots.size : Int); rw [arrV_size]; omega)
    (fun vm₁ _ i hi => by
      have e : (vp_cell (G_a Γ t) (A_ln A a0, .inl (A_ai A a0))).slots.getD (sp.toNatClampNeg + i) .null = .int (A_ai A a0 (sp.toNatClampNeg + i)) := by
        show (arrV (G_a Γ t) (A_ln A a0) (fun j => .int (A_ai A a0 j))).slots.getD _ _ = _
        rw [Array.getD_eq_getD_getElem?, arrV_read _ _ (by omega)]
        rfl
      refine ⟨?_, ?_⟩
      · rw [e]
        exact hfit i hi
      · rw [e]
        exact trivial)
    (g := F0 m pc ls (.int n :: .int dp :: .ref a :: .int sp :: .ref a0 :: rest)) rfl (by rw [hml]; exact hl) (rest := rest) rfl (by rw [hb]; exact hd) (Nat.le_trans hfr hR1) (by show 2 * 0 + _ + _ ≤ _; omega)
  have e1 : copied (vp_cell (G_a Γ t) (A_ln A a0, .inl (A_ai A a0))) (vp_cell (G_a Γ t) (A_ln A a, .inl (A_ai A a))) sp dp n = vp_cell (G_a Γ t) (A_ln A a, .inl (va_cpy (A_ai A a0) (A_ai A a) sp.toNatClampNeg dp.toNatClampNeg n.toNatClampNeg)) := va_copied (fun z => .int z) _ _ _ _ h4
  rw [e1] at X' step
  have hl9 : a < H.size := (Array.getElem?_eq_some_iff.mp hc1).1
  have hheap : ((T.setVm vm').setCell a (vp_cell (G_a Γ t) (A_ln A a, .inl (va_cpy (A_ai A a0) (A_ai A a) sp.toNatClampNeg dp.toNatClampNeg n.toNatClampNeg)))).heap = H.setIfInBounds a (vp_cell (G_a Γ t) (A_ln A a, .inl (va_cpy (A_ai A a0) (A_ai A a) sp.toNatClampNeg dp.toNatClampNeg n.toNatClampNeg))) := by rw [← hT]; rfl
  have ho := zOther.ai A a (va_cpy (A_ai A a0) (A_ai A a) sp.toNatClampNeg dp.toNatClampNeg n.toNatClampNeg)
  have hai : A_ai (A_sai A a (va_cpy (A_ai A a0) (A_ai A a) sp.toNatClampNeg dp.toNatClampNeg n.toNatClampNeg)) a = va_cpy (A_ai A a0) (A_ai A a) sp.toNatClampNeg dp.toNatClampNeg n.toNatClampNeg := by show va_up _ _ _ a = _; simp [va_up]
  have hR9 := fun (L : List Loc) (hL9 : ∀ q ∈ L, q.base = a) => xcopied (i := 0) (H1 := H.setIfInBounds a (vp_cell (G_a Γ t) (A_ln A a, .inl (va_cpy (A_ai A a0) (A_ai A a) sp.toNatClampNeg dp.toNatClampNeg n.toNatClampNeg)))) hG ho (by omega) hL9 (by simp) (fun x hx9 => by simp [Array.getElem?_setIfInBounds, Ne.symm hx9]) (zC.arrs (t := t) (by rw [ho.1]; exact k1) (by omega) (by
      rw [zarr_i (by omega), hai, ho.2.2.2.2.2.1]
      simp [Array.getElem?_setIfInBounds, hl9]) (by rw [ho.2.2.2.2.2.1]; exact hln1) (fun e9 j => by
      rw [hai]
      unfold va_cpy
      split
      · exact hby0 e9 _
      · exact hby1 e9 _))
  have key := fun (L : List Loc) (hL9 : ∀ q ∈ L, q.base = a) => kk _ _ _ (hR9 L hL9) g2 _ hheap
  obtain ⟨t9, a1, b1⟩ := key _ (fun q hq9 => by
    obtain ⟨z, -, hz⟩ := List.mem_map.mp hq9
    rw [← hz]) X'
  exact ⟨t9, step t9 a1, b1⟩
theorem zx_cL {β : Type} {K : Unit → xN β} {r : β × zA} {a0 a : Nat} {sp dp n : Int32} (C : xCx Γ p R s m args meth c cc nL own ret fr lo nm A0) (hG : xR Γ A0 A So H locs) (hf : nB (cL a0 sp a dp n) K A = some r) (hq : xCp own index) (hl : ls.size = nL) (hfr : 1 ≤ fr) (hlo : (rest.map fun v => v.category).sum + (nativeFrameWords "java/lang/System" "arraycopy" 5 + 11) ≤ lo) (hd : decode cc pc = .ok (.invokestatic index, 3))
    (kk : ∀ (A : zA) (H1 : Heap) (locs1 : List Loc), xR Γ A0 A So H1 locs1 → K () A = some r → W p l e R s m args below meth c H1 locs1 (A_nc A - A_nc A0) (A_us A - A_us A0) Q (F0 m (pc + 3) ls rest)) : W p l e R s m args below meth c H locs (A_nc A - A_nc A0) (A_us A - A_us A0) Q (F0 m pc ls (.int n :: .int dp :: .ref a :: .int sp :: .ref a0 :: rest)) := by
  obtain ⟨⟨hx, hb, hml, hown, hts⟩, hr, hlk, hK, hR1, hR2, -⟩ := C
  obtain ⟨u, A1, g1, g2⟩ := nB_some hf
  obtain ⟨⟨⟨k0, k1⟩, ⟨h1, h2, h3⟩, h4, h5⟩, g3⟩ := z_if g1
  cases g3
  obtain ⟨hc0, -, hby0⟩ := hG.1.1.1.2.2.2.2.1 a0 3 k0 (by omega)
  obtain ⟨hc1, hln1, hby1⟩ := hG.1.1.1.2.2.2.2.1 a 3 k1 (by omega)
  rw [zarr_l] at hc0 hc1
  intro T hT X
  obtain ⟨-, kk0, hk0, cm0, hkk0⟩ := (hK.K.2 3 _ (zTY_at _ (by omega))).1 (A_ln A a0) (fun j => .long (A_al A a0 j))
  obtain ⟨-, kk1, hk1, cm1, hkk1⟩ := (hK.K.2 3 _ (zTY_at _ (by omega))).1 (A_ln A a) (fun j => .long (A_al A a j))
  obtain ⟨vm', X', step⟩ := X.arraycopy hx hown (hts _ hq.1) (hts _ hq.2.1) (hts _ hq.2.2.1) (hts _ hq.2.2.2) (src := a0) (dst := a) (cs := vp_cell (G_a Γ 3) (A_ln A a0, .inr (.inl (A_al A a0)))) (cd := vp_cell (G_a Γ 3) (A_ln A a, .inr (.inl (A_al A a)))) (srcPos := sp) (destPos := dp) (n := n) (by rw [hT]; exact hc0) (by rw [hT]; exact hc1)
    (fun _ h => by cases h) (fun _ h => by cases h) (fun h => by cases h) (fun h => by cases h) hk0 hk1 hkk0 hkk1 rfl h1 h2 h3
    (by rw [z_nn0 sp h1, z_nn0 n h3]; show ¬ _ > ((arrV (G_a Γ 3) (A_ln A a0) (fun j => .long (A_al A a0 j))).slots.size : Int); rw [arrV_size]; omega)
    (by rw [z_nn0 dp h2, z_nn0 n h3]; show ¬ _ > ((arrV (G_a Γ 3) (A_ln A a) (fun j => .long (A_al A a j))).slots.size : Int); rw [arrV_size]; omega)
    (fun vm₁ _ i hi => by
      have e : (vp_cell (G_a Γ 3) (A_ln A a0, .inr (.inl (A_al A a0)))).slots.getD (sp.toNatClampNeg + i) .null = .long (A_al A a0 (sp.toNatClampNeg + i)) := by
        show (arrV (G_a Γ 3) (A_ln A a0) (fun j => .long (A_al A a0 j))).slots.getD _ _ = _
        rw [Array.getD_eq_getD_getElem?, arrV_read _ _ (by omega)]
        rfl
      refine ⟨?_, ?_⟩
      · rw [e]
        rfl
      · rw [e]
        exact trivial)
    (g := F0 m pc ls (.int n :: .int dp :: .ref a :: .int sp :: .ref a0 :: rest)) rfl (by rw [hml]; exact hl) (rest := rest) rfl (by rw [hb]; exact hd) (Nat.le_trans hfr hR1) (by show 2 * 0 + _ + _ ≤ _; omega)
  have e1 : copied (vp_cell (G_a Γ 3) (A_ln A a0, .inr (.inl (A_al A a0)))) (vp_cell (G_a Γ 3) (A_ln A a, .inr (.inl (A_al A a)))) sp dp n = vp_cell (G_a Γ 3) (A_ln A a, .inr (.inl (va_cpy (A_al A a0) (A_al A a) sp.toNatClampNeg dp.toNatClampNeg n.toNatClampNeg))) := va_copied (fun z => .long z) _ _ _ _ h4
  rw [e1] at X' step
  have hl9 : a < H.size := (Array.getElem?_eq_some_iff.mp hc1).1
  have hheap : ((T.setVm vm').setCell a (vp_cell (G_a Γ 3) (A_ln A a, .inr (.inl (va_cpy (A_al A a0) (A_al A a) sp.toNatClampNeg dp.toNatClampNeg n.toNatClampNeg))))).heap = H.setIfInBounds a (vp_cell (G_a Γ 3) (A_ln A a, .inr (.inl (va_cpy (A_al A a0) (A_al A a) sp.toNatClampNeg dp.toNatClampNeg n.toNatClampNeg)))) := by rw [← hT]; rfl
  have ho := zOther.al A a (va_cpy (A_al A a0) (A_al A a) sp.toNatClampNeg dp.toNatClampNeg n.toNatClampNeg)
  have hal : A_al (A_sal A a (va_cpy (A_al A a0) (A_al A a) sp.toNatClampNeg dp.toNatClampNeg n.toNatClampNeg)) a = va_cpy (A_al A a0) (A_al A a) sp.toNatClampNeg dp.toNatClampNeg n.toNatClampNeg := by show va_up _ _ _ a = _; simp [va_up]
  have hR9 := fun (L : List Loc) (hL9 : ∀ q ∈ L, q.base = a) => xcopied (i := 0) (H1 := H.setIfInBounds a (vp_cell (G_a Γ 3) (A_ln A a, .inr (.inl (va_cpy (A_al A a0) (A_al A a) sp.toNatClampNeg dp.toNatClampNeg n.toNatClampNeg))))) hG ho (by omega) hL9 (by simp) (fun x hx9 => by simp [Array.getElem?_setIfInBounds, Ne.symm hx9]) (zC.arrs (t := 3) (by rw [ho.1]; exact k1) (by omega) (by
      rw [zarr_l, hal, ho.2.2.2.2.2.1]
      simp [Array.getElem?_setIfInBounds, hl9]) (by rw [ho.2.2.2.2.2.1]; exact hln1) (fun e9 => by omega))
  have key := fun (L : List Loc) (hL9 : ∀ q ∈ L, q.base = a) => kk _ _ _ (hR9 L hL9) g2 _ hheap
  obtain ⟨t9, a1, b1⟩ := key _ (fun q hq9 => by
    obtain ⟨z, -, hz⟩ := List.mem_map.mp hq9
    rw [← hz]) X'
  exact ⟨t9, step t9 a1, b1⟩
theorem zx_cR {β : Type} {K : Unit → xN β} {r : β × zA} {t ci a0 a : Nat} {sp dp n : Int32} {q0 : vw_C} {ty : Nat → FieldType} (C : xCx Γ p R s m args meth c cc nL own ret fr lo nm A0) (hG : xR Γ A0 A So H locs) (hf : nB (cR t ci a0 sp a dp n) K A = some r) (ht : 4 ≤ t) (ht2 : t < 13) (hC : zCls ci q0 ty) (htq : zAt t = .object q0.1) (hq : xCp own index) (hl : ls.size = nL) (hfr : 1 ≤ fr) (hlo : (rest.map fun v => v.category).sum + (nativeFrameWords "java/lang/System" "arraycopy" 5 + 11) ≤ lo) (hd : decode cc pc = .ok (.invokestatic index, 3))
    (kk : ∀ (A : zA) (H1 : Heap) (locs1 : List Loc), xR Γ A0 A So H1 locs1 → K () A = some r → W p l e R s m args below meth c H1 locs1 (A_nc A - A_nc A0) (A_us A - A_us A0) Q (F0 m (pc + 3) ls rest)) : W p l e R s m args below meth c H locs (A_nc A - A_nc A0) (A_us A - A_us A0) Q (F0 m pc ls (.int n :: .int dp :: .ref a :: .int sp :: .ref a0 :: rest)) := by
  obtain ⟨⟨hx, hb, hml, hown, hts⟩, hr, hlk, hK, hR1, hR2, -⟩ := C
  obtain ⟨u, A1, g1, g2⟩ := nB_some hf
  obtain ⟨⟨⟨⟨k0, k1⟩, ⟨h1, h2, h3⟩, h4, h5⟩, hall⟩, g3⟩ := z_if g1
  cases g3
  obtain ⟨hc0, -, hby0⟩ := hG.1.1.1.2.2.2.2.1 a0 t k0 ht2
  obtain ⟨hc1, hln1, hby1⟩ := hG.1.1.1.2.2.2.2.1 a t k1 ht2
  rw [zarr_q ht] at hc0 hc1
  intro T hT X
  have hKt := hK.K.2 t _ (zTY_at _ ht2)
  obtain ⟨-, kk0, hk0, cm0, hkk0⟩ := hKt.1 (A_ln A a0) (fun j => va_rf (A_ar A a0 j))
  obtain ⟨-, kk1, hk1, cm1, hkk1⟩ := hKt.1 (A_ln A a) (fun j => va_rf (A_ar A a j))
  have hra := hKt.2
  rw [htq] at hra hkk0 hkk1
  have hcls := (hK.K.1 ci q0 hC.1).2
  obtain ⟨vm', X', step⟩ := X.arraycopy hx hown (hts _ hq.1) (hts _ hq.2.1) (hts _ hq.2.2.1) (hts _ hq.2.2.2) (src := a0) (dst := a) (cs := vp_cell (G_a Γ t) (A_ln A a0, .inr (.inr (.inr (.inr (A_ar A a0)))))) (cd := vp_cell (G_a Γ t) (A_ln A a, .inr (.inr (.inr (.inr (A_ar A a)))))) (srcPos := sp) (destPos := dp) (n := n) (by rw [hT]; exact hc0) (by rw [hT]; exact hc1)
    (fun _ h => by cases h) (fun _ h => by cases h) (fun h => by cases h) (fun h => by cases h) hk0 hk1 hkk0 hkk1 rfl h1 h2 h3
    (by rw [z_nn0 sp h1, z_nn0 n h3]; show ¬ _ > ((arrV (G_a Γ t) (A_ln A a0) (fun j => va_rf (A_ar A a0 j))).slots.size : Int); rw [arrV_size]; omega)
    (by rw [z_nn0 dp h2, z_nn0 n h3]; show ¬ _ > ((arrV (G_a Γ t) (A_ln A a) (fun j => va_rf (A_ar A a j))).slots.size : Int); rw [arrV_size]; omega)
    (fun vm₁ hal i hi => by
      have e : (vp_cell (G_a Γ t) (A_ln A a0, .inr (.inr (.inr (.inr (A_ar A a0)))))).slots.getD (sp.toNatClampNeg + i) .null = va_rf (A_ar A a0 (sp.toNatClampNeg + i)) := by
        show (arrV (G_a Γ t) (A_ln A a0) (fun j => va_rf (A_ar A a0 j))).slots.getD _ _ = _
        rw [Array.getD_eq_getD_getElem?, arrV_read _ _ (by omega)]
        rfl
      rw [e]
      cases hy : A_ar A a0 (sp.toNatClampNeg + i) with
      | none => exact ⟨rfl, trivial⟩
      | some y =>
        obtain ⟨cellV, w1, w2, w3, -⟩ := hG.1.1.1.2.2.1 y ci q0 (xall_at hall hi hy) hC.2.1 hC.1
        have w4 : s.vm.findClass q0.1 = some cellV.cls := by rw [w2]; exact hcls.1
        obtain ⟨kA, comp, r1, r2, r3, -⟩ := hra
        cases hk1.symm.trans r1
        cases hkk1.symm.trans r2
        have hcomp : cm1 = (G_D Γ).1 ci := Option.some.inj (r3.symm.trans hcls.1)
        obtain ⟨kC, hkC, -⟩ := Vm.findClass_spec w4
        obtain ⟨kE, hkE, -⟩ := Vm.findClass_spec r3
        obtain ⟨kC', hkC', -⟩ := hal.2.2 _ _ hkC
        obtain ⟨kE', hkE', -⟩ := hal.2.2 _ _ hkE
        refine ⟨rfl, cellV, (show T.heap[y]? = some cellV by rw [hT]; exact w1), (fun q h => by rw [w3] at h; cases h), ⟨kC', hkC'⟩, ?_, ?_⟩
        · exact ⟨kE', hkE'⟩
        · show vm₁.assignable _ _ = true
          rw [hal.assignable, w2, hcomp]
          exact va_assign hcls)
    (g := F0 m pc ls (.int n :: .int dp :: .ref a :: .int sp :: .ref a0 :: rest)) rfl (by rw [hml]; exact hl) (rest := rest) rfl (by rw [hb]; exact hd) (Nat.le_trans hfr hR1) (by show 2 * 0 + _ + _ ≤ _; omega)
  have e1 : copied (vp_cell (G_a Γ t) (A_ln A a0, .inr (.inr (.inr (.inr (A_ar A a0)))))) (vp_cell (G_a Γ t) (A_ln A a, .inr (.inr (.inr (.inr (A_ar A a)))))) sp dp n = vp_cell (G_a Γ t) (A_ln A a, .inr (.inr (.inr (.inr (va_cpy (A_ar A a0) (A_ar A a) sp.toNatClampNeg dp.toNatClampNeg n.toNatClampNeg))))) := va_copied va_rf _ _ _ _ h4
  rw [e1] at X' step
  have hl9 : a < H.size := (Array.getElem?_eq_some_iff.mp hc1).1
  have hheap : ((T.setVm vm').setCell a (vp_cell (G_a Γ t) (A_ln A a, .inr (.inr (.inr (.inr (va_cpy (A_ar A a0) (A_ar A a) sp.toNatClampNeg dp.toNatClampNeg n.toNatClampNeg))))))).heap = H.setIfInBounds a (vp_cell (G_a Γ t) (A_ln A a, .inr (.inr (.inr (.inr (va_cpy (A_ar A a0) (A_ar A a) sp.toNatClampNeg dp.toNatClampNeg n.toNatClampNeg)))))) := by rw [← hT]; rfl
  have ho := zOther.ar A a (va_cpy (A_ar A a0) (A_ar A a) sp.toNatClampNeg dp.toNatClampNeg n.toNatClampNeg)
  have hal : A_ar (A_sar A a (va_cpy (A_ar A a0) (A_ar A a) sp.toNatClampNeg dp.toNatClampNeg n.toNatClampNeg)) a = va_cpy (A_ar A a0) (A_ar A a) sp.toNatClampNeg dp.toNatClampNeg n.toNatClampNeg := by show va_up _ _ _ a = _; simp [va_up]
  have hR9 := fun (L : List Loc) (hL9 : ∀ q ∈ L, q.base = a) => xcopied (i := 0) (H1 := H.setIfInBounds a (vp_cell (G_a Γ t) (A_ln A a, .inr (.inr (.inr (.inr (va_cpy (A_ar A a0) (A_ar A a) sp.toNatClampNeg dp.toNatClampNeg n.toNatClampNeg))))))) hG ho (by omega) hL9 (by simp) (fun x hx9 => by simp [Array.getElem?_setIfInBounds, Ne.symm hx9]) (zC.arrs (t := t) (by rw [ho.1]; exact k1) ht2 (by
      rw [zarr_q ht, hal, ho.2.2.2.2.2.1]
      simp [Array.getElem?_setIfInBounds, hl9]) (by rw [ho.2.2.2.2.2.1]; exact hln1) (fun e9 => by omega))
  have key := fun (L : List Loc) (hL9 : ∀ q ∈ L, q.base = a) => kk _ _ _ (hR9 L hL9) g2 _ hheap
  obtain ⟨t9, a1, b1⟩ := key _ (fun q hq9 => by
    obtain ⟨z, -, hz⟩ := List.mem_map.mp hq9
    rw [← hz]) X'
  exact ⟨t9, step t9 a1, b1⟩
end XCP
/-! the classes -/
theorem u_ws_le {C : String} {T : u_T} {n N : Nat} (h : n ≤ N) : ∀ w ∈ u_ws C T n, w ∈ u_ws C T N := by
  intro w hw
  obtain ⟨k, hk, rfl⟩ := List.mem_map.mp hw
  exact u_in_lay (Nat.lt_of_lt_of_le (List.mem_range.mp hk) h)
theorem zc0 : zCls 0 (RX0, TX0, 17) tyX0 := ⟨rfl, by decide, in_X0, tyX0_ok, fun a ha b hb h => Or.inl (nmX0 a ha b hb h)⟩
theorem zc1 : zCls 1 (RX1, TX1, 5) tyX1 := ⟨rfl, by decide, in_X1, tyX1_ok, fun a ha b hb h => Or.inl (nmX1 a ha b hb h)⟩
theorem zc2 : zCls 2 (RX2, TX2, 4) tyX2 := ⟨rfl, by decide, in_X2, tyX2_ok, fun a ha b hb h => Or.inl (nmX2 a ha b hb h)⟩
theorem zc3 : zCls 3 (RX3, TX3, 23) tyX3 := ⟨rfl, by decide, in_X3, tyX3_ok, fun a ha b hb h => Or.inl (nmX3 a ha b hb h)⟩
theorem zc4 : zCls 4 (RX4, TX4, 4) tyX4 := ⟨rfl, by decide, in_X4, tyX4_ok, fun a ha b hb h => Or.inl (nmX4 a ha b hb h)⟩
theorem zc5 : zCls 5 (RX5, TX5, 5) tyX5 := ⟨rfl, by decide, in_X5, tyX5_ok, fun a ha b hb h => Or.inl (nmX5 a ha b hb h)⟩
theorem zc6 : zCls 6 (RX6, TX6, 4) tyX6 := ⟨rfl, by decide, in_X6, tyX6_ok, fun a ha b hb h => Or.inl (nmX6 a ha b hb h)⟩
theorem zc7 : zCls 7 (RX7, TX7, 49) tyX7 := ⟨rfl, by decide, in_X7, tyX7_ok, fun a ha b hb h => Or.inl (nmX7 a ha b hb h)⟩
theorem zc8 : zCls 8 (RX8, TX8, 4) tyX8 := ⟨rfl, by decide, in_X8, tyX8_ok, fun a ha b hb h => Or.inl (nmX8 a ha b hb h)⟩
theorem zc11 : zCls 11 (RX11, TX11, 2) tyX11 := ⟨rfl, by decide, in_X11, tyX11_ok, fun a ha b hb h => Or.inl (nmX11 a ha b hb h)⟩
theorem zc13 : zCls 13 (RX13, TX13, 5) tyX13 := ⟨rfl, by decide, in_X13, tyX13_ok, fun a ha b hb h => Or.inl (nmX13 a ha b hb h)⟩
theorem zc14 : zCls 14 (RX14, TX14, 8) tyX14 := ⟨rfl, by decide, in_X14, tyX14_ok, fun a ha b hb h => Or.inl (nmX14 a ha b hb h)⟩
theorem zc15 : zCls 15 (RX15, TX15, 5) tyX15 := ⟨rfl, by decide, in_X15, tyX15_ok, fun a ha b hb h => Or.inl (nmX15 a ha b hb h)⟩
theorem zc16 : zCls 16 (RX16, TX16, 3) tyX16 := ⟨rfl, by decide, in_X16, tyX16_ok, fun a ha b hb h => Or.inl (nmX16 a ha b hb h)⟩
theorem zc17 : zCls 17 (RX17, TX17, 4) tyX17 := ⟨rfl, by decide, in_X17, tyX17_ok, fun a ha b hb h => Or.inl (nmX17 a ha b hb h)⟩
theorem zc19 : zCls 19 (RX19, TX19, 2) tyX19 := ⟨rfl, by decide, in_X19, tyX19_ok, fun a ha b hb h => Or.inl (nmX19 a ha b hb h)⟩
theorem zc10 : zCls 10 (RX10, TX10, 12) tyX10 := ⟨rfl, by decide, in_X10, tyX10_ok, by decide +kernel⟩
theorem zc18 : zCls 18 (RX18, TX18, 12) tyX18 := ⟨rfl, by decide, in_X18, tyX18_ok, by decide +kernel⟩
theorem z_cr (o : Option Nat) : (va_rf o).category = 1 := by cases o <;> rfl
theorem z_sm {st : List Value} (h : 2 * st.length ≤ 8) : (st.map fun v => v.category).sum ≤ 8 := by
  have key : ∀ l : List Value, (l.map fun v => v.category).sum ≤ 2 * l.length := by
    intro l
    induction l with
    | nil => exact Nat.le_refl 0
    | cons a t ih =>
      simp only [List.map_cons, List.sum_cons, List.length_cons]
      rcases lv_cat a with h | h <;> omega
  exact Nat.le_trans (key st) h
