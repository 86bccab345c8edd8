set_option maxRecDepth 100000
/-! STAGE 1, the model's rows -/
abbrev mN (α : Type) : Type := zN zS α
def mF (k : Nat) : mN Int32 := fun S => some (S.1 k, S)
def mW (k : Nat) (v : Int32) : mN Unit := fun S => some ((), (upd S.1 k v, S.2))
def mA (k : Nat) (i : Int32) : mN Int32 := fun S => if i < 0 ∨ zlen k ≤ i.toNatClampNeg then none else some (S.2 k i.toNatClampNeg, S)
def mU (f : Nat → Nat → Int32) (k i : Nat) (v : Int32) : Nat → Nat → Int32 := fun a j => if a = k ∧ j = i then v else f a j
def mS (k : Nat) (i v : Int32) : mN Unit := fun S => if i < 0 ∨ zlen k ≤ i.toNatClampNeg then none else some ((), (S.1, mU S.2 k i.toNatClampNeg v))
/-- a boolean array keeps 0 or 1: others are refused here -/
def mZ (k : Nat) (i v : Int32) : mN Unit := fun S => if i < 0 ∨ zlen k ≤ i.toNatClampNeg then none else if v = 0 ∨ v = 1 then some ((), (S.1, mU S.2 k i.toNatClampNeg v)) else none
def mV (k : Nat) (v : Int32) : mN Unit := fun S => if v = 0 ∨ v = 1 then some ((), (upd S.1 k v, S.2)) else none
theorem mA_some {k : Nat} {i v : Int32} {S S' : zS} (h : mA k i S = some (v, S')) : vp_in i (zlen k) ∧ v = S.2 k i.toNatClampNeg ∧ S' = S := by
  unfold mA at h
  split at h
  · cases h
  · rename_i hn
    cases h
    exact ⟨hn, rfl, rfl⟩
theorem mS_some {k : Nat} {i v : Int32} {u : Unit} {S S' : zS} (h : mS k i v S = some (u, S')) : vp_in i (zlen k) ∧ S' = (S.1, mU S.2 k i.toNatClampNeg v) := by
  unfold mS at h
  split at h
  · cases h
  · rename_i hn
    cases h
    exact ⟨hn, rfl⟩
theorem mZ_some {k : Nat} {i v : Int32} {u : Unit} {S S' : zS} (h : mZ k i v S = some (u, S')) : vp_in i (zlen k) ∧ (v = 0 ∨ v = 1) ∧ S' = (S.1, mU S.2 k i.toNatClampNeg v) := by
  unfold mZ at h
  split at h
  · cases h
  · rename_i hn
    split at h
    · rename_i hv
      cases h
      exact ⟨hn, hv, rfl⟩
    · cases h
theorem mV_some {k : Nat} {v : Int32} {u : Unit} {S S' : zS} (h : mV k v S = some (u, S')) : (v = 0 ∨ v = 1) ∧ S' = (upd S.1 k v, S.2) := by
  unfold mV at h
  split at h
  · rename_i hv
    cases h
    exact ⟨hv, rfl⟩
  · cases h
theorem z_nb {v : Int32} (h : v = 0 ∨ v = 1) : narrow .boolean (.int v) = .int v := by
  rcases h with rfl | rfl
  · decide +kernel
  · decide +kernel
/-- another address than those of A: A's cells stay -/
theorem zRX.off {Γ : zG} {A : zA} {H H1 : Heap} {q : Nat} (h : zRX Γ A H) (hq : A_kd A q = 0) (z : H1.size = H.size) (o : ∀ x : Nat, x ≠ q → H1[x]? = H[x]?) : zRX Γ A H1 := by
  obtain ⟨h1, h2, h3, h4, h5, h6, h7⟩ := h
  have ne : ∀ a, A_kd A a ≠ 0 → a ≠ q := fun a ha e => ha (by rw [e]; exact hq)
  refine ⟨by rw [z]; exact h1, fun a ha => by rw [z]; exact h2 a ha, fun a ci c9 ha hn hc => (h3 a ci c9 ha hn hc).kept (o a (ne a (by rw [ha]; omega))), fun a ha => ?_, fun a t ha ht => ?_, trivial, h7⟩
  · rw [o a (ne a (by rw [ha]; omega))]; exact h4 a ha
  · rw [o a (ne a (by rw [ha]; omega))]; exact h5 a t ha ht
/-- a write at one of the model's addresses -/
theorem zRel.mset {Γ : zG} {A : zA} {S S' : zS} {H H1 : Heap} {i : Nat} (h : zRel Γ A (some S) H) (hi : zus i) (z : H1.size = H.size) (o : ∀ x : Nat, x ≠ G_m Γ i → H1[x]? = H[x]?)
    (ho : t_OB (G_m Γ 0) ((G_D Γ).1 7) 49 ((G_D Γ).2 7) H1 (zmv (G_m Γ) S')) (ha : ∀ k, k < 49 → zsrt k ≠ 0 → H1[G_m Γ (k + 1)]? = some (vp_cell (G_a Γ (zat k)) (zlen k, .inl (S'.2 k)))) : zRel Γ A (some S') H1 := by
  obtain ⟨h1, h2, h3⟩ := h
  obtain ⟨⟨g1, g2, g3, g4⟩, g5⟩ := h2 S rfl
  refine ⟨h1.off (g5 i hi) z o, fun S9 e9 => ?_, fun q hq => ?_⟩
  · cases e9
    exact ⟨⟨ho, ha, g3, g4⟩, g5⟩
  · rw [o q (fun e => by have := g4 i hi; rw [← e] at this; omega)]
    exact h3 q hq
theorem zR.put {Γ : zG} {A : zA} {So : Option zS} {H : Heap} {locs : List Loc} {a k : Nat} (hl : ∀ q ∈ locs, (G_H Γ).size ≤ q.base) (h : zRel Γ A So H) (ha : (G_H Γ).size ≤ a) : zR Γ A So H (locs ++ [⟨a, k⟩]) :=
  ⟨h, fun q hq => by
    rcases List.mem_append.mp hq with h1 | h1
    · exact hl q h1
    · rw [List.mem_singleton.mp h1]; exact ha⟩
section MR
variable {Γ : zG} {p : Program} {l : Launch} {e : Env} {R : Room} {s : State} {m : MethodId} {args : Array Value} {below : List Frame} {meth : Method} {c : Code} {H : Heap} {locs : List Loc} {Q : State → Prop} {A : zA} {S : zS}
variable {cc : ByteArray} {nL pc fr lo : Nat} {own : String} {ret : Option FieldType} {ls : Array Slot} {rest : List Value}
/-- an array of the model: its address -/
theorem zm_ga (C : zCx Γ p R s m args meth c cc nL own ret fr lo) (hG : zR Γ A (some S) H locs) (k : Nat) {idx : Nat} (hk : k < 49) (hs : zsrt k ≠ 0) (hq : Cond.fieldLink own idx (TX7 k).1 (TX7 k).2.1 (TX7 k).2.2.1 ∈ lw_all) (hd : decode cc pc = .ok (.getfield idx, 3))
    (kk : W p l e R s m args below meth c H locs 0 0 Q (F0 m (pc + 3) ls (.ref (G_m Γ (k + 1)) :: rest))) : W p l e R s m args below meth c H locs 0 0 Q (F0 m pc ls (.ref (G_m Γ 0) :: rest)) := by
  obtain ⟨⟨hx, hb, hml, hown, hts⟩, hr, hlk, hK, -⟩ := C
  obtain ⟨⟨⟨cell, q1, q2, q3, q4⟩, -⟩, -⟩ := hG.1.2.1 S rfl
  obtain ⟨hS, hfc, kC, hkC, hkind⟩ := hK.K.1 7 _ rfl
  obtain ⟨cf, kf, fi, f, hi, hsl⟩ := hS k hk
  refine W.getf hx hb hown (hts _ hq) hi (u_facts hfc hkC (u_lays hts in_X7 hk) hi).1 q1 (by rw [q3]; exact fun h => by cases h) (v := .ref (G_m Γ (k + 1))) ?_ rfl rfl hd kk
  rw [hsl, q4 k hk, zmv, if_neg hs]
/-- an int field of the model -/
theorem zm_gf {β : Type} {K : Int32 → mN β} {r : β × zS} (C : zCx Γ p R s m args meth c cc nL own ret fr lo) (hG : zR Γ A (some S) H locs) (k : Nat) {idx : Nat} (hf : nB (mF k) K S = some r) (hk : k < 49) (hs : zsrt k = 0) (hq : Cond.fieldLink own idx (TX7 k).1 (TX7 k).2.1 (TX7 k).2.2.1 ∈ lw_all) (hd : decode cc pc = .ok (.getfield idx, 3))
    (kk : ∀ v, K v S = some r → W p l e R s m args below meth c H locs 0 0 Q (F0 m (pc + 3) ls (.int v :: rest))) : W p l e R s m args below meth c H locs 0 0 Q (F0 m pc ls (.ref (G_m Γ 0) :: rest)) := by
  obtain ⟨⟨hx, hb, hml, hown, hts⟩, hr, hlk, hK, -⟩ := C
  obtain ⟨⟨⟨cell, q1, q2, q3, q4⟩, -⟩, -⟩ := hG.1.2.1 S rfl
  obtain ⟨hS, hfc, kC, hkC, hkind⟩ := hK.K.1 7 _ rfl
  obtain ⟨cf, kf, fi, f, hi, hsl⟩ := hS k hk
  refine W.getf hx hb hown (hts _ hq) hi (u_facts hfc hkC (u_lays hts in_X7 hk) hi).1 q1 (by rw [q3]; exact fun h => by cases h) (v := .int (S.1 k)) ?_ rfl rfl hd (kk _ hf)
  rw [hsl, q4 k hk, zmv, if_pos hs]
theorem zm_put0 (C : zCx Γ p R s m args meth c cc nL own ret fr lo) (hG : zR Γ A (some S) H locs) (k : Nat) {idx : Nat} {v : Int32} {ty : FieldType} (hk : k < 49) (hs : zsrt k = 0) (hfin : (TX7 k).2.2.2 = false) (hd0 : parseFieldDescriptor (TX7 k).2.2.1 = some ty) (hn : narrow ty (.int v) = .int v) (hfit : fits ty (.int v) = true) (hq : Cond.fieldLink own idx (TX7 k).1 (TX7 k).2.1 (TX7 k).2.2.1 ∈ lw_all) (hd : decode cc pc = .ok (.putfield idx, 3))
    (kk : ∀ (H1 : Heap) (locs1 : List Loc), zR Γ A (some (upd S.1 k v, S.2)) H1 locs1 → W p l e R s m args below meth c H1 locs1 0 0 Q (F0 m (pc + 3) ls rest)) : W p l e R s m args below meth c H locs 0 0 Q (F0 m pc ls (.int v :: .ref (G_m Γ 0) :: rest)) := by
  obtain ⟨⟨hx, hb, hml, hown, hts⟩, hr, hlk, hK, -⟩ := C
  have hG1 := hG.1
  obtain ⟨⟨⟨cell, q1, q2, q3, q4⟩, g2, g3, g4⟩, g5⟩ := hG.1.2.1 S rfl
  have hap := va_apart (own := own) (args := args) hts in_X7 tyX7 tyX7_ok nmX7 hK.K (ci := 7) rfl
  obtain ⟨hS, hfc, kC, hkC, hkind⟩ := hK.K.1 7 _ rfl
  obtain ⟨cf, kf, fi, f, hi, hsl⟩ := hS k hk
  have hlay := hts _ (in_X7 _ (u_in_lay hk))
  unfold u_lay at hlay
  rw [if_neg (by rw [hfin]; decide)] at hlay
  have hst := (u_facts hfc hkC (u_lays hts in_X7 hk) hi).1
  have h6 := u_store hfc hkC hkind hlay hi hd0 hn hfit
  refine W.putK hx hb (f := f) ⟨hown, hts _ hq, ⟨_, _, _, hi⟩, hst⟩ (by rw [q2]; exact h6) q1 q3 (by rw [hsl]; exact k2_hasslot (q4 k hk)) rfl rfl hd fun H1 e1 e2 e3 => ?_
  rw [hsl] at e1 ⊢
  have hz : zus 0 := Or.inl rfl
  refine kk H1 _ (zR.put hG.2 (hG1.mset hz e2 e3 ?_ ?_) (g4 0 hz))
  · refine t_OB.to (V := updV (zmv (G_m Γ) S) k (.int v)) ⟨_, e1, q2, q3, t_set q4 hap hk (.int v)⟩ (fun j hj => ?_)
    by_cases hjk : j = k
    · subst hjk
      simp [updV, zmv, hs, upd]
    · simp [updV, zmv, upd, hjk]
  · intro j hj hsj
    rw [e3 _ (fun e9 => by have := g3 (j + 1) 0 (Or.inr ⟨j, rfl, hj, hsj⟩) hz e9; omega)]
    exact g2 j hj hsj
theorem zm_pf {β : Type} {K : Unit → mN β} {r : β × zS} {v : Int32} (C : zCx Γ p R s m args meth c cc nL own ret fr lo) (hG : zR Γ A (some S) H locs) (k : Nat) {idx : Nat} (hf : nB (mW k v) K S = some r) (hk : k < 49) (hs : zsrt k = 0) (hfin : (TX7 k).2.2.2 = false) (hd0 : parseFieldDescriptor (TX7 k).2.2.1 = some .int) (hq : Cond.fieldLink own idx (TX7 k).1 (TX7 k).2.1 (TX7 k).2.2.1 ∈ lw_all) (hd : decode cc pc = .ok (.putfield idx, 3))
    (kk : ∀ (S1 : zS) (H1 : Heap) (locs1 : List Loc), zR Γ A (some S1) H1 locs1 → K () S1 = some r → W p l e R s m args below meth c H1 locs1 0 0 Q (F0 m (pc + 3) ls rest)) : W p l e R s m args below meth c H locs 0 0 Q (F0 m pc ls (.int v :: .ref (G_m Γ 0) :: rest)) :=
  zm_put0 C hG k hk hs hfin hd0 rfl rfl hq hd (fun H1 locs1 h => kk _ H1 locs1 h hf)
theorem zm_pz {β : Type} {K : Unit → mN β} {r : β × zS} {v : Int32} (C : zCx Γ p R s m args meth c cc nL own ret fr lo) (hG : zR Γ A (some S) H locs) (k : Nat) {idx : Nat} (hf : nB (mV k v) K S = some r) (hk : k < 49) (hs : zsrt k = 0) (hfin : (TX7 k).2.2.2 = false) (hd0 : parseFieldDescriptor (TX7 k).2.2.1 = some .boolean) (hq : Cond.fieldLink own idx (TX7 k).1 (TX7 k).2.1 (TX7 k).2.2.1 ∈ lw_all) (hd : decode cc pc = .ok (.putfield idx, 3))
    (kk : ∀ (S1 : zS) (H1 : Heap) (locs1 : List Loc), zR Γ A (some S1) H1 locs1 → K () S1 = some r → W p l e R s m args below meth c H1 locs1 0 0 Q (F0 m (pc + 3) ls rest)) : W p l e R s m args below meth c H locs 0 0 Q (F0 m pc ls (.int v :: .ref (G_m Γ 0) :: rest)) := by
  obtain ⟨u, S1, h1, h2⟩ := nB_some hf
  obtain ⟨h3, rfl⟩ := mV_some h1
  exact zm_put0 C hG k hk hs hfin hd0 (z_nb h3) (by rcases h3 with rfl | rfl <;> decide +kernel) hq hd (fun H1 locs1 h => kk _ H1 locs1 h h2)
/-- an element of an int array -/
theorem zm_al {β : Type} {K : Int32 → mN β} {r : β × zS} {i : Int32} (C : zCx Γ p R s m args meth c cc nL own ret fr lo) (hG : zR Γ A (some S) H locs) (k : Nat) (hf : nB (mA k i) K S = some r) (hk : k < 49) (hs : zsrt k = 1) (hd : decode cc pc = .ok (.iaload, 1))
    (kk : ∀ v, K v S = some r → W p l e R s m args below meth c H locs 0 0 Q (F0 m (pc + 1) ls (.int v :: rest))) : W p l e R s m args below meth c H locs 0 0 Q (F0 m pc ls (.int i :: .ref (G_m Γ (k + 1)) :: rest)) := by
  obtain ⟨⟨hx, hb, hml, hown, hts⟩, hr, hlk, hK, -⟩ := C
  obtain ⟨v, S1, h1, h2⟩ := nB_some hf
  obtain ⟨hin, rfl, rfl⟩ := mA_some h1
  obtain ⟨⟨-, g2, -⟩, -⟩ := hG.1.2.1 _ rfl
  have hc := g2 k hk (by omega)
  have hlt : i.toNatClampNeg < zlen k := Nat.not_le.mp fun q => hin (Or.inr q)
  have hat : zat k = 0 := by simp [zat, hs]
  rw [hat] at hc
  exact W.iald (v := .int (S1.2 k i.toNatClampNeg)) hx hb hc ((hK.K.2 0 _ (zTY_at _ (by omega))).1 (zlen k) (fun j => .int (S1.2 k j))) (fun q => by cases q) (by show ¬ (i < 0 ∨ (arrV _ _ _).slots.size ≤ _); rw [arrV_size]; exact hin) (by show (arrV _ _ _).slots[_]? = _; rw [arrV_read _ _ hlt]) rfl rfl hd (kk _ h2)
theorem zm_az {β : Type} {K : Int32 → mN β} {r : β × zS} {i : Int32} (C : zCx Γ p R s m args meth c cc nL own ret fr lo) (hG : zR Γ A (some S) H locs) (k : Nat) (hf : nB (mA k i) K S = some r) (hk : k < 49) (hs : zsrt k = 2) (hd : decode cc pc = .ok (.baload, 1))
    (kk : ∀ v, K v S = some r → W p l e R s m args below meth c H locs 0 0 Q (F0 m (pc + 1) ls (.int v :: rest))) : W p l e R s m args below meth c H locs 0 0 Q (F0 m pc ls (.int i :: .ref (G_m Γ (k + 1)) :: rest)) := by
  obtain ⟨⟨hx, hb, hml, hown, hts⟩, hr, hlk, hK, -⟩ := C
  obtain ⟨v, S1, h1, h2⟩ := nB_some hf
  obtain ⟨hin, rfl, rfl⟩ := mA_some h1
  obtain ⟨⟨-, g2, -⟩, -⟩ := hG.1.2.1 _ rfl
  have hc := g2 k hk (by omega)
  have hlt : i.toNatClampNeg < zlen k := Nat.not_le.mp fun q => hin (Or.inr q)
  have hat : zat k = 2 := by simp [zat, hs]
  rw [hat] at hc
  exact W.zald (v := .int (S1.2 k i.toNatClampNeg)) hx hb hc ((hK.K.2 2 _ (zTY_at _ (by omega))).1 (zlen k) (fun j => .int (S1.2 k j))) (fun q => by cases q) (by show ¬ (i < 0 ∨ (arrV _ _ _).slots.size ≤ _); rw [arrV_size]; exact hin) (by show (arrV _ _ _).slots[_]? = _; rw [arrV_read _ _ hlt]) rfl rfl hd (kk _ h2)
theorem zm_upd {k i : Nat} {v : Int32} {H H1 : Heap} {locs : List Loc} (hG : zR Γ A (some S) H locs) (hk : k < 49) (hs : zsrt k ≠ 0) (e : H1[G_m Γ (k + 1)]? = some ((vp_cell (G_a Γ (zat k)) (zlen k, .inl (S.2 k))).setSlot i (.int v))) (z : H1.size = H.size) (o : ∀ q : Nat, q ≠ G_m Γ (k + 1) → H1[q]? = H[q]?) : zR Γ A (some (S.1, mU S.2 k i v)) H1 (locs ++ [⟨G_m Γ (k + 1), i⟩]) := by
  obtain ⟨⟨g1, g2, g3, g4⟩, g5⟩ := hG.1.2.1 S rfl
  have hz : zus (k + 1) := Or.inr ⟨k, rfl, hk, hs⟩
  have hz0 : zus 0 := Or.inl rfl
  refine zR.put hG.2 (hG.1.mset hz z o ?_ ?_) (g4 _ hz)
  · exact (g1.kept (o _ (fun e9 => by have := g3 0 (k + 1) hz0 hz e9; omega))).to (fun j hj => rfl)
  · intro j hj hsj
    by_cases hjk : j = k
    · subst hjk
      rw [e, vp_cell_i, vp_cell_i, arrV_store]
      congr 2
      funext q
      by_cases hq : q = i
      · subst hq; simp [updV, mU]
      · simp [updV, mU, hq]
    · rw [o _ (fun e9 => by have := g3 (j + 1) (k + 1) (Or.inr ⟨j, rfl, hj, hsj⟩) hz e9; omega)]
      have : mU S.2 k i v j = S.2 j := by funext q; simp [mU, hjk]
      rw [show (S.1, mU S.2 k i v).2 j = S.2 j from this]
      exact g2 j hj hsj
theorem zm_as {β : Type} {K : Unit → mN β} {r : β × zS} {i v : Int32} (C : zCx Γ p R s m args meth c cc nL own ret fr lo) (hG : zR Γ A (some S) H locs) (k : Nat) (hf : nB (mS k i v) K S = some r) (hk : k < 49) (hs : zsrt k = 1) (hd : decode cc pc = .ok (.iastore, 1))
    (kk : ∀ (S1 : zS) (H1 : Heap) (locs1 : List Loc), zR Γ A (some S1) H1 locs1 → K () S1 = some r → W p l e R s m args below meth c H1 locs1 0 0 Q (F0 m (pc + 1) ls rest)) : W p l e R s m args below meth c H locs 0 0 Q (F0 m pc ls (.int v :: .int i :: .ref (G_m Γ (k + 1)) :: rest)) := by
  obtain ⟨⟨hx, hb, hml, hown, hts⟩, hr, hlk, hK, -⟩ := C
  obtain ⟨u, S1, h1, h2⟩ := nB_some hf
  obtain ⟨hin, rfl⟩ := mS_some h1
  obtain ⟨⟨-, g2, -⟩, -⟩ := hG.1.2.1 _ rfl
  have hc := g2 k hk (by omega)
  have hat : zat k = 0 := by simp [zat, hs]
  rw [hat] at hc
  refine W.iast hx hb hc ((hK.K.2 0 _ (zTY_at _ (by omega))).1 (zlen k) (fun j => .int (S.2 k j))) (fun q => by cases q) (by show ¬ (i < 0 ∨ (arrV _ _ _).slots.size ≤ _); rw [arrV_size]; exact hin) rfl rfl hd fun H1 e z oq => ?_
  exact kk _ H1 _ (zm_upd hG hk (by omega) (by rw [hat]; exact e) z oq) h2
theorem zm_az2 {β : Type} {K : Unit → mN β} {r : β × zS} {i v : Int32} (C : zCx Γ p R s m args meth c cc nL own ret fr lo) (hG : zR Γ A (some S) H locs) (k : Nat) (hf : nB (mZ k i v) K S = some r) (hk : k < 49) (hs : zsrt k = 2) (hd : decode cc pc = .ok (.bastore, 1))
    (kk : ∀ (S1 : zS) (H1 : Heap) (locs1 : List Loc), zR Γ A (some S1) H1 locs1 → K () S1 = some r → W p l e R s m args below meth c H1 locs1 0 0 Q (F0 m (pc + 1) ls rest)) : W p l e R s m args below meth c H locs 0 0 Q (F0 m pc ls (.int v :: .int i :: .ref (G_m Γ (k + 1)) :: rest)) := by
  obtain ⟨⟨hx, hb, hml, hown, hts⟩, hr, hlk, hK, -⟩ := C
  obtain ⟨u, S1, h1, h2⟩ := nB_some hf
  obtain ⟨hin, hv, rfl⟩ := mZ_some h1
  obtain ⟨⟨-, g2, -⟩, -⟩ := hG.1.2.1 _ rfl
  have hc := g2 k hk (by omega)
  have hat : zat k = 2 := by simp [zat, hs]
  rw [hat] at hc
  refine W.zast hx hb hc ((hK.K.2 2 _ (zTY_at _ (by omega))).1 (zlen k) (fun j => .int (S.2 k j))) (fun q => by cases q) (by show ¬ (i < 0 ∨ (arrV _ _ _).slots.size ≤ _); rw [arrV_size]; exact hin) rfl rfl hd fun H1 e z oq => ?_
  rw [z_nb hv] at e
  exact kk _ H1 _ (zm_upd hG hk (by omega) (by rw [hat]; exact e) z oq) h2
/-- a computed number gets a name -/
theorem z_top {τ β : Type} {K : Int32 → zN τ β} {r : β × τ} {σ : τ} {x : Int32} {cells slots : Nat} (hf : nE x K σ = some r) (kk : ∀ v, K v σ = some r → W p l e R s m args below meth c H locs cells slots Q (F0 m pc ls (.int v :: rest))) : W p l e R s m args below meth c H locs cells slots Q (F0 m pc ls (.int x :: rest)) := kk x hf
theorem z_iinc {τ β : Type} {K : Int32 → zN τ β} {r : β × τ} {σ : τ} {x : Int32} {cells slots i k : Nat} {n : Int} {lv : List (Nat × Value)} (lv' : Int32 → List (Nat × Value)) (hx : p.tables.exec = Jvm.exec) (hb : c.code = cc) (hf : nE (x + zi n) K σ = some r) (hd : decode cc pc = .ok (.iinc i n, 3)) (hl : lv_has ls nL lv) (hk : lv[k]? = some (i, .int x)) (hn : i < nL) (he : ∀ v, (i, Value.int v) :: lv.filter (fun q => !(q.1 == i) && !(q.1 + 1 == i && q.2.category == 2)) = lv' v)
    (kk : ∀ (v : Int32) (ls' : Array Slot), K v σ = some r → lv_has ls' nL (lv' v) → W p l e R s m args below meth c H locs cells slots Q (F0 m (pc + 3) ls' rest)) : W p l e R s m args below meth c H locs cells slots Q (F0 m pc ls rest) :=
  lv_iinc (v := x + zi n) hx hb hd hl hk rfl hn (he _) (fun ls' hl' => kk _ ls' hf hl')
end MR
/-! a method's ends: the frame that is about to return -/
def zLi (cc : ByteArray) (m : MethodId) (v : Int32) (g : JFrame) : Prop := ∃ pc ls, g = F0 m pc ls [.int v] ∧ decode cc pc = .ok (.ireturn, 1)
def zLz (cc : ByteArray) (m : MethodId) (v : Int32) (g : JFrame) : Prop := ∃ pc ls, g = F0 m pc ls [.int v] ∧ decode cc pc = .ok (.ireturn, 1) ∧ (v = 0 ∨ v = 1)
def zLv (cc : ByteArray) (m : MethodId) (_ : Unit) (g : JFrame) : Prop := ∃ pc ls, g = F0 m pc ls [] ∧ decode cc pc = .ok (.return_, 1)
def zoi (v : Int32) : Option Value := some (.int v)
def zov (_ : Unit) : Option Value := none
/-- A CONTRACT of the model: whenever f answers, the method does, with the same answer and the state as f says -/
def mCt {α : Type} (Γ : zG) (l : Launch) (y : MethodName) (ws : List Cond) (fr lo : Nat) (vals : List Value) (f : mN α) (out : α → Option Value) : Prop :=
  ∀ (A : zA) (S S' : zS) (v : α), f S = some (v, S') → Met l y ws { frames := fr, cells := 0, slots := 0, locals := lo } (va_Pc vals (fun U => zRel Γ A (some S) U.heap ∧ zK Γ U)) (fun _ _ o t => o = .returned (out v) ∧ zRel Γ A (some S') t.heap) 0 0 (fun q => (G_H Γ).size ≤ q)
/-- a region of a method's code, from a frame g0 on: it does what f does, and comes to an end that L names -/
def mRg {β : Type} (Γ : zG) (l : Launch) (y : MethodName) (cc : ByteArray) (nL : Nat) (ret : Option FieldType) (fr lo : Nat) (f : mN β) (I : MethodId → JFrame → Prop) (L : MethodId → β → JFrame → Prop) : Prop :=
  ∀ (p : Program) (e : Env) (R : Room) (s : State) (m : MethodId) (args : Array Value) (below : List Frame) (meth : Method) (c : Code) (Q : State → Prop) (A : zA) (S : zS) (H : Heap) (locs : List Loc) (x : β) (S' : zS) (g : JFrame),
    zCx Γ p R s m args meth c cc nL y.cls ret fr lo → zR Γ A (some S) H locs → I m g → f S = some (x, S') →
    (∀ (H' : Heap) (locs' : List Loc) (g' : JFrame), L m x g' → zR Γ A (some S') H' locs' → W p l e R s m args below meth c H' locs' 0 0 Q g') → W p l e R s m args below meth c H locs 0 0 Q g
/-- the frame at pc with these locals and this stack -/
def zAt0 (nL pc : Nat) (lv : List (Nat × Value)) (st : List Value) (m : MethodId) (g : JFrame) : Prop := ∃ ls, g = F0 m pc ls st ∧ lv_has ls nL lv
theorem mCt.enter {α : Type} {Γ : zG} {l : Launch} {y : MethodName} {cc : ByteArray} {nL : Nat} {ret : Option FieldType} {fr lo : Nat} {vals : List Value} {f : mN α} {out : α → Option Value} {L : MethodId → α → JFrame → Prop} (hy : plainName y.cls = true) (hn : (lg_sl vals).length ≤ nL)
    (hend : ∀ (p : Program) (e : Env) (R : Room) (s : State) (m : MethodId) (args : Array Value) (below : List Frame) (meth : Method) (c : Code) (A : zA) (H : Heap) (locs : List Loc) (x : α) (S' : zS) (g : JFrame), zCx Γ p R s m args meth c cc nL y.cls ret fr lo → L m x g → zR Γ A (some S') H locs →
      W p l e R s m args below meth c H locs 0 0 (MQ below (fun _ _ o t => o = .returned (out x) ∧ zRel Γ A (some S') t.heap) args s 0 0 (fun q => (G_H Γ).size ≤ q)) g)
    (h : mRg Γ l y cc nL ret fr lo f (zAt0 nL 0 (lv_args 0 vals) []) L) : mCt Γ l y (ws_ y cc nL ret) fr lo vals f out := by
  intro A S S' v hf
  refine Met.ofW (cc := cc) (maxL := nL) (ret := ret) hy rfl ?_
  intro p e s m args below meth c s₁ B hml hv
  obtain ⟨rfl, hrel, hK⟩ := hv
  have hts := atoms_spec (ws := ws_ y cc nL ret) B.pre
  have hts : ∀ w ∈ lw_all, w.before _ s = true := fun w h => hts w (List.mem_cons_of_mem _ h)
  have C : zCx Γ p (headSpec (ws_ y cc nL ret) { frames := fr, cells := 0, slots := 0, locals := lo }).room s m vals.toArray meth c cc nL y.cls ret fr lo :=
    ⟨⟨B.exec, B.bytes, hml, findClass_of_methodNamed B.named, hts⟩, B.returns, B.notSynchronized, hK, Nat.le_refl _, Nat.le_refl _⟩
  rw [lg_entry_eq]
  exact h p e _ s m _ below meth c _ A S s.heap [] v S' _ C ⟨hrel, fun q hq => by cases hq⟩ ⟨_, rfl, lv_entry vals hn⟩ hf (fun H' locs' g' hL hG => hend p e _ s m _ below meth c A H' locs' v S' g' C hL hG)
theorem mCt.mki {Γ : zG} {l : Launch} {y : MethodName} {cc : ByteArray} {nL : Nat} {fr lo : Nat} {vals : List Value} {f : mN Int32} (hy : plainName y.cls = true) (hn : (lg_sl vals).length ≤ nL)
    (h : mRg Γ l y cc nL (some .int) fr lo f (zAt0 nL 0 (lv_args 0 vals) []) (zLi cc)) : mCt Γ l y (ws_ y cc nL (some .int)) fr lo vals f zoi := by
  refine mCt.enter hy hn ?_ h
  intro p e R s m args below meth c A H locs x S' g C hL hG
  obtain ⟨pc, ls, rfl, hd⟩ := hL
  exact W.iret C.1.1 C.1.2.1 C.2.1 (fun t ht hW => ⟨rfl, by rw [ht]; exact hG.1⟩) hG.2 hd C.2.2.1
theorem mCt.mkz {Γ : zG} {l : Launch} {y : MethodName} {cc : ByteArray} {nL : Nat} {fr lo : Nat} {vals : List Value} {f : mN Int32} (hy : plainName y.cls = true) (hn : (lg_sl vals).length ≤ nL)
    (h : mRg Γ l y cc nL (some .boolean) fr lo f (zAt0 nL 0 (lv_args 0 vals) []) (zLz cc)) : mCt Γ l y (ws_ y cc nL (some .boolean)) fr lo vals f zoi := by
  refine mCt.enter hy hn ?_ h
  intro p e R s m args below meth c A H locs x S' g C hL hG
  obtain ⟨pc, ls, rfl, hd, hx⟩ := hL
  exact W.zret C.1.1 C.1.2.1 C.2.1 (z_nb hx) (fun t ht hW => ⟨rfl, by rw [ht]; exact hG.1⟩) hG.2 hd C.2.2.1
theorem mCt.mkv {Γ : zG} {l : Launch} {y : MethodName} {cc : ByteArray} {nL : Nat} {fr lo : Nat} {vals : List Value} {f : mN Unit} (hy : plainName y.cls = true) (hn : (lg_sl vals).length ≤ nL)
    (h : mRg Γ l y cc nL none fr lo f (zAt0 nL 0 (lv_args 0 vals) []) (zLv cc)) : mCt Γ l y (ws_ y cc nL none) fr lo vals f zov := by
  refine mCt.enter hy hn ?_ h
  intro p e R s m args below meth c A H locs x S' g C hL hG
  obtain ⟨pc, ls, rfl, hd⟩ := hL
  exact W.vret C.1.1 C.1.2.1 C.2.1 (fun t ht hW => ⟨rfl, by rw [ht]; exact hG.1⟩) hG.2 hd C.2.2.1
/-- a loop's head and its ends -/
def zLE {σ ε : Type} (I : MethodId → σ → JFrame → Prop) (E : MethodId → ε → JFrame → Prop) (m : MethodId) (x : σ ⊕ ε) (g : JFrame) : Prop := match x with
  | .inl s => I m s g
  | .inr e => E m e g
theorem mRg.loop {σ ε : Type} {Γ : zG} {l : Launch} {y : MethodName} {cc : ByteArray} {nL : Nat} {ret : Option FieldType} {fr lo : Nat} {body : σ → mN (σ ⊕ ε)} {I : MethodId → σ → JFrame → Prop} {E : MethodId → ε → JFrame → Prop}
    (h : ∀ s, mRg Γ l y cc nL ret fr lo (body s) (fun m => I m s) (zLE I E)) (s : σ) : mRg Γ l y cc nL ret fr lo (nLp body s) (fun m => I m s) E := by
  intro p e R st m args below meth c Q A S H locs x S' g C hG hI hf kk
  obtain ⟨n, hn⟩ := nLp_iff.mp hf
  clear hf
  induction n generalizing s S H locs g with
  | zero => cases hn
  | succ n ih =>
    unfold nIt at hn
    cases hb : body s S with
    | none => rw [hb] at hn; cases hn
    | some q =>
      rw [hb] at hn
      obtain ⟨z, S1⟩ := q
      refine h s p e R st m args below meth c Q A S H locs z S1 g C hG hI hb (fun H' locs' g' hL hG' => ?_)
      cases z with
      | inl s' => exact ih s' S1 H' locs' g' hG' hL hn
      | inr e9 =>
        cases hn
        exact kk H' locs' g' hL hG'
section MCall
variable {Γ : zG} {p : Program} {l : Launch} {e : Env} {R : Room} {s : State} {m : MethodId} {args : Array Value} {below : List Frame} {meth : Method} {c : Code} {H : Heap} {locs : List Loc} {Q : State → Prop} {A : zA} {S : zS}
variable {cc bytes : ByteArray} {nL pc fr lo maxL n index fr1 lo1 : Nat} {ret ret1 : Option FieldType} {ls : Array Slot} {rest As : List Value} {y : MethodName}
theorem zm_back {α : Type} {out : α → Option Value} {v : α} {S1 : zS} {Qa : State → Outcome → State → Prop} (hQ : Qa = fun _ o t => o = .returned (out v) ∧ zRel Γ A (some S1) t.heap) {st0 : List Value} (hG : zR Γ A (some S) H locs)
    (hr : va_Run p l e R s m args below meth c H locs 0 0 0 0 (F0 m pc ls st0) rest Qa (fun q => (G_H Γ).size ≤ q))
    (kk : ∀ (H1 : Heap) (locs1 : List Loc), zR Γ A (some S1) H1 locs1 → W p l e R s m args below meth c H1 locs1 0 0 Q (F0 m (pc + 3) ls ((out v).toList ++ rest))) : W p l e R s m args below meth c H locs 0 0 Q (F0 m pc ls st0) := by
  subst hQ
  intro T hT X
  obtain ⟨v9, st₀, t, T', L, h0, X', hL, e1, e2, ⟨hv, hrel⟩, st⟩ := hr T hT X
  cases hv
  obtain ⟨t2, a1, b1⟩ := kk T'.heap (locs ++ L) ⟨by rw [e1]; exact hrel, fun q hq => by
    rcases List.mem_append.mp hq with h | h
    · exact hG.2 q h
    · exact hL q h⟩ T' rfl X'
  exact ⟨t2, st t2 a1, b1⟩
/-- a call of one of the model's own methods -/
theorem zm_cv {α β : Type} {f : mN α} {K : α → mN β} {r : β × zS} {out : α → Option Value} (C : zCx Γ p R s m args meth c cc nL RX7 ret fr lo) (hG : zR Γ A (some S) H locs) (hf : nB f K S = some r) (hM : mCt Γ l y (ws_ y bytes maxL ret1) fr1 lo1 (.ref (G_m Γ 0) :: As) f out) (hw : GoodIn lw_all (wsV RX7 index RX7 y (ws_ y bytes maxL ret1)))
    (hd0 : y.cls = RX7 ∧ y.cls ≠ "java/lang/invoke/MethodHandle" ∧ y.cls ≠ "java/lang/invoke/VarHandle" ∧ (parseMethodDescriptor y.desc).map (fun d => d.parameters.length) = some n) (hn : As.length = n) (hfr : fr1 + 1 ≤ fr) (hlo : 8 + (maxL + 11) + lo1 ≤ lo) (hl : ls.size = nL) (hst : (rest.map fun v => v.category).sum ≤ 8) (hd : decode cc pc = .ok (.invokevirtual index, 3))
    (kk : ∀ (v : α) (S1 : zS) (H1 : Heap) (locs1 : List Loc), zR Γ A (some S1) H1 locs1 → K v S1 = some r → W p l e R s m args below meth c H1 locs1 0 0 Q (F0 m (pc + 3) ls ((out v).toList ++ rest))) : W p l e R s m args below meth c H locs 0 0 Q (F0 m pc ls (As.reverse ++ .ref (G_m Γ 0) :: rest)) := by
  obtain ⟨v, S1, h1, h2⟩ := nB_some hf
  obtain ⟨C1, hr, hlk, hK, hR1, hR2⟩ := C
  obtain ⟨⟨⟨cell, q1, q2, q3, q4⟩, -⟩, -⟩ := hG.1.2.1 S rfl
  refine zm_back rfl hG (va_runV (C := RX7) (b := G_m Γ 0) (As := As) (rest := rest) (n := n) C1 (hM A S S1 v h1) (cwV n C1.2.2.2.2 hw rfl rfl rfl hd0 ⟨Nat.le_trans hfr hR1, Nat.le_trans hlo hR2⟩) ⟨fun a U g mk q => ⟨q.1, q.2.1, q.2.2⟩, ⟨cell, q1, by rw [q3]; rfl, by rw [q2]; exact (hK.K.1 7 _ rfl).2.1⟩, fun U hU hW => ⟨rfl, by rw [hU]; exact hG.1, hK.moved hW⟩⟩ rfl hn hl rfl (lv_room hst) hd ⟨Nat.zero_le _, Nat.zero_le _⟩) (fun H1 locs1 hG1 => kk v S1 H1 locs1 hG1 h2)
/-- a call of a static method of the model -/
theorem zm_cs {α β : Type} {f : mN α} {K : α → mN β} {r : β × zS} {out : α → Option Value} {own : String} (C : zCx Γ p R s m args meth c cc nL own ret fr lo) (hG : zR Γ A (some S) H locs) (hf : nB f K S = some r) (hM : mCt Γ l y (ws_ y bytes maxL ret1) fr1 lo1 As f out) (hw : GoodIn lw_all (wsS own index y (ws_ y bytes maxL ret1)))
    (hd0 : y.cls = own ∧ y.cls ≠ "java/lang/invoke/MethodHandle" ∧ y.cls ≠ "java/lang/invoke/VarHandle" ∧ (parseMethodDescriptor y.desc).map (fun d => d.parameters.length) = some n) (hn : As.length = n) (hfr : fr1 + 1 ≤ fr) (hlo : 8 + (maxL + 11) + lo1 ≤ lo) (hl : ls.size = nL) (hst : (rest.map fun v => v.category).sum ≤ 8) (hd : decode cc pc = .ok (.invokestatic index, 3))
    (kk : ∀ (v : α) (S1 : zS) (H1 : Heap) (locs1 : List Loc), zR Γ A (some S1) H1 locs1 → K v S1 = some r → W p l e R s m args below meth c H1 locs1 0 0 Q (F0 m (pc + 3) ls ((out v).toList ++ rest))) : W p l e R s m args below meth c H locs 0 0 Q (F0 m pc ls (As.reverse ++ rest)) := by
  obtain ⟨v, S1, h1, h2⟩ := nB_some hf
  obtain ⟨C1, hr, hlk, hK, hR1, hR2⟩ := C
  refine zm_back rfl hG (va_runS (As := As) (rest := rest) (n := n) C1 (hM A S S1 v h1) (cwS n C1.2.2.2.2 hw rfl rfl rfl hd0 ⟨Nat.le_trans hfr hR1, Nat.le_trans hlo hR2⟩) ⟨fun a U g mk q => ⟨q.1, q.2.1, q.2.2⟩, fun U hU hW => ⟨rfl, by rw [hU]; exact hG.1, hK.moved hW⟩⟩ rfl hn hl rfl (lv_room hst) hd ⟨Nat.zero_le _, Nat.zero_le _⟩) (fun H1 locs1 hG1 => kk v S1 H1 locs1 hG1 h2)
end MCall
section MCall2
variable {Γ : zG} {p : Program} {l : Launch} {e : Env} {R : Room} {s : State} {m : MethodId} {args : Array Value} {below : List Frame} {meth : Method} {c : Code} {H : Heap} {locs : List Loc} {Q : State → Prop} {A : zA} {S : zS}
variable {cc bytes : ByteArray} {nL pc fr lo maxL n index fr1 lo1 : Nat} {ret ret1 : Option FieldType} {ls : Array Slot} {rest As st0 : List Value} {y : MethodName}
theorem zm_cvi {β : Type} {f : mN Int32} {K : Int32 → mN β} {r : β × zS} (C : zCx Γ p R s m args meth c cc nL RX7 ret fr lo) (hG : zR Γ A (some S) H locs) (hf : nB f K S = some r) (hM : mCt Γ l y (ws_ y bytes maxL ret1) fr1 lo1 (.ref (G_m Γ 0) :: As) f zoi) (hw : GoodIn lw_all (wsV RX7 index RX7 y (ws_ y bytes maxL ret1)))
    (hd0 : y.cls = RX7 ∧ y.cls ≠ "java/lang/invoke/MethodHandle" ∧ y.cls ≠ "java/lang/invoke/VarHandle" ∧ (parseMethodDescriptor y.desc).map (fun d => d.parameters.length) = some n) (hn : As.length = n) (hs0 : st0 = As.reverse ++ .ref (G_m Γ 0) :: rest) (hfr : fr1 + 1 ≤ fr) (hlo : 8 + (maxL + 11) + lo1 ≤ lo) (hl : ls.size = nL) (hst : (rest.map fun v => v.category).sum ≤ 8) (hd : decode cc pc = .ok (.invokevirtual index, 3))
    (kk : ∀ (v : Int32) (S1 : zS) (H1 : Heap) (locs1 : List Loc), zR Γ A (some S1) H1 locs1 → K v S1 = some r → W p l e R s m args below meth c H1 locs1 0 0 Q (F0 m (pc + 3) ls (.int v :: rest))) : W p l e R s m args below meth c H locs 0 0 Q (F0 m pc ls st0) := by
  subst hs0
  exact zm_cv C hG hf hM hw hd0 hn hfr hlo hl hst hd kk
theorem zm_cvv {β : Type} {f : mN Unit} {K : Unit → mN β} {r : β × zS} (C : zCx Γ p R s m args meth c cc nL RX7 ret fr lo) (hG : zR Γ A (some S) H locs) (hf : nB f K S = some r) (hM : mCt Γ l y (ws_ y bytes maxL ret1) fr1 lo1 (.ref (G_m Γ 0) :: As) f zov) (hw : GoodIn lw_all (wsV RX7 index RX7 y (ws_ y bytes maxL ret1)))
    (hd0 : y.cls = RX7 ∧ y.cls ≠ "java/lang/invoke/MethodHandle" ∧ y.cls ≠ "java/lang/invoke/VarHandle" ∧ (parseMethodDescriptor y.desc).map (fun d => d.parameters.length) = some n) (hn : As.length = n) (hs0 : st0 = As.reverse ++ .ref (G_m Γ 0) :: rest) (hfr : fr1 + 1 ≤ fr) (hlo : 8 + (maxL + 11) + lo1 ≤ lo) (hl : ls.size = nL) (hst : (rest.map fun v => v.category).sum ≤ 8) (hd : decode cc pc = .ok (.invokevirtual index, 3))
    (kk : ∀ (S1 : zS) (H1 : Heap) (locs1 : List Loc), zR Γ A (some S1) H1 locs1 → K () S1 = some r → W p l e R s m args below meth c H1 locs1 0 0 Q (F0 m (pc + 3) ls rest)) : W p l e R s m args below meth c H locs 0 0 Q (F0 m pc ls st0) := by
  subst hs0
  exact zm_cv C hG hf hM hw hd0 hn hfr hlo hl hst hd (fun v S1 H1 locs1 h1 h2 => kk S1 H1 locs1 h1 h2)
theorem zm_csi {β : Type} {f : mN Int32} {K : Int32 → mN β} {r : β × zS} {own : String} (C : zCx Γ p R s m args meth c cc nL own ret fr lo) (hG : zR Γ A (some S) H locs) (hf : nB f K S = some r) (hM : mCt Γ l y (ws_ y bytes maxL ret1) fr1 lo1 As f zoi) (hw : GoodIn lw_all (wsS own index y (ws_ y bytes maxL ret1)))
    (hd0 : y.cls = own ∧ y.cls ≠ "java/lang/invoke/MethodHandle" ∧ y.cls ≠ "java/lang/invoke/VarHandle" ∧ (parseMethodDescriptor y.desc).map (fun d => d.parameters.length) = some n) (hn : As.length = n) (hs0 : st0 = As.reverse ++ rest) (hfr : fr1 + 1 ≤ fr) (hlo : 8 + (maxL + 11) + lo1 ≤ lo) (hl : ls.size = nL) (hst : (rest.map fun v => v.category).sum ≤ 8) (hd : decode cc pc = .ok (.invokestatic index, 3))
    (kk : ∀ (v : Int32) (S1 : zS) (H1 : Heap) (locs1 : List Loc), zR Γ A (some S1) H1 locs1 → K v S1 = some r → W p l e R s m args below meth c H1 locs1 0 0 Q (F0 m (pc + 3) ls (.int v :: rest))) : W p l e R s m args below meth c H locs 0 0 Q (F0 m pc ls st0) := by
  subst hs0
  exact zm_cs C hG hf hM hw hd0 hn hfr hlo hl hst hd kk
theorem z_topl {τ β : Type} {K : Int64 → zN τ β} {r : β × τ} {σ : τ} {x : Int64} {cells slots : Nat} (hf : nE x K σ = some r) (kk : ∀ v, K v σ = some r → W p l e R s m args below meth c H locs cells slots Q (F0 m pc ls (.long v :: rest))) : W p l e R s m args below meth c H locs cells slots Q (F0 m pc ls (.long x :: rest)) := kk x hf
end MCall2
theorem z_tab {x : Int32} {lo hi : Int} (h : ∀ k : Int, lo ≤ k → k ≤ hi → ¬ x = zi k) : x.toInt < lo ∨ hi < x.toInt := by
  rcases Int.lt_or_le x.toInt lo with h1 | h1
  · exact Or.inl h1
  · rcases Int.lt_or_le hi x.toInt with h2 | h2
    · exact Or.inr h2
    · exact absurd (Int32.ofInt_toInt x).symm (h x.toInt h1 h2)
theorem z_ne {x : Int32} {k : Int} (h : ¬ x = zi k) : ¬ x.toInt = k := fun e => h (by rw [← e]; exact (Int32.ofInt_toInt x).symm)
theorem z_en {x : Int32} {k : Int} (h : ¬ x = zi k) : ¬ k = x.toInt := fun e => z_ne h e.symm
