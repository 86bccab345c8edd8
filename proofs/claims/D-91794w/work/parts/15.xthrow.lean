set_option maxRecDepth 100000
/-! STAGE 1, Wrong: made, thrown, caught -/
def A_sln (A : zA) (a n : Nat) : zA := (A.1, A.2.1, A.2.2.1, va_up A.2.2.2.1 a n, A.2.2.2.2)
/-- Exception's constructor on a Wrong that is as it was made; Wrong's field -/
def wX (a : Nat) : xN Unit := fun A => if A_kd A a = 13 ∧ A_ln A a = 7 then some ((), A_sln A a 0) else none
def wP (a : Nat) (v : Int32) : xN Unit := fun A => if A_kd A a = 13 ∧ A_ln A a = 0 then some ((), A_sfi A 1206 a v) else none
def wG (a : Nat) : xN Int32 := fun A => if A_kd A a = 13 then some (A_fi A 1206 a, A) else none
theorem zC.wrong {Γ : zG} {A : zA} {H : Heap} {a : Nat} (hk : A_kd A a = 13) (h : ∃ cell : Cell, H[a]? = some cell ∧ cell.cls = (G_D Γ).1 12 ∧ cell.vm = .none ∧ cell.slots[(G_D Γ).2 12 6]? = some (.int (A_fi A 1206 a)) ∧ (A_ln A a = 7 → ∃ kX : Class, (G_0 Γ).vm.classes[(G_D Γ).1 12]? = some kX ∧ cell = { cls := (G_D Γ).1 12, slots := kX.instanceTypes.map defaultValue, vm := .none })) : zC Γ A H a :=
  ⟨fun ci q e1 e2 e3 => absurd (show ci = 12 by omega) e2, fun _ => h, fun t e1 => by omega⟩
theorem zK.cls12 {Γ : zG} {s : State} (hK : zK Γ s) {kX : Class} (h : (G_0 Γ).vm.classes[(G_D Γ).1 12]? = some kX) : ∃ kC : Class, s.vm.classes[(G_D Γ).1 12]? = some kC ∧ kC.instanceTypes = kX.instanceTypes := by
  obtain ⟨k', h1, h2⟩ := hK.2.alike.2.2 _ _ h
  exact ⟨k', h1, by rw [h2]⟩
theorem zLinks {T : ThrowableC} {pl : Platform} {s s' : State} (h : s'.vm = s.vm) (L : T.Links pl s') : T.Links pl s := by
  cases s
  cases s'
  dsimp only at h
  subst h
  exact {owns := L.owns, noFinalization := L.noFinalization, cls := L.cls, name := L.name, boot := L.boot, notInterface := L.notInterface, initialized := L.initialized, statics := L.statics, fillAt := L.fillAt, fillCode := L.fillCode, fillBytes := L.fillBytes, fillLocals := L.fillLocals, fillLocks := L.fillLocks, fillStatic := L.fillStatic, fillAbstract := L.fillAbstract, fillReturns := L.fillReturns, fillParams := L.fillParams, fill0At := L.fill0At, fill0Name := L.fill0Name, fill0Desc := L.fill0Desc, fill0Params := L.fill0Params, fill0Static := L.fill0Static, fill0Native := L.fill0Native, fill0Code := L.fill0Code, fill0Locks := L.fill0Locks, fill0Abstract := L.fill0Abstract, stackInstance := L.stackInstance, stackNotFinal := L.stackNotFinal, unassignedStatic := L.unassignedStatic, objClass := L.objClass, objClassName := L.objClassName, objMethod := L.objMethod, objName := L.objName, objStatic := L.objStatic, objAbstract := L.objAbstract, objFound := L.objFound, objParams := L.objParams, objCode := L.objCode, objBytes := L.objBytes, objLocks := L.objLocks, causeInstance := L.causeInstance, causeNotFinal := L.causeNotFinal, sentinelStatic := L.sentinelStatic, suppInstance := L.suppInstance, suppNotFinal := L.suppNotFinal, msgInstance := L.msgInstance, msgNotFinal := L.msgNotFinal, stackApartSupp := L.stackApartSupp, file := L.file, mlink1 := L.mlink1, mright1 := L.mright1, pool1 := L.pool1, mlink27 := L.mlink27, mright27 := L.mright27, pool27 := L.pool27, mlink202 := L.mlink202, mright202 := L.mright202, pool202 := L.pool202, link7 := L.link7, right7 := L.right7, at7 := L.at7, link13 := L.link13, right13 := L.right13, at13 := L.at13, link17 := L.link17, right17 := L.right17, at17 := L.at17, link20 := L.link20, right20 := L.right20, at20 := L.at20, link24 := L.link24, right24 := L.right24, at24 := L.at24 }
section XW
variable {Γ : zG} {p : Program} {l : Launch} {e : Env} {R : Room} {s : State} {m : MethodId} {args : Array Value} {below : List Frame} {meth : Method} {c : Code} {H : Heap} {locs : List Loc} {cells slots : Nat} {Q : State → Prop} {A0 A : zA} {So : Option zS}
variable {cc bytes : ByteArray} {nL pc fr lo maxL n index fr1 lo1 : Nat} {own nm : String} {ret ret1 : Option FieldType} {ls : Array Slot} {rest As st0 : List Value} {y : MethodName}
theorem zx_newW {β : Type} {K : Nat → xN β} {r : β × zA} {idx : Nat} (C : xCx Γ p R s m args meth c cc nL own ret fr lo nm A0) (hG : xR Γ A0 A So H locs) (hf : nB (nO 13 7) K A = some r) (hq : Cond.classLink own idx RX12 ∈ lw_all) (hi : Cond.instantiable RX12 7 ∈ lw_all) (hini : Cond.initialized RX12 ∈ lw_all) (hd : decode cc pc = .ok (.new idx, 3))
    (kk : ∀ (a : Nat) (A : zA) (H1 : Heap), xR Γ A0 A So H1 locs → K a A = some r → W p l e R s m args below meth c H1 locs (A_nc A - A_nc A0) (A_us A - A_us A0) Q (F0 m (pc + 3) ls (.ref a :: rest))) : W p l e R s m args below meth c H locs (A_nc A - A_nc A0) (A_us A - A_us A0) Q (F0 m pc ls rest) := by
  obtain ⟨⟨hx, hb, hml, hown, hts⟩, hr, hlk, hK, -, -, hRc, hRs, -⟩ := C
  obtain ⟨a9, A1, h1, h2⟩ := nB_some hf
  obtain ⟨hok, h4⟩ := z_if h1
  cases h4
  have g2 := hG.2.1
  have g3 := hG.2.2.1
  have hc : zCL[12]? = some (RX12, TX12, 7) := rfl
  have hKn := hK.K.1 12 _ hc
  obtain ⟨k0, hk0, -⟩ := (hK.1.1.1 12 _ hc).2.2
  obtain ⟨kC2, hkC2, hity⟩ := hK.cls12 hk0
  refine W.newcK hx hb hown (hts _ hq) (hts _ hi) (hts _ hini) rfl hd (by omega) (by omega) hKn.2.1 rfl fun H1 kC hkC e1 z1 o1 => ?_
  cases hkC2.symm.trans hkC
  have e0 : A_bs A + A.1 = H.size := by rw [hG.1.1.1.1, hG.1.1.1.2.2.2.2.2.2.1]; rfl
  have hkd : A_kd (A_new A 13 7) H.size = 13 := by
    show va_up _ _ _ H.size = _
    rw [e0]; simp [va_up]
  have hfi : A_fi (A_new A 13 7) 1206 H.size = 0 := by
    show va_up _ _ _ H.size = _
    rw [e0]; simp [va_up]
  obtain ⟨cell, t1, t2, t3, t4⟩ := u_born (N := 7) tyX12 hts in_X12 hKn hkC e1 tyX12_ok
  obtain ⟨hG1, ha⟩ := hG.new hok z1 o1 (zC.wrong hkd ⟨cell, t1, t2, t3, by rw [hfi]; exact t4 6 (by omega), fun _ => ⟨k0, hk0, by
    have := e1.symm.trans t1
    rw [← Option.some.inj this]
    unfold blank
    rw [hity]⟩⟩)
  have h3 := kk _ _ H1 hG1 h2
  rw [ha] at h3
  refine W.cs ?_ ?_ h3
  · show _ = A_nc A + 1 - A_nc A0; omega
  · show _ = A_us A + 7 - A_us A0; omega
theorem zx_wG {β : Type} {K : Int32 → xN β} {r : β × zA} {a : Nat} (C : xCx Γ p R s m args meth c cc nL own ret fr lo nm A0) (hG : xR Γ A0 A So H locs) (hf : nB (wG a) K A = some r) (hq : Cond.fieldLink own index RX12 "place" "I" ∈ lw_all) (hd : decode cc pc = .ok (.getfield index, 3))
    (kk : ∀ v, K v A = some r → W p l e R s m args below meth c H locs cells slots Q (F0 m (pc + 3) ls (.int v :: rest))) : W p l e R s m args below meth c H locs cells slots Q (F0 m pc ls (.ref a :: rest)) := by
  obtain ⟨⟨hx, hb, hml, hown, hts⟩, -, -, hK, -⟩ := C
  obtain ⟨v, A1, h1, h2⟩ := nB_some hf
  obtain ⟨hkd, h4⟩ := z_if h1
  cases h4
  obtain ⟨cell, q1, q2, q3, q4, -⟩ := hG.1.1.1.2.2.2.1 a hkd
  have hc : zCL[12]? = some (RX12, TX12, 7) := rfl
  obtain ⟨hS, hfc, kC, hkC, hkind⟩ := hK.K.1 12 _ hc
  obtain ⟨cf, kf, fi, f, hi, hsl⟩ := hS 6 (by show 6 < 7; omega)
  refine W.getf hx hb hown (hts _ hq) hi (u_facts hfc hkC (u_lays (N := 7) hts in_X12 (by omega)) hi).1 q1 (by rw [q3]; exact fun h => by cases h) (v := .int (A_fi A 1206 a)) ?_ rfl rfl hd (kk _ h2)
  rw [hsl]; exact q4
theorem zx_wP {β : Type} {K : Unit → xN β} {r : β × zA} {a : Nat} {v : Int32} (C : xCx Γ p R s m args meth c cc nL RX12 ret fr lo nm A0) (hG : xR Γ A0 A So H locs) (hf : nB (wP a v) K A = some r) (hnm : nm = "<init>") (hq : Cond.fieldLink RX12 index RX12 "place" "I" ∈ lw_all) (hd : decode cc pc = .ok (.putfield index, 3))
    (kk : ∀ (A : zA) (H1 : Heap) (locs1 : List Loc), xR Γ A0 A So H1 locs1 → K () A = some r → W p l e R s m args below meth c H1 locs1 (A_nc A - A_nc A0) (A_us A - A_us A0) Q (F0 m (pc + 3) ls rest)) : W p l e R s m args below meth c H locs (A_nc A - A_nc A0) (A_us A - A_us A0) Q (F0 m pc ls (.int v :: .ref a :: rest)) := by
  obtain ⟨⟨hx, hb, hml, hown, hts⟩, -, -, hK, -, -, -, -, hnm0⟩ := C
  obtain ⟨u, A1, h1, h2⟩ := nB_some hf
  obtain ⟨⟨hkd, hln⟩, h4⟩ := z_if h1
  cases h4
  obtain ⟨cell, q1, q2, q3, q4, -⟩ := hG.1.1.1.2.2.2.1 a hkd
  have hc : zCL[12]? = some (RX12, TX12, 7) := rfl
  obtain ⟨hS, hfc, kC, hkC, hkind⟩ := hK.K.1 12 _ hc
  obtain ⟨cf, kf, fi, f, hi, hsl⟩ := hS 6 (by show 6 < 7; omega)
  have hst := (u_facts hfc hkC (u_lays (N := 7) hts in_X12 (k := 6) (by omega)) hi).1
  have hlay := hts _ (in_X12 _ (u_in_lay (k := 6) (by omega)))
  have hlay2 : (Cond.laysFinal RX12 RX12 "place" "I").before args s = true := hlay
  have hcf : m.cls = cf := by
    obtain ⟨_, _, c', _, _, _, -, -, hf', -, -, -, hown2, -⟩ := Cond.laysFinal_spec hlay2
    have e1 : c' = cf := by have := hi.symm.trans hf'; simp at this; exact this.1.symm
    rw [← e1]; exact Option.some.inj (hown.symm.trans hown2)
  have h6 := u_fits (v := .int v) (ty := .int) hfc hkC hkind (Or.inr hlay2) hi (by decide +kernel) rfl rfl
  have ho := zOther.fi A 1206 a v
  exact W.putFinK hx hb hown (hts _ hq) hi hst hcf (hnm0.trans hnm) (by rw [q2]; exact h6) q1 q3 (by rw [hsl]; exact k2_hasslot q4) rfl rfl hd fun H1 e1 e2 e3 => (kk _ H1 _ (ho.xr (i := f.slot) hG (by omega) e2 e3 (zC.wrong (by rw [ho.1]; exact hkd) ⟨_, e1, q2, q3, by
    show (cell.slots.setIfInBounds f.slot (.int v))[(G_D Γ).2 12 6]? = _
    rw [hsl, Array.getElem?_setIfInBounds]
    have hlt := (Array.getElem?_eq_some_iff.mp q4).1
    simp [hlt]
    show v = xu _ _ _ _ 1206 a
    simp [xu], fun e9 => by rw [ho.2.2.2.2.2.1] at e9; omega⟩)) h2 :)
end XW
