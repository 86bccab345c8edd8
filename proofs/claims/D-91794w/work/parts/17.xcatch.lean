set_option maxRecDepth 100000
/-! STAGE 1, a Wrong caught; methods with a handler -/
/-- the one entry of a method's table -/
def zH1 (a b h t : Nat) : ExceptionTableEntry := { startPc := a, endPc := b, handlerPc := h, catchType := t }
theorem z_find {Qh : Handler → Pre} {E : CtlPost} {e : Env} {d : Bool} {acts : List Action} {U : State} {f : JFrame} {x : Nat} {ent : ExceptionTableEntry} {cid : ClassId} {cell : Cell} (hcov : covers ent f.pc = true) (h0 : ent.catchType ≠ 0)
    (hl : U.vm.ClassLinks e.platform f.method.cls ent.catchType cid) (hcell : U.heap[x]? = some cell) (hv : ∀ k, cell.vm ≠ .statics k) {k1 k2 : Class} (hk1 : (U.vm.noted f.method.cls ent.catchType (.cls cid)).classes[cell.cls]? = some k1) (hk2 : (U.vm.noted f.method.cls ent.catchType (.cls cid)).classes[cid]? = some k2)
    (has : (U.vm.noted f.method.cls ent.catchType (.cls cid)).assignable cell.cls cid = true) :
    wp (findHandler.go f x [ent]) Qh E e d acts U ↔ Qh (.found ent.handlerPc) d acts (U.setVm (U.vm.noted f.method.cls ent.catchType (.cls cid))) := by
  simp only [covers] at hcov
  obtain ⟨ha, hb⟩ := (resolveClass_links e.toSetting hl).op (op := VmOp.resolveClass f.method.cls ent.catchType) rfl
  simp [findHandler.go, hcov, h0, ha, hb, hcell, hv, hk1, hk2, has, VmOp.dirties, VmOp.acts]
section XH
variable {Γ : zG} {p : Program} {l : Launch} {e : Env} {R : Room} {s : State} {m : MethodId} {args : Array Value} {below : List Frame} {meth : Method} {c : Code} {H : Heap} {locs : List Loc} {cells slots : Nat} {Q : State → Prop} {A0 A : zA} {So : Option zS}
variable {cc bytes : ByteArray} {nL pc fr lo maxL n index fr1 lo1 : Nat} {own nm : String} {ret ret1 : Option FieldType} {ls : Array Slot} {rest As st0 : List Value} {y : MethodName}
theorem zx_catch {x a b h t : Nat} (hH : c.exceptionTable.toList = [zH1 a b h t]) (C : xCx Γ p R s m args meth c cc nL own ret fr lo nm A0) (hG : xR Γ A0 A So H locs) (hkd : A_kd A x = 12 + 1) (hcov : covers (zH1 a b h t) pc = true) (ht : t ≠ 0) (hq : Cond.classLink own t RX12 ∈ lw_all)
    (kk : W p l e R s m args below meth c H locs cells slots Q (F0 m h ls [.ref x])) : WT p l e R s m args below meth c H locs cells slots Q (F0 m pc ls rest) x := by
  obtain ⟨⟨hx, hb, hml, hown, hts⟩, -, -, hK, -⟩ := C
  obtain ⟨cell, c1, c2, c3, -⟩ := hG.1.1.1.2.2.2.1 x hkd
  have hc12 : zCL[12]? = some (RX12, TX12, 7) := rfl
  have hcls := (hK.K.1 12 _ hc12).2
  intro T hT X
  have hpl : e.platform.magicAccessors = ({} : Platform).magicAccessors := by rw [X.admits.platform]
  obtain ⟨cT, hcT, hlk⟩ := Cond.classLink_spec hown (hts _ hq) e.platform hpl
  cases hcls.1.symm.trans hcT
  obtain ⟨dk, _, _, _, hdk, _, _, _, _, _, _, hop⟩ := hlk.here
  have hlkT := X.warmed.classLinks hlk
  have hW' : s.WarmedH (T.vm.noted m.cls t (.cls ((G_D Γ).1 12))) := X.warmed.noted hdk hop (State.rightAt_cls hlk)
  have X' := X.noted hW'
  obtain ⟨t9, b1, b2⟩ := kk (T.setVm (T.vm.noted m.cls t (.cls ((G_D Γ).1 12)))) hT X'
  refine ⟨t9, ?_, b2⟩
  obtain ⟨hgo, hw⟩ := X.here.throwing (g := F0 m pc ls rest) x
  have hcell : ((T.setTop (F0 m pc ls rest)).pushFrame (.throwing x)).heap[x]? = some cell := by
    show T.heap[x]? = _
    rw [hT]; exact c1
  have hnew : (T.vm.noted m.cls t (.cls ((G_D Γ).1 12))).assignable cell.cls ((G_D Γ).1 12) = true := by
    rw [hW'.alike.assignable, c2]; exact va_assign hcls
  obtain ⟨kC, hkC, -⟩ := hcls.2
  obtain ⟨kC', hkC', -⟩ := hW'.alike.2.2 _ _ hkC
  have hfind : ∀ (Qh : Handler → Pre) (E : CtlPost) (d : Bool) (acts : List Action), wp (findHandler (F0 m pc ls rest) x) Qh E e d acts ((T.setTop (F0 m pc ls rest)).pushFrame (.throwing x)) ↔ Qh (.found h) d acts (((T.setTop (F0 m pc ls rest)).pushFrame (.throwing x)).setVm (T.vm.noted m.cls t (.cls ((G_D Γ).1 12)))) := by
    intro Qh E d acts
    refine (W.findHandler_eq (s := (T.setTop (F0 m pc ls rest)).pushFrame (.throwing x)) (f := F0 m pc ls rest) (meth := meth) (code := c) X.method' X.code).trans ?_
    rw [hH]
    exact z_find (f := F0 m pc ls rest) (ent := zH1 a b h t) (cell := cell) (cid := (G_D Γ).1 12) hcov ht hlkT hcell (fun k e9 => by rw [c3] at e9; cases e9) (k1 := kC') (k2 := kC') (by rw [c2]; exact hkC') hkC' hnew
  refine Steps.head hgo hw ?_
  rw [stepThread_throwing (frames_entered X.here.top _)]
  obtain ⟨g₀, hg⟩ := Option.isSome_iff_exists.mp X.here.top
  obtain ⟨r, hr⟩ := State.topJava?_eq_some.mp hg
  have hstep : ∀ rr : List Frame, (stepThrowing e ((T.setTop (F0 m pc ls rest)).pushFrame (.throwing x)) x (.java (F0 m pc ls rest) :: rr)).Is ((((T.setTop (F0 m pc ls rest)).pushFrame (.throwing x)).setVm (T.vm.noted m.cls t (.cls ((G_D Γ).1 12)))).setFrames (.java { F0 m pc ls rest with pc := h, stack := [.ref x] } :: rr)) [] := by
    intro rr
    simp only [stepThrowing, searchFrame, vmDo]
    generalize hres : Sem.go _ e false [] _ = res
    obtain ⟨as, rfl, has⟩ := Sem.eq_ok_of hres (a := Handler.found h) (s' := ((T.setTop (F0 m pc ls rest)).pushFrame (.throwing x)).setVm (T.vm.noted m.cls t (.cls ((G_D Γ).1 12)))) (acts' := []) (by simp [hfind _ _ _ _])
    exact ⟨rfl, has⟩
  rw [(hstep _).1]
  have hr' : (T.setVm (T.vm.noted m.cls t (.cls ((G_D Γ).1 12)))).frames = .java g₀ :: r := hr
  rw [State.setTop_of_frames _ hr'] at b1
  have key : ∀ (F G : List Frame), ((T.setFrames F).setVm (T.vm.noted m.cls t (.cls ((G_D Γ).1 12)))).setFrames G = (T.setVm (T.vm.noted m.cls t (.cls ((G_D Γ).1 12)))).setFrames G := by
    intro F G
    rw [show (T.setFrames F).setVm (T.vm.noted m.cls t (.cls ((G_D Γ).1 12))) = (T.setVm (T.vm.noted m.cls t (.cls ((G_D Γ).1 12)))).setFrames F from rfl, State.setFrames_setFrames]
  rw [hr, List.tail_cons, State.pushFrame, State.setTop_of_frames _ hr, State.setFrames_setFrames, key]
  exact b1
end XH
