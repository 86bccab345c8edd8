set_option maxRecDepth 100000
/-! STAGE 1, Exception's constructor; athrow; catch -/
theorem z_atoms {Γ : zG} {s : State} {args : Array Value} (hK : zK Γ s) (hts : ∀ w ∈ lw_all, w.before args s = true) : ∀ w ∈ Bundle.throwableAtoms, w.before args ((G_0 Γ).setVm s.vm) = true := by
  have hW : s.WarmedH ((G_0 Γ).setVm s.vm).vm := State.WarmedH.refl s
  intro w hw
  simp only [Bundle.throwableAtoms, List.mem_cons, List.not_mem_nil, or_false] at hw
  rcases hw with rfl | rfl | rfl | rfl | rfl | rfl | rfl | rfl | rfl | rfl | rfl | rfl | rfl | rfl | rfl | rfl | rfl | rfl | rfl | rfl | rfl | rfl | rfl | rfl
  · exact word_at hW (Or.inl rfl) (hts _ q117)
  · exact word_at hW (Or.inl rfl) (hts _ q727)
  · exact word_at hW (Or.inl rfl) (hts _ q736)
  · exact word_at hW (Or.inl rfl) (hts _ q738)
  · exact word_at hW (Or.inl rfl) (hts _ q741)
  · exact word_at hW (Or.inl rfl) (hts _ q743)
  · exact word_at hW (Or.inl rfl) (hts _ q728)
  · exact word_at hW (Or.inl rfl) (hts _ q729)
  · exact word_at hW (Or.inl rfl) (hts _ q135)
  · exact word_at hW (Or.inl rfl) (hts _ q136)
  · exact word_at hW (Or.inl rfl) (hts _ q730)
  · exact word_at hW (Or.inl rfl) (hts _ q735)
  · exact word_at hW (Or.inl rfl) (hts _ q739)
  · exact word_at hW (Or.inl rfl) (hts _ q754)
  · exact word_at hW (Or.inl rfl) (hts _ q717)
  · exact word_at hW (Or.inl rfl) (hts _ q755)
  · exact word_at hW (Or.inl rfl) (hts _ q719)
  · exact word_at hW (Or.inl rfl) (hts _ q756)
  · exact word_at hW (Or.inl rfl) (hts _ q721)
  · exact word_at hW (Or.inl rfl) (hts _ q731)
  · exact Cond.laysStatic_setVm hK.2.alike (hK.1.2.1 _ q732)
  · exact word_at hW (Or.inl rfl) (hts _ q733)
  · exact Cond.laysStatic_setVm hK.2.alike (hK.1.2.1 _ q734)
  · exact word_at hW (Or.inl rfl) (hts _ q723)
theorem w117 : (Jvm.Cond.initialized "java/lang/Throwable") ∈ lw_tbl := lw_at lw_m1 18 rfl
/-- what Throwable's two statics hold -/
theorem zst_t {Γ : zG} (h : zOK Γ) : ∃ u0 sen : RefV, va_Z "java/lang/Throwable" "UNASSIGNED_STACK" "[Ljava/lang/StackTraceElement;" u0.v (zAp Γ) (G_0 Γ) (G_H Γ) ∧ va_Z "java/lang/Throwable" "SUPPRESSED_SENTINEL" "Ljava/util/List;" sen.v (zAp Γ) (G_0 Γ) (G_H Γ) := by
  have hs := flat_of_before _ h.2.2.1
  have hA : ∀ a : Nat, a < (G_0 Γ).heap.size → ¬ zAp Γ a := fun a ha hn => by unfold zAp G_H at hn; omega
  have key : ∀ {C n d : String}, va_Zq C n d (zAp Γ) (G_0 Γ) (G_H Γ) → ∃ u : RefV, va_Z C n d u.v (zAp Γ) (G_0 Γ) (G_H Γ) := by
    intro C n d h
    rcases h with h | ⟨t, h⟩
    · exact ⟨⟨.null, rfl⟩, h⟩
    · exact ⟨⟨.ref t, rfl⟩, h⟩
  obtain ⟨u0, h1⟩ := key (va_Zqof (args := #[Value.ref (G_b Γ)]) (h.2.1 _ q732) (h.2.1 _ w117) (hs _ (by decide +kernel)) hA)
  obtain ⟨sen, h2⟩ := key (va_Zqof (args := #[Value.ref (G_b Γ)]) (h.2.1 _ q734) (h.2.1 _ w117) (hs _ (by decide +kernel)) hA)
  exact ⟨u0, sen, h1, h2⟩
section XW2
variable {Γ : zG} {p : Program} {l : Launch} {e : Env} {R : Room} {s : State} {m : MethodId} {args : Array Value} {below : List Frame} {meth : Method} {c : Code} {H : Heap} {locs : List Loc} {cells slots : Nat} {Q : State → Prop} {A0 A : zA} {So : Option zS}
variable {cc bytes : ByteArray} {nL pc fr lo maxL n index fr1 lo1 : Nat} {own nm : String} {ret ret1 : Option FieldType} {ls : Array Slot} {rest As st0 : List Value} {y : MethodName}
theorem z_slot12 {C n d : String} {cf fi k : Nat} {kf : Class} {f : Field} (hK : zK Γ s) (hk : k < 7) (hi : s.fieldFound? C n d = some (cf, kf, fi, f)) (hT : (TX12 k).1 = C ∧ (TX12 k).2.1 = n ∧ (TX12 k).2.2.1 = d) : f.slot = (G_D Γ).2 12 k := by
  have hc : zCL[12]? = some (RX12, TX12, 7) := rfl
  obtain ⟨hS, -⟩ := hK.K.1 12 _ hc
  obtain ⟨cf', kf', fi', f', hi', hsl⟩ := hS k hk
  obtain ⟨e1, e2, e3⟩ := hT
  subst e1 e2 e3
  cases hi.symm.trans hi'
  exact hsl
theorem zx_exc {β : Type} {K : Unit → xN β} {r : β × zA} {a : Nat} (hfl : l.flags = flags0) (C : xCx Γ p R s m args meth c cc nL RX12 ret fr lo nm A0) (hG : xR Γ A0 A So H locs) (hf : nB (wX a) K A = some r) (hl : ls.size = nL) (hfr : 4 ≤ fr) (hlo : 62 ≤ lo) (hst : (rest.map fun v => v.category).sum ≤ 8) (hd : decode cc pc = .ok (.invokespecial 1, 3))
    (kk : ∀ (A : zA) (H1 : Heap) (locs1 : List Loc), xR Γ A0 A So H1 locs1 → K () A = some r → W p l e R s m args below meth c H1 locs1 (A_nc A - A_nc A0) (A_us A - A_us A0) Q (F0 m (pc + 3) ls rest)) : W p l e R s m args below meth c H locs (A_nc A - A_nc A0) (A_us A - A_us A0) Q (F0 m pc ls (.ref a :: rest)) := by
  obtain ⟨⟨hx, hb, hml, hown, hts⟩, -, -, hK, hR1, hR2, -, -, -⟩ := C
  obtain ⟨u, A1, h1, h2⟩ := nB_some hf
  obtain ⟨⟨hkd, hln⟩, h4⟩ := z_if h1
  cases h4
  obtain ⟨cell, c1, c2, c3, c4, c5⟩ := hG.1.1.1.2.2.2.1 a hkd
  obtain ⟨k0, hk0, hce⟩ := c5 hln
  obtain ⟨kC, hkC, hity⟩ := hK.cls12 hk0
  rw [← hity] at hce
  subst hce
  have hc12 : zCL[12]? = some (RX12, TX12, 7) := rfl
  obtain ⟨hS, hfc, kC2, hkC2, hkind⟩ := hK.K.1 12 _ hc12
  cases hkC.symm.trans hkC2
  have hap := va_apart (own := RX12) (args := args) hts (N := 7) in_X12 tyX12 tyX12_ok nmX12 hK.K hc12
  intro T hT X
  have howns : e.platform.frameOwnsMonitors = true := by rw [X.admits.platform]
  have hfin : e.platform.finalization = false := by rw [X.admits.platform]
  have hpl : e.platform.magicAccessors = ({} : Platform).magicAccessors := by rw [X.admits.platform]
  have htr : e.platform.stackTraces = false := Launch.traces_off hfl X.admits
  obtain ⟨TT, Z, L0, LZ, Y⟩ := ThrowableC.of_atoms (args := args) howns hfin hpl (z_atoms hK hts)
  have L : TT.Links e.platform s := zLinks (s' := (G_0 Γ).setVm s.vm) (by rfl) L0
  have ycause : s.fieldFound? "java/lang/Throwable" "cause" "Ljava/lang/Throwable;" = some (TT.cT, TT.kT, TT.i7, TT.fCause) := Y.cause
  have ystack : s.fieldFound? "java/lang/Throwable" "stackTrace" "[Ljava/lang/StackTraceElement;" = some (TT.cT, TT.kT, TT.i17, TT.fStack) := Y.stack
  have ysupp : s.fieldFound? "java/lang/Throwable" "suppressedExceptions" "Ljava/util/List;" = some (TT.cT, TT.kT, TT.i24, TT.fSupp) := Y.supp
  have sC := z_slot12 (k := 0) hK (by omega) ycause ⟨rfl, rfl, rfl⟩
  have sS := z_slot12 (k := 1) hK (by omega) ystack ⟨rfl, rfl, rfl⟩
  have sP := z_slot12 (k := 2) hK (by omega) ysupp ⟨rfl, rfl, rfl⟩
  obtain ⟨P1, L1, hP1m, hP1s⟩ := PassC.of_atoms (args := args) (s := s) hpl (X := "java/lang/Exception") (Y := Bundle.tN) (index := 1) (bytes := Bundle.five) (by decide) (by decide) Bundle.five_0 Bundle.five_1 Bundle.five_4 (fun w hw => by
    simp only [Bundle.passAtoms, List.mem_cons, List.not_mem_nil, or_false] at hw
    rcases hw with rfl | rfl | rfl | rfl | rfl
    · exact hts _ q748
    · exact hts _ q749
    · exact hts _ q750
    · exact hts _ q728
    · have h9 := Cond.declares_setVm (s := G_0 Γ) (args := args) hK.2.alike (Bundle.init0 Bundle.tN)
      have h8 : (Cond.declares (Bundle.init0 Bundle.tN)).before args ((G_0 Γ).setVm s.vm) = true := by rw [h9]; exact hK.1.2.1 _ q712
      exact h8)
  have hsup : P1.sup = Z.m TT.toThrowableT := Option.some.inj (hP1s.symm.trans Y.init0)
  obtain ⟨tm, methC, cdC, kCC, vm₁, hnC, -, -, -, -, -, -, -, hW₁, st1⟩ := Steps.initCold (tb := p.tables) (e := e) (below := below) (s := s) (U := T) X.here hx X.warmed hpl hown (t := Bundle.init0 "java/lang/Exception") rfl rfl (by decide)
    (hts _ q747) (hts _ q748) (bytes := Bundle.five) (maxL := 1) (hts _ q749)
    (f := F0 m pc ls (.ref a :: rest)) rfl (a := a) (rest := rest) rfl (by rw [hb]; exact hd)
  cases Option.some.inj (hnC.symm.trans hP1m)
  have X₁ := X.noted hW₁
  obtain ⟨u0, sen, hz1, hz2⟩ := zst_t hK.1
  obtain ⟨cf1, kf1, fi1, f1, a1, cellS, p1, p2, p3, p4, p5, p6, p7, p8⟩ := hG.stat hK hz1
  obtain ⟨cf2, kf2, fi2, f2, a2, cellS2, r1, r2, r3, r4, r5, r6, r7, r8⟩ := hG.stat hK hz2
  have yun : s.fieldFound? "java/lang/Throwable" "UNASSIGNED_STACK" "[Ljava/lang/StackTraceElement;" = some (TT.cT, TT.kT, TT.i13, TT.fUnassigned) := Y.unassigned
  have ysen : s.fieldFound? "java/lang/Throwable" "SUPPRESSED_SENTINEL" "Ljava/util/List;" = some (TT.cT, TT.kT, TT.i20, TT.fSentinel) := Y.sentinel
  cases p1.symm.trans yun
  cases r1.symm.trans ysen
  cases p4.symm.trans L.statics
  cases r4.symm.trans L.statics
  cases p5.symm.trans r5
  have hage : (G_H Γ).size ≤ a := (hG.1.1.1.2.1 a (by omega)).1
  have hneS : TT.aS ≠ a := fun e9 => p8 (by rw [e9]; exact hage)
  have fcls : s.vm.findClass "java/lang/Throwable" = some TT.cT := Y.found
  obtain ⟨ci198, i198, fB, hk198, hg198, ha198, hsB, -, hnB, htB, hffB⟩ := Cond.ownField (t := .object "java/lang/Object") fcls L.cls (by decide +kernel) (hts _ q726) (hts _ q725) e.platform hpl
  have sB := z_slot12 (k := 4) hK (by omega) hffB ⟨rfl, rfl, rfl⟩
  have tyk : ∀ k, k < 7 → ∀ {cf fi : Nat} {kf : Class} {f : Field}, s.fieldFound? (TX12 k).1 (TX12 k).2.1 (TX12 k).2.2.1 = some (cf, kf, fi, f) → kC.instanceTypes[f.slot]? = some f.type := fun k hk _ _ _ _ hi => (u_facts hfc hkC (u_lays (N := 7) hts in_X12 hk) hi).2.2
  have tyC := tyk 0 (by omega) ycause
  have tyS := tyk 1 (by omega) ystack
  have tyP := tyk 2 (by omega) ysupp
  have tyB := tyk 4 (by omega) hffB
  have nBC : fB.slot ≠ TT.fCause.slot := by rw [sB, sC]; exact hap 4 0 (by omega) (by omega) (by omega)
  have nBS : fB.slot ≠ TT.fStack.slot := by rw [sB, sS]; exact hap 4 1 (by omega) (by omega) (by omega)
  have nBP : fB.slot ≠ TT.fSupp.slot := by rw [sB, sP]; exact hap 4 2 (by omega) (by omega) (by omega)
  have hskip : SkipFacts TT e.platform s (fun u => u) u0 ((preparedCellV TT.toThrowableT (freshCell ((G_D Γ).1 12) kC) a u0 sen).withEntry (T.setVm vm₁).cur) :=
    ⟨{ ci198 := ci198, i198 := i198, fBack := fB }, ⟨hk198, hg198, ha198, hsB⟩, by
      have := fresh_default (c := (G_D Γ).1 12) tyB
      rw [htB] at this
      simpa [preparedCellV, Cell.setSlot, Cell.withEntry, Array.getElem?_setIfInBounds, nBC, nBS, nBP, nBC.symm, nBS.symm, nBP.symm, defaultValue] using this, fun _ _ => rfl⟩
  have hsel0 : selectMethod e.platform s.vm ((G_D Γ).1 12) TT.fill0 = .method TT.fill0 := by
    obtain ⟨c2, r2, m2, q1, q2, q3, q4, -⟩ := Cond.selects_spec (hts _ q714)
    cases hfc.symm.trans q1
    have y0 : s.methodNamed? Bundle.tFill0 = some TT.fill0 := Y.fill0
    cases Option.some.inj (q2.symm.trans (State.methodFound?_of_named y0 (by decide)))
    cases Option.some.inj (q3.symm.trans y0)
    rw [Launch.admits_selectMethod X.admits]; exact q4
  have hselF : selectMethod e.platform s.vm ((G_D Γ).1 12) TT.fill = .method TT.fill := by
    obtain ⟨c2, r2, m2, q1, q2, q3, q4, -⟩ := Cond.selects_spec (hts _ q715)
    cases hfc.symm.trans q1
    have y0 : s.methodNamed? Bundle.tFill = some TT.fill := Y.fill
    cases Option.some.inj (q2.symm.trans (State.methodFound?_of_named y0 (by decide)))
    cases Option.some.inj (q3.symm.trans y0)
    rw [Launch.admits_selectMethod X.admits]; exact q4
  obtain ⟨vm₂, X₂, st2⟩ := X₁.ctorPlainOffV hx (g := F0 m pc ls rest) rfl (hl.trans hml.symm) TT L Z LZ [P1]
    (fun P hP => by rcases List.mem_cons.mp hP with rfl | hP; exact L1; cases hP) ⟨hsup, trivial⟩ (u0 := u0) (sen := sen) (self := a) (cell := freshCell ((G_D Γ).1 12) kC) (cellS := cellS)
    (by show T.heap[a]? = _; rw [hT]; exact c1) (fun _ => by simp) (by simp) rfl rfl hsel0 hselF (by show T.heap[_]? = _; rw [hT]; exact p5) hneS (fun e9 => by rw [e9] at p6; cases p6) p7 r7
    (Takes.of_laid hkC hkind tyC (by rw [Y.causeType]; rfl)) (Takes.of_laid hkC hkind tyS (by rw [Y.stackType]; exact fits_refV_array _ u0)) (Takes.of_laid hkC hkind tyP (by rw [Y.suppType]; exact fits_refV_object _ sen)) Y.objLocals hskip htr [] (by rw [hb]; exact hd)
    (by show 1 + 2 < R.frames; omega) (by
      show 2 * 0 + (rest.map fun v => v.category).sum + (13 * 1 + 41) ≤ R.locals
      omega)
  have hlta : a < H.size := (Array.getElem?_eq_some_iff.mp c1).1
  have l6C : (G_D Γ).2 12 6 ≠ TT.fCause.slot := by rw [sC]; exact hap 6 0 (by omega) (by omega) (by omega)
  have l6S : (G_D Γ).2 12 6 ≠ TT.fStack.slot := by rw [sS]; exact hap 6 1 (by omega) (by omega) (by omega)
  have l6P : (G_D Γ).2 12 6 ≠ TT.fSupp.slot := by rw [sP]; exact hap 6 2 (by omega) (by omega) (by omega)
  generalize hcell2 : (preparedCellV TT.toThrowableT (freshCell ((G_D Γ).1 12) kC) a u0 sen).setSlot TT.fStack.slot u0.v = cell2 at X₂ st2
  have e6 : cell2.slots[(G_D Γ).2 12 6]? = some (.int (A_fi A 1206 a)) := by
    rw [← hcell2, ← c4]
    simp [preparedCellV, Cell.setSlot, Array.getElem?_setIfInBounds, l6C, l6S, l6P, l6C.symm, l6S.symm, l6P.symm]
  have e7 : cell2.cls = (G_D Γ).1 12 ∧ cell2.vm = .none := by rw [← hcell2]; exact ⟨rfl, rfl⟩
  have sm : ∀ b, b ≠ a → zSame A (A_sln A a 0) b := by
    intro b hb9
    refine ⟨rfl, ?_, fun _ => rfl, fun _ => rfl, fun _ => rfl, rfl, rfl, rfl⟩
    show va_up _ _ _ b = _
    simp [va_up, hb9, A_ln]
  have hrel : zRel Γ (A_sln A a 0) So (H.setIfInBounds a cell2) := hG.1.1.xset (a := a) (by omega) (fun b => Iff.rfl) rfl rfl rfl sm (by simp) (fun x hx9 => by simp [Array.getElem?_setIfInBounds, Ne.symm hx9]) (zC.wrong hkd ⟨cell2, by simp [Array.getElem?_setIfInBounds, hlta], e7.1, e7.2, e6, fun e9 => by
    have : A_ln (A_sln A a 0) a = 0 := by show va_up _ _ _ a = _; simp [va_up]
    omega⟩)
  have hheap : (((T.setVm vm₁).setVm vm₂).setCell a cell2).heap = H.setIfInBounds a cell2 := by rw [← hT]; rfl
  obtain ⟨t9, b1, b2⟩ := kk (A_sln A a 0) _ _ ⟨⟨hrel, fun q hq => by
    rcases List.mem_append.mp hq with h | h
    · exact hG.1.2 q h
    · have hba : q.base = a := by
        simp only [List.mem_cons, List.not_mem_nil, or_false] at h
        rcases h with rfl | rfl | rfl | rfl <;> rfl
      rw [hba]; exact hage⟩, hG.2⟩ h2 _ hheap X₂
  refine ⟨t9, st1 t9 (fun acts => ?_), b2⟩
  rw [doInvoke_state]
  exact st2 t9 b1
/-- athrow -/
theorem zx_athrow {a : Nat} (hx : p.tables.exec = Jvm.exec) (hb : c.code = cc) (hd : decode cc pc = .ok (.athrow, 1)) (kk : WT p l e R s m args below meth c H locs cells slots Q (F0 m pc ls rest) a) : W p l e R s m args below meth c H locs cells slots Q (F0 m pc ls (.ref a :: rest)) := by
  intro T hT X
  obtain ⟨t, h1, h2⟩ := kk T hT X
  refine ⟨t, ?_, h2⟩
  have hd' : decode c.code pc = .ok (.athrow, 1) := by rw [hb]; exact hd
  jvm_step X.here [hx, hd', athrow.wp_sem]
  exact h1
end XW2
