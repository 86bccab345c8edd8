set_option maxRecDepth 100000
/-! STAGE 1, methods with a handler: regions, contracts, calls; private methods -/
def xRgW {β : Type} (hh : List (Nat × Nat × Nat × Nat)) (Γ : zG) (l : Launch) (y : MethodName) (cc : ByteArray) (nL : Nat) (ret : Option FieldType) (fr lo : Nat) (f : xN β) (I : MethodId → JFrame → Prop) (L : MethodId → β → JFrame → Option Nat → Prop) : Prop :=
  ∀ (p : Program) (e : Env) (R : Room) (s : State) (m : MethodId) (args : Array Value) (below : List Frame) (meth : Method) (c : Code) (Q : State → Prop) (A0 : zA) (So : Option zS) (A : zA) (H : Heap) (locs : List Loc) (x : β) (A' : zA) (g : JFrame),
    c.exceptionTable.toList.map (fun h => (h.startPc, h.endPc, h.handlerPc, h.catchType)) = hh → xCx Γ p R s m args meth c cc nL y.cls ret fr lo y.name A0 → xR Γ A0 A So H locs → I m g → f A = some (x, A') →
    (∀ (H' : Heap) (locs' : List Loc) (g' : JFrame) (th : Option Nat), L m x g' th → xR Γ A0 A' So H' locs' → WG p l e R s m args below meth c H' locs' (A_nc A' - A_nc A0) (A_us A' - A_us A0) Q g' th) → W p l e R s m args below meth c H locs (A_nc A - A_nc A0) (A_us A - A_us A0) Q g
theorem xCt.enterW {α : Type} {Γ : zG} {l : Launch} {y : MethodName} {cc : ByteArray} {nL : Nat} {ret : Option FieldType} {fr lo : Nat} {vals : List Value} {f : xN α} {out : α → Outcome} {L : MethodId → α → JFrame → Option Nat → Prop} {hh : List (Nat × Nat × Nat × Nat)} (hy : plainName y.cls = true) (hn : (lg_sl vals).length ≤ nL)
    (hend : ∀ (p : Program) (e : Env) (R : Room) (s : State) (m : MethodId) (args : Array Value) (below : List Frame) (meth : Method) (c : Code) (So : Option zS) (A0 A : zA) (H : Heap) (locs : List Loc) (x : α) (g : JFrame) (th : Option Nat), c.exceptionTable.toList.map (fun h => (h.startPc, h.endPc, h.handlerPc, h.catchType)) = hh → xCx Γ p R s m args meth c cc nL y.cls ret fr lo y.name A0 → L m x g th → xR Γ A0 A So H locs →
      WG p l e R s m args below meth c H locs (A_nc A - A_nc A0) (A_us A - A_us A0) (xMQ below (xQ Γ So A0 A (out x)) s (A_nc A - A_nc A0) (A_us A - A_us A0) (fun q => (G_H Γ).size ≤ q)) g th)
    (h : xRgW hh Γ l y cc nL ret fr lo f (zAt0 nL 0 (lv_args 0 vals) []) L) : xCt Γ l y (wsW_ y cc nL ret hh) fr lo vals f out := by
  intro So A A' v hok hf
  refine MetFree.of_bodyS (code := cc) (maxLocals := nL) (ret := ret) hy ?_ ?_
  · intro args s m h hn
    obtain ⟨m', meth, c, h0, h1, h2, h3, h4, -, h5, h6, -⟩ := Cond.codeWith_spec (atoms_spec (ws := wsW_ y cc nL ret hh) h _ List.mem_cons_self)
    cases hn.symm.trans h0
    exact ⟨meth, c, h1, h2, h3, h4, h5, h6⟩
  · intro p e s m args below meth c s₁ B hml hv _
    obtain ⟨rfl, hrel, hK⟩ := hv
    have hts0 := atoms_spec (ws := wsW_ y cc nL ret hh) B.pre
    have hts : ∀ w ∈ lw_all, w.before _ s = true := fun w h => hts0 w (List.mem_cons_of_mem _ h)
    have hh0 : s₁.heap = s.heap := by rw [B.state]; rfl
    have hex : c.exceptionTable.toList.map (fun h => (h.startPc, h.endPc, h.handlerPc, h.catchType)) = hh := by
      obtain ⟨m', meth', c', h0, h1, h2, -, -, h5, -⟩ := Cond.codeWith_spec (hts0 _ List.mem_cons_self)
      cases B.named.symm.trans h0
      cases B.method.symm.trans h1
      cases (Stand.of_body B).code.symm.trans h2
      exact h5
    have C : xCx Γ p (headSpec (wsW_ y cc nL ret hh) { frames := fr, cells := 601024 - A_nc A, slots := 7293034 - A_us A, locals := lo }).room s m vals.toArray meth c cc nL y.cls ret fr lo y.name A := by
      refine ⟨⟨B.exec, B.bytes, hml, findClass_of_methodNamed B.named, hts⟩, B.returns, B.notSynchronized, hK, Nat.le_refl _, Nat.le_refl _, ?_, ?_, (name_of_methodNamed B.named B.method).1⟩
      · show 601024 ≤ 601024 - A_nc A + A_nc A; have := hok.1; omega
      · show 7293034 ≤ 7293034 - A_us A + A_us A; have := hok.2; omega
    have hW := h p e _ s m _ below meth c (xMQ below (xQ Γ So A A' (out v)) s (A_nc A' - A_nc A) (A_us A' - A_us A) (fun q => (G_H Γ).size ≤ q)) A So A s.heap [] v A' _ hex C ⟨⟨hrel, fun q hq => by cases hq⟩, Nat.le_refl _, Nat.le_refl _, hok⟩ ⟨_, rfl, lv_entry vals hn⟩ hf
      (fun H' locs' g' th hL hG => hend p e _ s m _ below meth c So A A' H' locs' v g' th hex C hL hG)
    rw [← lg_entry_eq, Nat.sub_self, Nat.sub_self] at hW
    obtain ⟨t, a1, o, b1, b2, b3, b4⟩ := hW s₁ hh0 (Stand.of_body B)
    exact ⟨t, o, a1, b1, b2, b3, b4⟩
theorem xCt.mkiW {Γ : zG} {l : Launch} {y : MethodName} {cc : ByteArray} {nL fr lo : Nat} {vals : List Value} {f : xN Int32} {hh : List (Nat × Nat × Nat × Nat)} (hy : plainName y.cls = true) (hn : (lg_sl vals).length ≤ nL)
    (h : xRgW hh Γ l y cc nL (some .int) fr lo f (zAt0 nL 0 (lv_args 0 vals) []) (xNo (zLi cc))) : xCt Γ l y (wsW_ y cc nL (some .int) hh) fr lo vals f xoi :=
  xCt.enterW hy hn (fun p e R s m args below meth c So A0 A H locs x g th hex C hL hG => by obtain ⟨rfl, hL⟩ := hL; exact xE_i C hL hG) h
theorem xCt.mkoW {Γ : zG} {l : Launch} {y : MethodName} {cc : ByteArray} {nL fr lo : Nat} {vals : List Value} {rt : FieldType} {f : xN (Option Nat)} {hh : List (Nat × Nat × Nat × Nat)} (hrt : (∃ n, rt = .object n) ∨ ∃ t, rt = .array t) (hy : plainName y.cls = true) (hn : (lg_sl vals).length ≤ nL)
    (h : xRgW hh Γ l y cc nL (some rt) fr lo f (zAt0 nL 0 (lv_args 0 vals) []) (xNo (zLo cc))) : xCt Γ l y (wsW_ y cc nL (some rt) hh) fr lo vals f xoo :=
  xCt.enterW hy hn (fun p e R s m args below meth c So A0 A H locs x g th hex C hL hG => by obtain ⟨rfl, hL⟩ := hL; exact xE_o hrt C hL hG) h
theorem zH1_of {c : Code} {a b h t : Nat} (hex : c.exceptionTable.toList.map (fun h => (h.startPc, h.endPc, h.handlerPc, h.catchType)) = [(a, b, h, t)]) : c.exceptionTable.toList = [zH1 a b h t] := by
  cases hl : c.exceptionTable.toList with
  | nil => rw [hl] at hex; cases hex
  | cons x r =>
    rw [hl] at hex
    cases r with
    | cons _ _ => simp at hex
    | nil =>
      simp at hex
      obtain ⟨h1, h2, h3, h4⟩ := hex
      cases x
      simp only at h1 h2 h3 h4
      subst h1 h2 h3 h4
      rfl
section XInv
variable {p : Program} {l : Launch} {e : Env} {R : Room} {s : State} {m : MethodId} {args : Array Value} {below : List Frame} {meth : Method} {c : Code} {T : State} {locs : List Loc} {cells slots : Nat}
theorem xi_VW (X : Stand p l e R s m args below meth c T locs cells slots) (hexec : p.tables.exec = Jvm.exec) {own C : String} {index : Nat} {y : MethodName} {bytes : ByteArray} {maxL : Nat} {ret : Option FieldType} {hh : List (Nat × Nat × Nat × Nat)}
    (hown : s.vm.findClass own = some m.cls) (hlink : (Cond.methodLink own index y).before args s = true) (hinst : (Cond.instanceMethod y).before args s = true) (hsel : (Cond.selects C y y).before args s = true)
    (hcode : (Cond.codeWith y bytes maxL ret hh).before args s = true) (hy : y.cls ≠ "java/lang/invoke/MethodHandle" ∧ y.cls ≠ "java/lang/invoke/VarHandle")
    {b : Addr} {cellB : Cell} (hcell : T.heap[b]? = some cellB) (hobj : cellB.vm.isStatics = false) (hcls : s.vm.findClass C = some cellB.cls)
    {g : JFrame} (hg : g.method = m) {argsL rest : List Value} (hlen : ∀ sig, parseMethodDescriptor y.desc = some sig → argsL.length = sig.parameters.length)
    (hstack : g.stack = argsL.reverse ++ .ref b :: rest) (hdg : decode c.code g.pc = .ok (.invokevirtual index, 3)) : xInv p l e R s m args below meth c T locs cells slots g rest y (.ref b :: argsL) := by
  obtain ⟨mk, methM, hnamed, hmethM, hstM, habM⟩ := Cond.instanceMethod_spec hinst
  obtain ⟨mk', methM', cM, hn', hmethM', -, -, -, -, -, -, hsigM⟩ := Cond.codeWith_spec hcode
  cases hnamed.symm.trans hn'
  cases hmethM.symm.trans hmethM'
  obtain ⟨c2, r2, m2, q1, q2, q3, q4, kP, hkP, hkPi⟩ := Cond.selects_spec hsel
  cases hcls.symm.trans q1
  cases (State.methodFound?_of_named hnamed hy).symm.trans q2
  cases hnamed.symm.trans q3
  have hselP : selectMethod e.platform s.vm cellB.cls mk = .method mk := by rw [Launch.admits_selectMethod X.admits]; exact q4
  obtain ⟨vm₁, X₁, hstep₁⟩ := X.invokevirtual hexec hown hlink hnamed hmethM hstM hkP hkPi hy (a := b) (cell := cellB) hcell
    (fun z h => by rw [h] at hobj; cases hobj) hselP hmethM habM hkP hkPi (g := g) hg (argsL := argsL) (rest := rest) (hlen _ hsigM) hstack hdg
  exact ⟨vm₁, mk, X₁, X₁.named hnamed, fun target h => hstep₁ target h⟩
end XInv
section XCall
variable {Γ : zG} {p : Program} {l : Launch} {e : Env} {R : Room} {s : State} {m : MethodId} {args : Array Value} {below : List Frame} {meth : Method} {c : Code} {H : Heap} {locs : List Loc} {Q : State → Prop} {A0 A : zA} {So : Option zS}
variable {cc bytes : ByteArray} {nL pc fr lo maxL n index fr1 lo1 : Nat} {own nm : String} {ret ret1 : Option FieldType} {ls : Array Slot} {rest vals st0 : List Value} {y : MethodName}
theorem zx_callW {α β : Type} {f : xN α} {K : α → xN β} {r : β × zA} {out : α → Outcome} {ig : Instr} {hh : List (Nat × Nat × Nat × Nat)} (C : xCx Γ p R s m args meth c cc nL own ret fr lo nm A0) (hG : xR Γ A0 A So H locs) (hf : nB f K A = some r) (hM : xCt Γ l y (wsW_ y bytes maxL ret1 hh) fr1 lo1 vals f out) (hq : Cond.codeWith y bytes maxL ret1 hh ∈ lw_all) (hini : Cond.initialized y.cls ∈ lw_all)
    (hfr : fr1 + 1 ≤ fr) (hlo : 8 + (maxL + 11) + lo1 ≤ lo) (hl : ls.size = nL) (hst : (rest.map fun v => v.category).sum ≤ 8) (hd : decode cc pc = .ok (ig, 3))
    (hinv : ∀ T : State, T.heap = H → Stand p l e R s m args below meth c T locs (A_nc A - A_nc A0) (A_us A - A_us A0) → xInv p l e R s m args below meth c T locs (A_nc A - A_nc A0) (A_us A - A_us A0) (F0 m pc ls st0) rest y vals)
    (kk : ∀ (v : α) (A1 : zA) (H1 : Heap) (locs1 : List Loc), xR Γ A0 A1 So H1 locs1 → K v A1 = some r →
      (∀ w, out v = .returned w → W p l e R s m args below meth c H1 locs1 (A_nc A1 - A_nc A0) (A_us A1 - A_us A0) Q (F0 m (pc + 3) ls (w.toList ++ rest))) ∧ (∀ x, out v = .threw x → WT p l e R s m args below meth c H1 locs1 (A_nc A1 - A_nc A0) (A_us A1 - A_us A0) Q (F0 m pc ls rest) x)) :
    W p l e R s m args below meth c H locs (A_nc A - A_nc A0) (A_us A - A_us A0) Q (F0 m pc ls st0) := by
  obtain ⟨v, A1, h1, h2⟩ := nB_some hf
  obtain ⟨⟨hx, hb, hml, hown, hts⟩, hr, hlk, hK, hR1, hR2, hRc, hRs, hnm⟩ := C
  have hG4 := hG.2.2.2
  have hM1 := hM So A A1 v hG4 h1
  intro T hT X
  obtain ⟨vm₁, mk, X₁, hn, hgo⟩ := hinv T hT X
  have g2 := hG.2.1
  have g3 := hG.2.2.1
  have hok1 := hG4.1
  have hok2 := hG4.2
  have hgood : GoodIn lw_all (wsW_ y bytes maxL ret1 hh) := lw_methW hq
  have hwords : ∀ w ∈ wsW_ y bytes maxL ret1 hh, w.before vals.toArray (T.setVm vm₁) = true := fun w hw => pay_in hts hgood w hw _ _ X₁.warmed
  have h3 : (Cond.initialized y.cls).before vals.toArray (T.setVm vm₁) = true := word_at X₁.warmed (Or.inl (by first | rfl | simp [Cond.onTables, Cond.keeps, Cond.steady])) (hts _ hini)
  have h2w : (Cond.codeWith y bytes maxL ret1 hh).before vals.toArray (T.setVm vm₁) = true := hwords _ List.mem_cons_self
  obtain ⟨mk', methY, cY, hn', hmY, hcY, -, hlY, -, -, -, -⟩ := Cond.codeWith_spec h2w
  cases hn.symm.trans hn'
  obtain ⟨kY, hkY, -⟩ := className_of_methodNamed hn
  have hinitY : kY.init = .initialized := Cond.initialized_spec (findClass_of_methodNamed hn) hkY h3
  have hdc : decode c.code (F0 m pc ls rest).pc = .ok (ig, 3) := by rw [hb]; exact hd
  have happ : (headSpec (wsW_ y bytes maxL ret1 hh) { frames := fr1, cells := 601024 - A_nc A, slots := 7293034 - A_us A, locals := lo1 }).appliesLoose y e.platform ((T.setVm vm₁).calling (F0 m pc ls rest) mk vals.toArray) = true :=
    Spec.appliesLoose_calling (g := F0 m pc ls rest) X₁.here hdc hn hkY hinitY
      (X₁.room_calling (g := F0 m pc ls rest) (R' := { frames := fr1, cells := 601024 - A_nc A, slots := 7293034 - A_us A, locals := lo1 }) (hl.trans hml.symm) hmY hcY (Nat.le_trans hfr hR1) (by rw [hlY]; have := lv_room (m := m) (pc := pc) (ls := ls) (rest := rest) hst; have h9 : (F0 m pc ls rest).stack = rest := rfl; rw [h9]; show _ + lo1 ≤ R.locals; omega) (by show _ + (601024 - A_nc A) ≤ R.cells; omega) (by show _ + (7293034 - A_us A) ≤ R.slots; omega)) (atoms_intro hwords)
  have hfrm : ((T.setVm vm₁).setTop (F0 m pc ls rest)).frames = ([.java (F0 m pc ls rest)] : List Frame) ++ below := by rw [State.frames_setTop' _ X₁.here.top, X₁.tail]; rfl
  obtain ⟨o, s₂, hsteps, -, hend, ⟨⟨ho, hrel, q1, q2, q3⟩, L, hfe, hL⟩⟩ := Steps.callFree hM1 p X₁.admits X₁.cas X₁.clock (acts := []) hfrm happ ⟨rfl, by show zRel Γ A So T.heap; rw [hT]; exact hG.1.1, hK.moved X₁.warmed⟩ trivial
  rw [hfrm] at hend
  have hgo2 : ∀ t, Steps p.tables e below s₂ t → Steps p.tables e below (T.setTop (F0 m pc ls st0)) t := fun t h9 => hgo t (fun acts => by rw [doInvoke_state] at hsteps ⊢; exact hsteps.trans h9)
  have hR' : ∀ (T' : State), T'.heap = s₂.heap → xR Γ A0 A1 So T'.heap (locs ++ L) := fun T' hT' => ⟨⟨by rw [hT']; exact hrel, fun q hq => by
    rcases List.mem_append.mp hq with h | h
    · exact hG.1.2 q h
    · exact hL q h⟩, by omega, by omega, q3⟩
  have ec : A_nc A - A_nc A0 + (A_nc A1 - A_nc A) = A_nc A1 - A_nc A0 := by omega
  have es : A_us A - A_us A0 + (A_us A1 - A_us A) = A_us A1 - A_us A0 := by omega
  cases o with
  | returned w =>
    obtain ⟨T', X', -, -, e9⟩ := X₁.outOf (g := F0 m pc ls rest) rfl hdc hend hfe.1 hfe.2
    have hh : T'.heap = s₂.heap := by rw [e9]; rfl
    rw [ec, es] at X'
    obtain ⟨t2, a1, b1⟩ := (kk v A1 T'.heap (locs ++ L) (hR' T' hh) h2).1 w ho.symm T' rfl X'
    refine ⟨t2, hgo2 t2 ?_, b1⟩
    rw [e9]
    exact a1
  | threw x =>
    obtain ⟨T', X', -, -, e9⟩ := X₁.outOfThrown (g := F0 m pc ls rest) rfl hend hfe.1 hfe.2
    have hh : T'.heap = s₂.heap := by
      rw [e9]
      show T'.heap = ((T'.setTop (F0 m pc ls rest)).pushFrame (.throwing x)).heap
      rfl
    rw [ec, es] at X'
    obtain ⟨t2, a1, b1⟩ := (kk v A1 T'.heap (locs ++ L) (hR' T' hh) h2).2 x ho.symm T' rfl X'
    refine ⟨t2, hgo2 t2 ?_, b1⟩
    rw [e9]
    exact a1
end XCall
section XC2
variable {Γ : zG} {p : Program} {l : Launch} {e : Env} {R : Room} {s : State} {m : MethodId} {args : Array Value} {below : List Frame} {meth : Method} {c : Code} {H : Heap} {locs : List Loc} {Q : State → Prop} {A0 A : zA} {So : Option zS}
variable {cc bytes : ByteArray} {nL pc fr lo maxL n index fr1 lo1 : Nat} {own nm : String} {ret ret1 : Option FieldType} {ls : Array Slot} {rest As st0 : List Value} {y : MethodName}
theorem zx_VW {α β : Type} {f : xN α} {K : α → xN β} {r : β × zA} {out : α → Outcome} {ci b : Nat} {q : vw_C} {ty : Nat → FieldType} {hh : List (Nat × Nat × Nat × Nat)} (C : xCx Γ p R s m args meth c cc nL own ret fr lo nm A0) (hG : xR Γ A0 A So H locs) (hf : nB f K A = some r) (hkd : A_kd A b = ci + 1) (hC : zCls ci q ty) (hM : xCt Γ l y (wsW_ y bytes maxL ret1 hh) fr1 lo1 (.ref b :: As) f out)
    (q1 : Cond.methodLink own index y ∈ lw_all) (q2 : Cond.instanceMethod y ∈ lw_all) (q3 : Cond.selects q.1 y y ∈ lw_all) (q4 : Cond.initialized y.cls ∈ lw_all) (q5 : Cond.codeWith y bytes maxL ret1 hh ∈ lw_all) (hy : xN2 y n) (hn : As.length = n) (hs0 : st0 = As.reverse ++ .ref b :: rest) (hfr : fr1 + 1 ≤ fr) (hlo : 8 + (maxL + 11) + lo1 ≤ lo) (hl : ls.size = nL) (hst : (rest.map fun v => v.category).sum ≤ 8) (hd : decode cc pc = .ok (.invokevirtual index, 3))
    (kk : xKK Γ p l e R s m args below meth c Q A0 So pc ls rest out K r) : W p l e R s m args below meth c H locs (A_nc A - A_nc A0) (A_us A - A_us A0) Q (F0 m pc ls st0) := by
  have C' := C
  obtain ⟨⟨hx, hb, hml, hown, hts⟩, -, -, hK, -⟩ := C'
  obtain ⟨cellB, h1, h2, h3⟩ := xrecv hK hG hC hkd
  exact zx_callW C hG hf hM q5 q4 hfr hlo hl hst hd (fun T hT X => xi_VW X hx hown (hts _ q1) (hts _ q2) (hts _ q3) (hts _ q5) ⟨hy.1, hy.2.1⟩ (by rw [hT]; exact h1) h2 h3 rfl (fun sig h => hn.trans (hy.len sig h)) hs0 (by rw [hb]; exact hd)) kk
theorem zx_Vp {α β : Type} {f : xN α} {K : α → xN β} {r : β × zA} {out : α → Outcome} {ci b : Nat} {q : vw_C} {ty : Nat → FieldType} (C : xCx Γ p R s m args meth c cc nL own ret fr lo nm A0) (hG : xR Γ A0 A So H locs) (hf : nB f K A = some r) (hkd : A_kd A b = ci + 1) (hC : zCls ci q ty) (hM : xCt Γ l y (ws_ y bytes maxL ret1) fr1 lo1 (.ref b :: As) f out)
    (q1 : Cond.methodLink own index y ∈ lw_all) (q2 : Cond.instanceMethod y ∈ lw_all) (q3 : Cond.selects y.cls y y ∈ lw_all) (q3p : Cond.privateMethod y ∈ lw_tbl) (q4 : Cond.initialized y.cls ∈ lw_all) (q5 : Cond.code y bytes maxL ret1 ∈ lw_all) (hy : xN2 y n) (hn : As.length = n) (hs0 : st0 = As.reverse ++ .ref b :: rest) (hfr : fr1 + 1 ≤ fr) (hlo : 8 + (maxL + 11) + lo1 ≤ lo) (hl : ls.size = nL) (hst : (rest.map fun v => v.category).sum ≤ 8) (hd : decode cc pc = .ok (.invokevirtual index, 3))
    (kk : xKK Γ p l e R s m args below meth c Q A0 So pc ls rest out K r) : W p l e R s m args below meth c H locs (A_nc A - A_nc A0) (A_us A - A_us A0) Q (F0 m pc ls st0) := by
  have C' := C
  obtain ⟨⟨hx, hb, hml, hown, hts⟩, -, -, hK, -⟩ := C'
  obtain ⟨cellB, h1, h2, h3⟩ := xrecv hK hG hC hkd
  exact zx_call C hG hf hM q5 q4 hfr hlo hl hst hd (fun T hT X => xi_V X hx hown (hts _ q1) (hts _ q2) (z_selp ⟨hy.1, hy.2.1⟩ h3 (hts _ q3) (Cond.privateMethod_warm hK.2 (hK.1.2.1 _ q3p)) (hts _ q2)) (hts _ q5) ⟨hy.1, hy.2.1⟩ (by rw [hT]; exact h1) h2 h3 rfl (fun sig h => hn.trans (hy.len sig h)) hs0 (by rw [hb]; exact hd)) kk
end XC2
