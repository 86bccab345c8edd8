set_option maxRecDepth 100000
/-! STAGE 1, PretendDesk: the rows of each sort of call, of copies, of references -/
/-- the object b is of class ci -/
def nK {β : Type} (ci b : Nat) (k : xN β) : xN β := fun A => if A_kd A b = ci + 1 then k A else none
theorem z_nk {β : Type} {ci b : Nat} {k : xN β} {A : zA} {r : β × zA} (hf : nK ci b k A = some r) : A_kd A b = ci + 1 ∧ k A = some r := by
  unfold nK at hf
  by_cases h : A_kd A b = ci + 1
  · rw [if_pos h] at hf; exact ⟨h, hf⟩
  · rw [if_neg h] at hf; cases hf
/-- a call that may throw: what it throws is thrown on -/
def nT {α β : Type} (m : xN (α ⊕ Nat)) (k : α → xN (β ⊕ Nat)) : xN (β ⊕ Nat) := nB m (fun x => match x with
  | .inl v => k v
  | .inr a => nP (.inr a))
def xN2 (y : MethodName) (n : Nat) : Prop := y.cls ≠ "java/lang/invoke/MethodHandle" ∧ y.cls ≠ "java/lang/invoke/VarHandle" ∧ (parseMethodDescriptor y.desc).map (fun d => d.parameters.length) = some n
theorem xN2.len {y : MethodName} {n : Nat} (h : xN2 y n) : ∀ sig, parseMethodDescriptor y.desc = some sig → n = sig.parameters.length := fun sig hs => by
  have h2 := h.2.2
  rw [hs] at h2
  exact (Option.some.inj h2).symm
section XC2
variable {Γ : zG} {p : Program} {l : Launch} {e : Env} {R : Room} {s : State} {m : MethodId} {args : Array Value} {below : List Frame} {meth : Method} {c : Code} {H : Heap} {locs : List Loc} {Q : State → Prop} {A0 A : zA} {So : Option zS}
variable {cc bytes : ByteArray} {nL pc fr lo maxL n index fr1 lo1 : Nat} {own nm : String} {ret ret1 : Option FieldType} {ls : Array Slot} {rest As st0 : List Value} {y : MethodName}
/-- what goes on behind a call -/
abbrev xKK {α β : Type} (Γ : zG) (p : Program) (l : Launch) (e : Env) (R : Room) (s : State) (m : MethodId) (args : Array Value) (below : List Frame) (meth : Method) (c : Code) (Q : State → Prop) (A0 : zA) (So : Option zS) (pc : Nat) (ls : Array Slot) (rest : List Value) (out : α → Outcome) (K : α → xN β) (r : β × zA) : Prop :=
  ∀ (v : α) (A1 : zA) (H1 : Heap) (locs1 : List Loc), xR Γ A0 A1 So H1 locs1 → K v A1 = some r →
      (∀ w, out v = .returned w → W p l e R s m args below meth c H1 locs1 (A_nc A1 - A_nc A0) (A_us A1 - A_us A0) Q (F0 m (pc + 3) ls (w.toList ++ rest))) ∧ (∀ x, out v = .threw x → WT p l e R s m args below meth c H1 locs1 (A_nc A1 - A_nc A0) (A_us A1 - A_us A0) Q (F0 m pc ls rest) x)
theorem xk_i {β : Type} {K : Int32 → xN β} {r : β × zA} (h : ∀ (v : Int32) (A : zA) (H : Heap) (locs : List Loc), xR Γ A0 A So H locs → K v A = some r → W p l e R s m args below meth c H locs (A_nc A - A_nc A0) (A_us A - A_us A0) Q (F0 m (pc + 3) ls (.int v :: rest))) : xKK Γ p l e R s m args below meth c Q A0 So pc ls rest xoi K r :=
  fun v A1 H1 locs1 h1 h2 => ⟨fun w hw => by cases hw; exact h v A1 H1 locs1 h1 h2, fun x hx => by cases hx⟩
theorem xk_v {β : Type} {K : Unit → xN β} {r : β × zA} (h : ∀ (A : zA) (H : Heap) (locs : List Loc), xR Γ A0 A So H locs → K () A = some r → W p l e R s m args below meth c H locs (A_nc A - A_nc A0) (A_us A - A_us A0) Q (F0 m (pc + 3) ls rest)) : xKK Γ p l e R s m args below meth c Q A0 So pc ls rest xov K r :=
  fun v A1 H1 locs1 h1 h2 => ⟨fun w hw => by cases hw; exact h A1 H1 locs1 h1 h2, fun x hx => by cases hx⟩
theorem xk_r {β : Type} {K : Nat → xN β} {r : β × zA} (h : ∀ (v : Nat) (A : zA) (H : Heap) (locs : List Loc), xR Γ A0 A So H locs → K v A = some r → W p l e R s m args below meth c H locs (A_nc A - A_nc A0) (A_us A - A_us A0) Q (F0 m (pc + 3) ls (.ref v :: rest))) : xKK Γ p l e R s m args below meth c Q A0 So pc ls rest xor K r :=
  fun v A1 H1 locs1 h1 h2 => ⟨fun w hw => by cases hw; exact h v A1 H1 locs1 h1 h2, fun x hx => by cases hx⟩
theorem xk_o {β : Type} {K : Option Nat → xN β} {r : β × zA} (h : ∀ (v : Option Nat) (A : zA) (H : Heap) (locs : List Loc), xR Γ A0 A So H locs → K v A = some r → W p l e R s m args below meth c H locs (A_nc A - A_nc A0) (A_us A - A_us A0) Q (F0 m (pc + 3) ls (va_rf v :: rest))) : xKK Γ p l e R s m args below meth c Q A0 So pc ls rest xoo K r :=
  fun v A1 H1 locs1 h1 h2 => ⟨fun w hw => by cases hw; exact h v A1 H1 locs1 h1 h2, fun x hx => by cases hx⟩
theorem xk_ti {β : Type} {K : Int32 ⊕ Nat → xN β} {r : β × zA} (h : ∀ (v : Int32) (A : zA) (H : Heap) (locs : List Loc), xR Γ A0 A So H locs → K (.inl v) A = some r → W p l e R s m args below meth c H locs (A_nc A - A_nc A0) (A_us A - A_us A0) Q (F0 m (pc + 3) ls (.int v :: rest)))
    (ht : ∀ (x : Nat) (A : zA) (H : Heap) (locs : List Loc), xR Γ A0 A So H locs → K (.inr x) A = some r → WT p l e R s m args below meth c H locs (A_nc A - A_nc A0) (A_us A - A_us A0) Q (F0 m pc ls rest) x) : xKK Γ p l e R s m args below meth c Q A0 So pc ls rest (xT xoi) K r := by
  intro v A1 H1 locs1 h1 h2
  cases v with
  | inl v => exact ⟨fun w hw => by cases hw; exact h v A1 H1 locs1 h1 h2, fun x hx => by cases hx⟩
  | inr a => exact ⟨fun w hw => (by cases hw), fun x hx => by cases hx; exact ht a A1 H1 locs1 h1 h2⟩
theorem xk_tv {β : Type} {K : Unit ⊕ Nat → xN β} {r : β × zA} (h : ∀ (A : zA) (H : Heap) (locs : List Loc), xR Γ A0 A So H locs → K (.inl ()) A = some r → W p l e R s m args below meth c H locs (A_nc A - A_nc A0) (A_us A - A_us A0) Q (F0 m (pc + 3) ls rest))
    (ht : ∀ (x : Nat) (A : zA) (H : Heap) (locs : List Loc), xR Γ A0 A So H locs → K (.inr x) A = some r → WT p l e R s m args below meth c H locs (A_nc A - A_nc A0) (A_us A - A_us A0) Q (F0 m pc ls rest) x) : xKK Γ p l e R s m args below meth c Q A0 So pc ls rest (xT xov) K r := by
  intro v A1 H1 locs1 h1 h2
  cases v with
  | inl v => exact ⟨fun w hw => by cases hw; exact h A1 H1 locs1 h1 h2, fun x hx => by cases hx⟩
  | inr a => exact ⟨fun w hw => (by cases hw), fun x hx => by cases hx; exact ht a A1 H1 locs1 h1 h2⟩
theorem xrecv {ci b : Nat} {q : vw_C} {ty : Nat → FieldType} (hK : zK Γ s) (hG : xR Γ A0 A So H locs) (hC : zCls ci q ty) (hkd : A_kd A b = ci + 1) : ∃ cellB : Cell, H[b]? = some cellB ∧ cellB.vm.isStatics = false ∧ s.vm.findClass q.1 = some cellB.cls := by
  obtain ⟨cell, q1, q2, q3, q4⟩ := hG.1.1.1.2.2.1 b ci q hkd hC.2.1 hC.1
  exact ⟨cell, q1, by rw [q3]; rfl, by rw [q2]; exact (hK.K.1 ci q hC.1).2.1⟩
theorem zx_V {α β : Type} {f : xN α} {K : α → xN β} {r : β × zA} {out : α → Outcome} {ci b : Nat} {q : vw_C} {ty : Nat → FieldType} (C : xCx Γ p R s m args meth c cc nL own ret fr lo nm A0) (hG : xR Γ A0 A So H locs) (hf : nB f K A = some r) (hkd : A_kd A b = ci + 1) (hC : zCls ci q ty) (hM : xCt Γ l y (ws_ y bytes maxL ret1) fr1 lo1 (.ref b :: As) f out)
    (q1 : Cond.methodLink own index y ∈ lw_all) (q2 : Cond.instanceMethod y ∈ lw_all) (q3 : Cond.selects q.1 y y ∈ lw_all) (q4 : Cond.initialized y.cls ∈ lw_all) (q5 : Cond.code y bytes maxL ret1 ∈ lw_all) (hy : xN2 y n) (hn : As.length = n) (hs0 : st0 = As.reverse ++ .ref b :: rest) (hfr : fr1 + 1 ≤ fr) (hlo : 8 + (maxL + 11) + lo1 ≤ lo) (hl : ls.size = nL) (hst : (rest.map fun v => v.category).sum ≤ 8) (hd : decode cc pc = .ok (.invokevirtual index, 3))
    (kk : xKK Γ p l e R s m args below meth c Q A0 So pc ls rest out K r) : W p l e R s m args below meth c H locs (A_nc A - A_nc A0) (A_us A - A_us A0) Q (F0 m pc ls st0) := by
  have C' := C
  obtain ⟨⟨hx, hb, hml, hown, hts⟩, -, -, hK, -⟩ := C'
  obtain ⟨cellB, h1, h2, h3⟩ := xrecv hK hG hC hkd
  exact zx_call C hG hf hM q5 q4 hfr hlo hl hst hd (fun T hT X => xi_V X hx hown (hts _ q1) (hts _ q2) (hts _ q3) (hts _ q5) ⟨hy.1, hy.2.1⟩ (by rw [hT]; exact h1) h2 h3 rfl (fun sig h => hn.trans (hy.len sig h)) hs0 (by rw [hb]; exact hd)) kk
theorem zx_VN {α β : Type} {f : xN α} {K : α → xN β} {r : β × zA} {out : α → Outcome} {ci b : Nat} {q : vw_C} {ty : Nat → FieldType} {host : String} (C : xCx Γ p R s m args meth c cc nL own ret fr lo nm A0) (hG : xR Γ A0 A So H locs) (hf : nB f K A = some r) (hkd : A_kd A b = ci + 1) (hC : zCls ci q ty) (hM : xCt Γ l y (ws_ y bytes maxL ret1) fr1 lo1 (.ref b :: As) f out)
    (q1 : Cond.methodLinkNest own index y host ∈ lw_tbl) (q2 : Cond.instanceMethod y ∈ lw_all) (q3 : Cond.selects q.1 y y ∈ lw_all) (q4 : Cond.initialized y.cls ∈ lw_all) (q5 : Cond.code y bytes maxL ret1 ∈ lw_all) (hy : xN2 y n) (hn : As.length = n) (hs0 : st0 = As.reverse ++ .ref b :: rest) (hfr : fr1 + 1 ≤ fr) (hlo : 8 + (maxL + 11) + lo1 ≤ lo) (hl : ls.size = nL) (hst : (rest.map fun v => v.category).sum ≤ 8) (hd : decode cc pc = .ok (.invokevirtual index, 3))
    (kk : xKK Γ p l e R s m args below meth c Q A0 So pc ls rest out K r) : W p l e R s m args below meth c H locs (A_nc A - A_nc A0) (A_us A - A_us A0) Q (F0 m pc ls st0) := by
  have C' := C
  obtain ⟨⟨hx, hb, hml, hown, hts⟩, -, -, hK, -⟩ := C'
  obtain ⟨cellB, h1, h2, h3⟩ := xrecv hK hG hC hkd
  exact zx_call C hG hf hM q5 q4 hfr hlo hl hst hd (fun T hT X => xi_VN X hx hown (va_Nw.use rfl (va_Nw.warmM hK.2 (va_Nw.of rfl (hK.1.2.1 _ q1)))) (hts _ q2) (hts _ q3) (hts _ q5) ⟨hy.1, hy.2.1⟩ (by rw [hT]; exact h1) h2 h3 rfl (fun sig h => hn.trans (hy.len sig h)) hs0 (by rw [hb]; exact hd)) kk
/-- an inherited method -/
theorem zx_VU {α β : Type} {f : xN α} {K : α → xN β} {r : β × zA} {out : α → Outcome} {ci b : Nat} {q : vw_C} {ty : Nat → FieldType} {x : MethodName} {owner : String} (C : xCx Γ p R s m args meth c cc nL own ret fr lo nm A0) (hG : xR Γ A0 A So H locs) (hf : nB f K A = some r) (hkd : A_kd A b = ci + 1) (hC : zCls ci q ty) (hM : xCt Γ l y (ws_ y bytes maxL ret1) fr1 lo1 (.ref b :: As) f out)
    (hyx : y = ⟨owner, x.name, x.desc⟩) (q1 : Cond.methodLink own index x ∈ lw_all) (q1s : Cond.sameMethod x.cls owner x.name x.desc ∈ lw_all) (q2 : Cond.instanceMethod y ∈ lw_all) (q3 : Cond.selects q.1 x y ∈ lw_all) (q4 : Cond.initialized y.cls ∈ lw_all) (q5 : Cond.code y bytes maxL ret1 ∈ lw_all) (hy : xN2 y n) (hn : As.length = n) (hs0 : st0 = As.reverse ++ .ref b :: rest) (hfr : fr1 + 1 ≤ fr) (hlo : 8 + (maxL + 11) + lo1 ≤ lo) (hl : ls.size = nL) (hst : (rest.map fun v => v.category).sum ≤ 8) (hd : decode cc pc = .ok (.invokevirtual index, 3))
    (kk : xKK Γ p l e R s m args below meth c Q A0 So pc ls rest out K r) : W p l e R s m args below meth c H locs (A_nc A - A_nc A0) (A_us A - A_us A0) Q (F0 m pc ls st0) := by
  have C' := C
  obtain ⟨⟨hx, hb, hml, hown, hts⟩, -, -, hK, -⟩ := C'
  obtain ⟨cellB, h1, h2, h3⟩ := xrecv hK hG hC hkd
  have hcls : y.cls = owner := by rw [hyx]
  have hdesc : y.desc = x.desc := by rw [hyx]
  exact zx_call C hG hf hM q5 q4 hfr hlo hl hst hd (fun T hT X => xi_VU X hx hown (hts _ q1) (hts _ q1s) (by rw [← hyx]; exact va_Decl.of (hts _ q2) (hts _ q5)) ⟨by rw [← hcls]; exact hy.1, by rw [← hcls]; exact hy.2.1⟩ (hts _ q3) (hts _ q2) (by rw [hT]; exact h1) h2 h3 rfl (fun sig h => hn.trans (hy.len sig (by rw [hdesc]; exact h))) hs0 (by rw [hb]; exact hd)) kk
theorem zx_S {α β : Type} {f : xN α} {K : α → xN β} {r : β × zA} {out : α → Outcome} (C : xCx Γ p R s m args meth c cc nL own ret fr lo nm A0) (hG : xR Γ A0 A So H locs) (hf : nB f K A = some r) (hM : xCt Γ l y (ws_ y bytes maxL ret1) fr1 lo1 As f out)
    (q1 : Cond.methodLink own index y ∈ lw_all) (q2 : Cond.static y ∈ lw_all) (q4 : Cond.initialized y.cls ∈ lw_all) (q5 : Cond.code y bytes maxL ret1 ∈ lw_all) (hy : xN2 y n) (hn : As.length = n) (hs0 : st0 = As.reverse ++ rest) (hfr : fr1 + 1 ≤ fr) (hlo : 8 + (maxL + 11) + lo1 ≤ lo) (hl : ls.size = nL) (hst : (rest.map fun v => v.category).sum ≤ 8) (hd : decode cc pc = .ok (.invokestatic index, 3))
    (kk : xKK Γ p l e R s m args below meth c Q A0 So pc ls rest out K r) : W p l e R s m args below meth c H locs (A_nc A - A_nc A0) (A_us A - A_us A0) Q (F0 m pc ls st0) := by
  have C' := C
  obtain ⟨⟨hx, hb, hml, hown, hts⟩, -, -, hK, -⟩ := C'
  exact zx_call C hG hf hM q5 q4 hfr hlo hl hst hd (fun T hT X => xi_S X hx hown (hts _ q1) (hts _ q2) (hts _ q4) (hts _ q5) ⟨hy.1, hy.2.1⟩ rfl (fun sig h => hn.trans (hy.len sig h)) hs0 (by rw [hb]; exact hd)) kk
theorem zx_SN {α β : Type} {f : xN α} {K : α → xN β} {r : β × zA} {out : α → Outcome} {host : String} (C : xCx Γ p R s m args meth c cc nL own ret fr lo nm A0) (hG : xR Γ A0 A So H locs) (hf : nB f K A = some r) (hM : xCt Γ l y (ws_ y bytes maxL ret1) fr1 lo1 As f out)
    (q1 : Cond.methodLinkNest own index y host ∈ lw_tbl) (q2 : Cond.static y ∈ lw_all) (q4 : Cond.initialized y.cls ∈ lw_all) (q5 : Cond.code y bytes maxL ret1 ∈ lw_all) (hy : xN2 y n) (hn : As.length = n) (hs0 : st0 = As.reverse ++ rest) (hfr : fr1 + 1 ≤ fr) (hlo : 8 + (maxL + 11) + lo1 ≤ lo) (hl : ls.size = nL) (hst : (rest.map fun v => v.category).sum ≤ 8) (hd : decode cc pc = .ok (.invokestatic index, 3))
    (kk : xKK Γ p l e R s m args below meth c Q A0 So pc ls rest out K r) : W p l e R s m args below meth c H locs (A_nc A - A_nc A0) (A_us A - A_us A0) Q (F0 m pc ls st0) := by
  have C' := C
  obtain ⟨⟨hx, hb, hml, hown, hts⟩, -, -, hK, -⟩ := C'
  exact zx_call C hG hf hM q5 q4 hfr hlo hl hst hd (fun T hT X => xi_SN X hx hown (va_Nw.use rfl (va_Nw.warmM hK.2 (va_Nw.of rfl (hK.1.2.1 _ q1)))) (hts _ q2) (hts _ q4) (hts _ q5) ⟨hy.1, hy.2.1⟩ rfl (fun sig h => hn.trans (hy.len sig h)) hs0 (by rw [hb]; exact hd)) kk
theorem zx_I {α β : Type} {f : xN α} {K : α → xN β} {r : β × zA} {out : α → Outcome} {b : Nat} (C : xCx Γ p R s m args meth c cc nL own ret fr lo nm A0) (hG : xR Γ A0 A So H locs) (hf : nB f K A = some r) (hM : xCt Γ l y (ws_ y bytes maxL none) fr1 lo1 (.ref b :: As) f out)
    (q1 : Cond.methodLink own index y ∈ lw_all) (q2 : Cond.instanceMethod y ∈ lw_all) (q4 : Cond.initialized y.cls ∈ lw_all) (q5 : Cond.code y bytes maxL none ∈ lw_all) (hy1 : y.name = "<init>") (hy : xN2 y n) (hn : As.length = n) (hs0 : st0 = As.reverse ++ .ref b :: rest) (hfr : fr1 + 1 ≤ fr) (hlo : 8 + (maxL + 11) + lo1 ≤ lo) (hl : ls.size = nL) (hst : (rest.map fun v => v.category).sum ≤ 8) (hd : decode cc pc = .ok (.invokespecial index, 3))
    (kk : xKK Γ p l e R s m args below meth c Q A0 So pc ls rest out K r) : W p l e R s m args below meth c H locs (A_nc A - A_nc A0) (A_us A - A_us A0) Q (F0 m pc ls st0) := by
  have C' := C
  obtain ⟨⟨hx, hb, hml, hown, hts⟩, -, -, hK, -⟩ := C'
  exact zx_call C hG hf hM q5 q4 hfr hlo hl hst hd (fun T hT X => xi_I X hx hown hy1 (hts _ q1) (hts _ q2) (hts _ q5) ⟨hy.1, hy.2.1⟩ rfl (fun sig h => hn.trans (hy.len sig h)) hs0 (by rw [hb]; exact hd)) kk
theorem zx_IN {α β : Type} {f : xN α} {K : α → xN β} {r : β × zA} {out : α → Outcome} {b : Nat} {host : String} (C : xCx Γ p R s m args meth c cc nL own ret fr lo nm A0) (hG : xR Γ A0 A So H locs) (hf : nB f K A = some r) (hM : xCt Γ l y (ws_ y bytes maxL none) fr1 lo1 (.ref b :: As) f out)
    (q1 : Cond.methodLinkNest own index y host ∈ lw_tbl) (q2 : Cond.instanceMethod y ∈ lw_all) (q4 : Cond.initialized y.cls ∈ lw_all) (q5 : Cond.code y bytes maxL none ∈ lw_all) (hy1 : y.name = "<init>") (hy : xN2 y n) (hn : As.length = n) (hs0 : st0 = As.reverse ++ .ref b :: rest) (hfr : fr1 + 1 ≤ fr) (hlo : 8 + (maxL + 11) + lo1 ≤ lo) (hl : ls.size = nL) (hst : (rest.map fun v => v.category).sum ≤ 8) (hd : decode cc pc = .ok (.invokespecial index, 3))
    (kk : xKK Γ p l e R s m args below meth c Q A0 So pc ls rest out K r) : W p l e R s m args below meth c H locs (A_nc A - A_nc A0) (A_us A - A_us A0) Q (F0 m pc ls st0) := by
  have C' := C
  obtain ⟨⟨hx, hb, hml, hown, hts⟩, -, -, hK, -⟩ := C'
  exact zx_call C hG hf hM q5 q4 hfr hlo hl hst hd (fun T hT X => xi_IN X hx hown hy1 (va_Nw.use rfl (va_Nw.warmM hK.2 (va_Nw.of rfl (hK.1.2.1 _ q1)))) (hts _ q2) (hts _ q5) ⟨hy.1, hy.2.1⟩ rfl (fun sig h => hn.trans (hy.len sig h)) hs0 (by rw [hb]; exact hd)) kk
/-! Math.max, Math.min, new Object's <init> -/
theorem zx_max {x y : Int32} {cells slots : Nat} (C : xCx Γ p R s m args meth c cc nL own ret fr lo nm A0) (hl : ls.size = nL) (q1 : Cond.methodLink own index Lib.Math.max.name ∈ lw_all) (q2 : Cond.static Lib.Math.max.name ∈ lw_all) (q3 : Cond.initialized "java/lang/Math" ∈ lw_all) (q4 : Cond.code Lib.Math.max.name Lib.Math.max.code 2 (some .int) ∈ lw_all) (hfr : 1 ≤ fr) (hlo : 21 ≤ lo) (hst : (rest.map fun v => v.category).sum ≤ 8) (hc : cells ≤ R.cells) (hs : slots ≤ R.slots) (hd : decode cc pc = .ok (.invokestatic index, 3))
    (kk : W p l e R s m args below meth c H locs cells slots Q (F0 m (pc + 3) ls (.int (if x < y then y else x) :: rest))) : W p l e R s m args below meth c H locs cells slots Q (F0 m pc ls (.int y :: .int x :: rest)) := by
  obtain ⟨⟨hx, hb, hml, hown, hts⟩, -, -, hK, hR1, hR2, -⟩ := C
  exact va_mmax hx hb (hml.trans hl.symm) hown (hts _ q1) (hts _ q2) (hts _ q3) (hts _ q4) (Nat.le_trans hfr hR1) (by omega) hc hs hd kk
theorem zx_min {x y : Int32} {cells slots : Nat} (C : xCx Γ p R s m args meth c cc nL own ret fr lo nm A0) (hl : ls.size = nL) (q1 : Cond.methodLink own index Lib.Math.min.name ∈ lw_all) (q2 : Cond.static Lib.Math.min.name ∈ lw_all) (q3 : Cond.initialized "java/lang/Math" ∈ lw_all) (q4 : Cond.code Lib.Math.min.name Lib.Math.min.code 2 (some .int) ∈ lw_all) (hfr : 1 ≤ fr) (hlo : 21 ≤ lo) (hst : (rest.map fun v => v.category).sum ≤ 8) (hc : cells ≤ R.cells) (hs : slots ≤ R.slots) (hd : decode cc pc = .ok (.invokestatic index, 3))
    (kk : W p l e R s m args below meth c H locs cells slots Q (F0 m (pc + 3) ls (.int (if y < x then y else x) :: rest))) : W p l e R s m args below meth c H locs cells slots Q (F0 m pc ls (.int y :: .int x :: rest)) := by
  obtain ⟨⟨hx, hb, hml, hown, hts⟩, -, -, hK, hR1, hR2, -⟩ := C
  exact va_mmin hx hb (hml.trans hl.symm) hown (hts _ q1) (hts _ q2) (hts _ q3) (hts _ q4) (Nat.le_trans hfr hR1) (by omega) hc hs hd kk
theorem xroom (C : xCx Γ p R s m args meth c cc nL own ret fr lo nm A0) (hG : xR Γ A0 A So H locs) : A_nc A - A_nc A0 ≤ R.cells ∧ A_us A - A_us A0 ≤ R.slots := by
  obtain ⟨-, -, -, -, -, -, h1, h2, -⟩ := C
  have h3 := hG.2.2.2
  unfold xOK at h3
  omega
theorem zx_obj {a : Nat} {cells slots : Nat} (C : xCx Γ p R s m args meth c cc nL own ret fr lo nm A0) (hl : ls.size = nL) (q1 : Cond.methodLink own index objectInit ∈ lw_all) (q2 : Cond.instanceMethod objectInit ∈ lw_all) (q3 : Cond.code objectInit ⟨#[0xb1]⟩ 1 none ∈ lw_all) (hfr : 1 ≤ fr) (hlo : 20 ≤ lo) (hst : (rest.map fun v => v.category).sum ≤ 8) (hd : decode cc pc = .ok (.invokespecial index, 3))
    (kk : W p l e R s m args below meth c H locs cells slots Q (F0 m (pc + 3) ls rest)) : W p l e R s m args below meth c H locs cells slots Q (F0 m pc ls (.ref a :: rest)) := by
  obtain ⟨⟨hx, hb, hml, hown, hts⟩, -, -, hK, hR1, hR2, -⟩ := C
  exact W.objInit hx hb hown (hts _ q1) (hts _ q2) (hts _ q3) rfl (hl.trans hml.symm) rfl hd (Nat.le_trans hfr hR1) (by show 2 * 0 + _ + 12 ≤ _; omega) kk
/-! references in locals, null -/
theorem zx_ifnull {o : Option Nat} {tgt : Nat} {off : Int} {cells slots : Nat} (hx : p.tables.exec = Jvm.exec) (hb : c.code = cc) (hd : decode cc pc = .ok (.ifnull off, 3)) (ht : (pc : Int) + off = (tgt : Int))
    (kt : o = none → W p l e R s m args below meth c H locs cells slots Q (F0 m tgt ls rest)) (kf : ¬ o = none → W p l e R s m args below meth c H locs cells slots Q (F0 m (pc + 3) ls rest)) : W p l e R s m args below meth c H locs cells slots Q (F0 m pc ls (va_rf o :: rest)) := by
  cases o with
  | none => exact lv_ifnullN hx hb hd ht (kt rfl)
  | some a => exact lv_ifnull hx hb hd (kf (by simp))
theorem zx_ifnonnull {o : Option Nat} {tgt : Nat} {off : Int} {cells slots : Nat} (hx : p.tables.exec = Jvm.exec) (hb : c.code = cc) (hd : decode cc pc = .ok (.ifnonnull off, 3)) (ht : (pc : Int) + off = (tgt : Int))
    (kt : ¬ o = none → W p l e R s m args below meth c H locs cells slots Q (F0 m tgt ls rest)) (kf : o = none → W p l e R s m args below meth c H locs cells slots Q (F0 m (pc + 3) ls rest)) : W p l e R s m args below meth c H locs cells slots Q (F0 m pc ls (va_rf o :: rest)) := by
  cases o with
  | none => exact lv_ifnonnullN hx hb hd (kf rfl)
  | some a => exact lv_ifnonnull hx hb hd ht (kt (by simp))
theorem zx_aloadO_n {o : Option Nat} {k : Fin 4} {i : Nat} {cells slots : Nat} (hx : p.tables.exec = Jvm.exec) (hb : c.code = cc) (hd : decode cc pc = .ok (.aload_n k, 1)) (hi : (k : Nat) = i) (hl : ls[i]? = some (.val (va_rf o)))
    (kk : W p l e R s m args below meth c H locs cells slots Q (F0 m (pc + 1) ls (va_rf o :: rest))) : W p l e R s m args below meth c H locs cells slots Q (F0 m pc ls rest) := by
  cases o with
  | none => exact lv_aload_nN hx hb hd hi hl kk
  | some a => exact lv_aload_n hx hb hd hi hl kk
theorem zx_aloadO {o : Option Nat} {i : Nat} {cells slots : Nat} (hx : p.tables.exec = Jvm.exec) (hb : c.code = cc) (hd : decode cc pc = .ok (.aload i, 2)) (hl : ls[i]? = some (.val (va_rf o)))
    (kk : W p l e R s m args below meth c H locs cells slots Q (F0 m (pc + 2) ls (va_rf o :: rest))) : W p l e R s m args below meth c H locs cells slots Q (F0 m pc ls rest) := by
  cases o with
  | none => exact lv_aloadN hx hb hd hl kk
  | some a => exact lv_aload hx hb hd hl kk
theorem zx_astoreO_n {o : Option Nat} {k : Fin 4} {i : Nat} {cells slots : Nat} {lv lv' : List (Nat × Value)} (hx : p.tables.exec = Jvm.exec) (hb : c.code = cc) (hd : decode cc pc = .ok (.astore_n k, 1)) (hi : (k : Nat) = i) (h : lv_has ls nL lv) (hn : i < nL) (hl : (i, va_rf o) :: lv.filter (fun q => !(q.1 == i) && !(q.1 + 1 == i && q.2.category == 2)) = lv')
    (kk : ∀ ls' : Array Slot, lv_has ls' nL lv' → W p l e R s m args below meth c H locs cells slots Q (F0 m (pc + 1) ls' rest)) : W p l e R s m args below meth c H locs cells slots Q (F0 m pc ls (va_rf o :: rest)) := by
  cases o with
  | none => exact lv_astore_nN hx hb hd hi h hn hl kk
  | some a => exact lv_astore_n hx hb hd hi h hn hl kk
theorem zx_astoreO {o : Option Nat} {i : Nat} {cells slots : Nat} {lv lv' : List (Nat × Value)} (hx : p.tables.exec = Jvm.exec) (hb : c.code = cc) (hd : decode cc pc = .ok (.astore i, 2)) (h : lv_has ls nL lv) (hn : i < nL) (hl : (i, va_rf o) :: lv.filter (fun q => !(q.1 == i) && !(q.1 + 1 == i && q.2.category == 2)) = lv')
    (kk : ∀ ls' : Array Slot, lv_has ls' nL lv' → W p l e R s m args below meth c H locs cells slots Q (F0 m (pc + 2) ls' rest)) : W p l e R s m args below meth c H locs cells slots Q (F0 m pc ls (va_rf o :: rest)) := by
  cases o with
  | none => exact lv_astoreN hx hb hd h hn hl kk
  | some a => exact lv_astore hx hb hd h hn hl kk
end XC2
