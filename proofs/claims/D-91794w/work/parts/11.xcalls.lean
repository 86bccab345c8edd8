set_option maxRecDepth 100000
/-! STAGE 1, PretendDesk: contracts, regions, calls (answers and throws) -/
def xFE (first t : State) (L : List Loc) (k n : Nat) : Prop := first.WarmedH t.vm ∧ first.sameButNew ({ t with vm := first.vm } : State) L k n
/-- A CONTRACT: whenever f answers, the method ends, as 'out' says, and the heap is as f says -/
def xCt {α : Type} (Γ : zG) (l : Launch) (y : MethodName) (ws : List Cond) (fr lo : Nat) (vals : List Value) (f : xN α) (out : α → Outcome) : Prop :=
  ∀ (So : Option zS) (A A' : zA) (v : α), xOK A → f A = some (v, A') → MetFree l y (headSpec ws { frames := fr, cells := 601024 - A_nc A, slots := 7293034 - A_us A, locals := lo }) (va_Pc vals (fun U => zRel Γ A So U.heap ∧ zK Γ U)) (fun _ _ _ _ _ => True)
    (fun _ st o t => (o = out v ∧ zRel Γ A' So t.heap ∧ A_nc A ≤ A_nc A' ∧ A_us A ≤ A_us A' ∧ xOK A') ∧ ∃ L, xFE st t L (A_nc A' - A_nc A) (A_us A' - A_us A) ∧ ∀ q ∈ L, (G_H Γ).size ≤ q.base)
/-- the machine is throwing x out of the frame g (or into one of its handlers) -/
def WT (p : Program) (l : Launch) (e : Env) (R : Room) (s : State) (m : MethodId) (args : Array Value) (below : List Frame) (meth : Method) (c : Code) (H : Heap) (locs : List Loc) (cells slots : Nat) (Q : State → Prop) (g : JFrame) (x : Nat) : Prop :=
  ∀ T : State, T.heap = H → Stand p l e R s m args below meth c T locs cells slots → ∃ t, Steps p.tables e below ((T.setTop g).pushFrame (.throwing x)) t ∧ Q t
def WG (p : Program) (l : Launch) (e : Env) (R : Room) (s : State) (m : MethodId) (args : Array Value) (below : List Frame) (meth : Method) (c : Code) (H : Heap) (locs : List Loc) (cells slots : Nat) (Q : State → Prop) (g : JFrame) (th : Option Nat) : Prop := match th with
  | none => W p l e R s m args below meth c H locs cells slots Q g
  | some x => WT p l e R s m args below meth c H locs cells slots Q g x
def xRg {β : Type} (Γ : zG) (l : Launch) (y : MethodName) (cc : ByteArray) (nL : Nat) (ret : Option FieldType) (fr lo : Nat) (f : xN β) (I : MethodId → JFrame → Prop) (L : MethodId → β → JFrame → Option Nat → Prop) : Prop :=
  ∀ (p : Program) (e : Env) (R : Room) (s : State) (m : MethodId) (args : Array Value) (below : List Frame) (meth : Method) (c : Code) (Q : State → Prop) (A0 : zA) (So : Option zS) (A : zA) (H : Heap) (locs : List Loc) (x : β) (A' : zA) (g : JFrame),
    xCx Γ p R s m args meth c cc nL y.cls ret fr lo y.name A0 → xR Γ A0 A So H locs → I m g → f A = some (x, A') →
    (∀ (H' : Heap) (locs' : List Loc) (g' : JFrame) (th : Option Nat), L m x g' th → xR Γ A0 A' So H' locs' → WG p l e R s m args below meth c H' locs' (A_nc A' - A_nc A0) (A_us A' - A_us A0) Q g' th) → W p l e R s m args below meth c H locs (A_nc A - A_nc A0) (A_us A - A_us A0) Q g
/-- a loop's head and its ends -/
def xLE {σ ε : Type} (I : MethodId → σ → JFrame → Prop) (E : MethodId → ε → JFrame → Option Nat → Prop) (m : MethodId) (x : σ ⊕ ε) (g : JFrame) (th : Option Nat) : Prop := match x with
  | .inl s => th = none ∧ I m s g
  | .inr e => E m e g th
theorem xRg.loop {σ ε : Type} {Γ : zG} {l : Launch} {y : MethodName} {cc : ByteArray} {nL : Nat} {ret : Option FieldType} {fr lo : Nat} {body : σ → xN (σ ⊕ ε)} {I : MethodId → σ → JFrame → Prop} {E : MethodId → ε → JFrame → Option Nat → Prop}
    (h : ∀ s, xRg Γ l y cc nL ret fr lo (body s) (fun m => I m s) (xLE I E)) (s : σ) : xRg Γ l y cc nL ret fr lo (nLp body s) (fun m => I m s) E := by
  intro p e R st m args below meth c Q A0 So A H locs x A' g C hG hI hf kk
  obtain ⟨n, hn⟩ := nLp_iff.mp hf
  clear hf
  induction n generalizing s A H locs g with
  | zero => cases hn
  | succ n ih =>
    unfold nIt at hn
    cases hb : body s A with
    | none => rw [hb] at hn; cases hn
    | some q =>
      rw [hb] at hn
      obtain ⟨z, A1⟩ := q
      refine h s p e R st m args below meth c Q A0 So A H locs z A1 g C hG hI hb (fun H' locs' g' th hL hG' => ?_)
      cases z with
      | inl s' =>
        obtain ⟨rfl, hI'⟩ := hL
        exact ih s' A1 H' locs' g' hG' hI' hn
      | inr e9 =>
        cases hn
        exact kk H' locs' g' th hL hG'
/-- one end less: no throw -/
def xNo {ε : Type} (E : MethodId → ε → JFrame → Prop) (m : MethodId) (x : ε) (g : JFrame) (th : Option Nat) : Prop := th = none ∧ E m x g
/-! a method's ends -/
def xoi (v : Int32) : Outcome := .returned (some (.int v))
def xov (_ : Unit) : Outcome := .returned none
def xor (a : Nat) : Outcome := .returned (some (.ref a))
def xoo (o : Option Nat) : Outcome := .returned (some (va_rf o))
def zLr (cc : ByteArray) (m : MethodId) (a : Nat) (g : JFrame) : Prop := ∃ pc ls, g = F0 m pc ls [.ref a] ∧ decode cc pc = .ok (.areturn, 1)
def zLo (cc : ByteArray) (m : MethodId) (o : Option Nat) (g : JFrame) : Prop := ∃ pc ls, g = F0 m pc ls [va_rf o] ∧ decode cc pc = .ok (.areturn, 1)
/-- ends of a method that may throw -/
def xT {α : Type} (out : α → Outcome) (x : α ⊕ Nat) : Outcome := match x with
  | .inl v => out v
  | .inr a => .threw a
def xLT {α : Type} (E : MethodId → α → JFrame → Prop) (m : MethodId) (x : α ⊕ Nat) (g : JFrame) (th : Option Nat) : Prop := match x with
  | .inl v => th = none ∧ E m v g
  | .inr a => th = some a ∧ g.method = m ∧ g.locked = none ∧ g.entered = []
def xMQ (below : List Frame) (Qc : Outcome → State → Prop) (s : State) (mc ms : Nat) (free : Addr → Prop) : State → Prop := fun t =>
  ∃ o, t.status = .running ∧ Ended t below o ∧ Qc o t ∧ ∃ L, xFE s t L mc ms ∧ ∀ q ∈ L, free q.base
section XEnd
variable {Γ : zG} {p : Program} {l : Launch} {e : Env} {R : Room} {s : State} {m : MethodId} {args : Array Value} {below : List Frame} {meth : Method} {c : Code} {H : Heap} {locs : List Loc} {cells slots : Nat} {A0 A : zA} {So : Option zS}
variable {cc : ByteArray} {nL fr lo : Nat} {own nm : String} {ret : Option FieldType}
theorem W.xmq {Qc : Outcome → State → Prop} {free : Addr → Prop} {mc ms : Nat} {g : JFrame} (h : W p l e R s m args below meth c H locs cells slots (MQ below (fun _ _ o t => Qc o t) args s mc ms free) g) : W p l e R s m args below meth c H locs cells slots (xMQ below Qc s mc ms free) g := by
  intro T hT X
  obtain ⟨t, a1, o, b1, b2, b3, L, ⟨-, b4, b5⟩, b6⟩ := h T hT X
  exact ⟨t, a1, o, b1, b2, b3, L, ⟨b4, b5⟩, b6⟩
/-- what a contract says of its end -/
abbrev xQ (Γ : zG) (So : Option zS) (A0 A' : zA) (o' : Outcome) : Outcome → State → Prop := fun o t => o = o' ∧ zRel Γ A' So t.heap ∧ A_nc A0 ≤ A_nc A' ∧ A_us A0 ≤ A_us A' ∧ xOK A'
theorem xE_i {v : Int32} {g : JFrame} (C : xCx Γ p R s m args meth c cc nL own (some .int) fr lo nm A0) (hL : zLi cc m v g) (hG : xR Γ A0 A So H locs) : W p l e R s m args below meth c H locs (A_nc A - A_nc A0) (A_us A - A_us A0) (xMQ below (xQ Γ So A0 A (xoi v)) s (A_nc A - A_nc A0) (A_us A - A_us A0) (fun q => (G_H Γ).size ≤ q)) g := by
  obtain ⟨pc, ls, rfl, hd⟩ := hL
  exact W.xmq (W.iret C.1.1 C.1.2.1 C.2.1 (fun t ht hW => ⟨rfl, by rw [ht]; exact hG.1.1, hG.2⟩) hG.1.2 hd C.2.2.1)
theorem xE_z {v : Int32} {g : JFrame} (C : xCx Γ p R s m args meth c cc nL own (some .boolean) fr lo nm A0) (hL : zLz cc m v g) (hG : xR Γ A0 A So H locs) : W p l e R s m args below meth c H locs (A_nc A - A_nc A0) (A_us A - A_us A0) (xMQ below (xQ Γ So A0 A (xoi v)) s (A_nc A - A_nc A0) (A_us A - A_us A0) (fun q => (G_H Γ).size ≤ q)) g := by
  obtain ⟨pc, ls, rfl, hd, hx⟩ := hL
  exact W.xmq (W.zret C.1.1 C.1.2.1 C.2.1 (z_nb hx) (fun t ht hW => ⟨rfl, by rw [ht]; exact hG.1.1, hG.2⟩) hG.1.2 hd C.2.2.1)
theorem xE_v {v : Unit} {g : JFrame} (C : xCx Γ p R s m args meth c cc nL own none fr lo nm A0) (hL : zLv cc m v g) (hG : xR Γ A0 A So H locs) : W p l e R s m args below meth c H locs (A_nc A - A_nc A0) (A_us A - A_us A0) (xMQ below (xQ Γ So A0 A (xov v)) s (A_nc A - A_nc A0) (A_us A - A_us A0) (fun q => (G_H Γ).size ≤ q)) g := by
  obtain ⟨pc, ls, rfl, hd⟩ := hL
  exact W.xmq (W.vret C.1.1 C.1.2.1 C.2.1 (fun t ht hW => ⟨rfl, by rw [ht]; exact hG.1.1, hG.2⟩) hG.1.2 hd C.2.2.1)
theorem xE_r {v : Nat} {g : JFrame} {rt : FieldType} (hrt : (∃ n, rt = .object n) ∨ ∃ t, rt = .array t) (C : xCx Γ p R s m args meth c cc nL own (some rt) fr lo nm A0) (hL : zLr cc m v g) (hG : xR Γ A0 A So H locs) : W p l e R s m args below meth c H locs (A_nc A - A_nc A0) (A_us A - A_us A0) (xMQ below (xQ Γ So A0 A (xor v)) s (A_nc A - A_nc A0) (A_us A - A_us A0) (fun q => (G_H Γ).size ≤ q)) g := by
  obtain ⟨pc, ls, rfl, hd⟩ := hL
  exact W.xmq (W.aret C.1.1 C.1.2.1 C.2.1 hrt (Or.inr ⟨v, rfl⟩) (fun t ht hW => ⟨rfl, by rw [ht]; exact hG.1.1, hG.2⟩) hG.1.2 hd C.2.2.1)
theorem xE_o {v : Option Nat} {g : JFrame} {rt : FieldType} (hrt : (∃ n, rt = .object n) ∨ ∃ t, rt = .array t) (C : xCx Γ p R s m args meth c cc nL own (some rt) fr lo nm A0) (hL : zLo cc m v g) (hG : xR Γ A0 A So H locs) : W p l e R s m args below meth c H locs (A_nc A - A_nc A0) (A_us A - A_us A0) (xMQ below (xQ Γ So A0 A (xoo v)) s (A_nc A - A_nc A0) (A_us A - A_us A0) (fun q => (G_H Γ).size ≤ q)) g := by
  obtain ⟨pc, ls, rfl, hd⟩ := hL
  refine W.xmq (W.aret C.1.1 C.1.2.1 C.2.1 hrt ?_ (fun t ht hW => ⟨rfl, by rw [ht]; exact hG.1.1, hG.2⟩) hG.1.2 hd C.2.2.1)
  cases v with
  | none => exact Or.inl rfl
  | some a => exact Or.inr ⟨a, rfl⟩
theorem xE_t {x : Nat} {g : JFrame} (hex : c.exceptionTable.isEmpty = true) (C : xCx Γ p R s m args meth c cc nL own ret fr lo nm A0) (hL : g.method = m ∧ g.locked = none ∧ g.entered = []) (hG : xR Γ A0 A So H locs) : WT p l e R s m args below meth c H locs (A_nc A - A_nc A0) (A_us A - A_us A0) (xMQ below (xQ Γ So A0 A (.threw x)) s (A_nc A - A_nc A0) (A_us A - A_us A0) (fun q => (G_H Γ).size ≤ q)) g x := by
  intro T hT X
  obtain ⟨h1, h2, h3, h4, h5⟩ := X.leaveThrown x hL.1 hL.2.1 hL.2.2 (fun q hq => by
    have h0 : c.exceptionTable.toList = [] := by
      have := hex
      simp [Array.isEmpty] at this
      simp [this]
    rw [h0] at hq; cases hq) C.2.2.1
  exact ⟨_, h1, .threw x, h2, h3, ⟨rfl, by show zRel Γ A So T.heap; rw [hT]; exact hG.1.1, hG.2⟩, locs, ⟨h4, h5⟩, hG.1.2⟩
end XEnd
theorem xCt.enter {α : Type} {Γ : zG} {l : Launch} {y : MethodName} {cc : ByteArray} {nL : Nat} {ret : Option FieldType} {fr lo : Nat} {vals : List Value} {f : xN α} {out : α → Outcome} {L : MethodId → α → JFrame → Option Nat → Prop} (hy : plainName y.cls = true) (hn : (lg_sl vals).length ≤ nL)
    (hend : ∀ (p : Program) (e : Env) (R : Room) (s : State) (m : MethodId) (args : Array Value) (below : List Frame) (meth : Method) (c : Code) (So : Option zS) (A0 A : zA) (H : Heap) (locs : List Loc) (x : α) (g : JFrame) (th : Option Nat), c.exceptionTable.isEmpty = true → xCx Γ p R s m args meth c cc nL y.cls ret fr lo y.name A0 → L m x g th → xR Γ A0 A So H locs →
      WG p l e R s m args below meth c H locs (A_nc A - A_nc A0) (A_us A - A_us A0) (xMQ below (xQ Γ So A0 A (out x)) s (A_nc A - A_nc A0) (A_us A - A_us A0) (fun q => (G_H Γ).size ≤ q)) g th)
    (h : xRg Γ l y cc nL ret fr lo f (zAt0 nL 0 (lv_args 0 vals) []) L) : xCt Γ l y (ws_ y cc nL ret) fr lo vals f out := by
  intro So A A' v hok hf
  refine MetFree.of_bodyS (code := cc) (maxLocals := nL) (ret := ret) hy ?_ ?_
  · intro args s m h hn
    obtain ⟨meth, c, h1, h2, h3, h4, h5, h6, -, -⟩ := Cond.code_spec hn (atoms_spec (ws := ws_ y cc nL ret) h _ List.mem_cons_self)
    exact ⟨meth, c, h1, h2, h3, h4, h5, h6⟩
  · intro p e s m args below meth c s₁ B hml hv _
    obtain ⟨rfl, hrel, hK⟩ := hv
    have hts0 := atoms_spec (ws := ws_ y cc nL ret) B.pre
    have hts : ∀ w ∈ lw_all, w.before _ s = true := fun w h => hts0 w (List.mem_cons_of_mem _ h)
    have hh0 : s₁.heap = s.heap := by rw [B.state]; rfl
    have hex : c.exceptionTable.isEmpty = true := B.noHandlers (hts0 _ List.mem_cons_self)
    have C : xCx Γ p (headSpec (ws_ y cc nL ret) { frames := fr, cells := 601024 - A_nc A, slots := 7293034 - A_us A, locals := lo }).room s m vals.toArray meth c cc nL y.cls ret fr lo y.name A := by
      refine ⟨⟨B.exec, B.bytes, hml, findClass_of_methodNamed B.named, hts⟩, B.returns, B.notSynchronized, hK, Nat.le_refl _, Nat.le_refl _, ?_, ?_, (name_of_methodNamed B.named B.method).1⟩
      · show 601024 ≤ 601024 - A_nc A + A_nc A; have := hok.1; omega
      · show 7293034 ≤ 7293034 - A_us A + A_us A; have := hok.2; omega
    have hW := h p e _ s m _ below meth c (xMQ below (xQ Γ So A A' (out v)) s (A_nc A' - A_nc A) (A_us A' - A_us A) (fun q => (G_H Γ).size ≤ q)) A So A s.heap [] v A' _ C ⟨⟨hrel, fun q hq => by cases hq⟩, Nat.le_refl _, Nat.le_refl _, hok⟩ ⟨_, rfl, lv_entry vals hn⟩ hf
      (fun H' locs' g' th hL hG => hend p e _ s m _ below meth c So A A' H' locs' v g' th hex C hL hG)
    rw [← lg_entry_eq, Nat.sub_self, Nat.sub_self] at hW
    obtain ⟨t, a1, o, b1, b2, b3, b4⟩ := hW s₁ hh0 (Stand.of_body B)
    exact ⟨t, o, a1, b1, b2, b3, b4⟩
theorem xCt.mki {Γ : zG} {l : Launch} {y : MethodName} {cc : ByteArray} {nL fr lo : Nat} {vals : List Value} {f : xN Int32} (hy : plainName y.cls = true) (hn : (lg_sl vals).length ≤ nL)
    (h : xRg Γ l y cc nL (some .int) fr lo f (zAt0 nL 0 (lv_args 0 vals) []) (xNo (zLi cc))) : xCt Γ l y (ws_ y cc nL (some .int)) fr lo vals f xoi :=
  xCt.enter hy hn (fun p e R s m args below meth c So A0 A H locs x g th hex C hL hG => by obtain ⟨rfl, hL⟩ := hL; exact xE_i C hL hG) h
theorem xCt.mkz {Γ : zG} {l : Launch} {y : MethodName} {cc : ByteArray} {nL fr lo : Nat} {vals : List Value} {f : xN Int32} (hy : plainName y.cls = true) (hn : (lg_sl vals).length ≤ nL)
    (h : xRg Γ l y cc nL (some .boolean) fr lo f (zAt0 nL 0 (lv_args 0 vals) []) (xNo (zLz cc))) : xCt Γ l y (ws_ y cc nL (some .boolean)) fr lo vals f xoi :=
  xCt.enter hy hn (fun p e R s m args below meth c So A0 A H locs x g th hex C hL hG => by obtain ⟨rfl, hL⟩ := hL; exact xE_z C hL hG) h
theorem xCt.mkv {Γ : zG} {l : Launch} {y : MethodName} {cc : ByteArray} {nL fr lo : Nat} {vals : List Value} {f : xN Unit} (hy : plainName y.cls = true) (hn : (lg_sl vals).length ≤ nL)
    (h : xRg Γ l y cc nL none fr lo f (zAt0 nL 0 (lv_args 0 vals) []) (xNo (zLv cc))) : xCt Γ l y (ws_ y cc nL none) fr lo vals f xov :=
  xCt.enter hy hn (fun p e R s m args below meth c So A0 A H locs x g th hex C hL hG => by obtain ⟨rfl, hL⟩ := hL; exact xE_v C hL hG) h
theorem xCt.mkr {Γ : zG} {l : Launch} {y : MethodName} {cc : ByteArray} {nL fr lo : Nat} {vals : List Value} {rt : FieldType} {f : xN Nat} (hrt : (∃ n, rt = .object n) ∨ ∃ t, rt = .array t) (hy : plainName y.cls = true) (hn : (lg_sl vals).length ≤ nL)
    (h : xRg Γ l y cc nL (some rt) fr lo f (zAt0 nL 0 (lv_args 0 vals) []) (xNo (zLr cc))) : xCt Γ l y (ws_ y cc nL (some rt)) fr lo vals f xor :=
  xCt.enter hy hn (fun p e R s m args below meth c So A0 A H locs x g th hex C hL hG => by obtain ⟨rfl, hL⟩ := hL; exact xE_r hrt C hL hG) h
theorem xCt.mko {Γ : zG} {l : Launch} {y : MethodName} {cc : ByteArray} {nL fr lo : Nat} {vals : List Value} {rt : FieldType} {f : xN (Option Nat)} (hrt : (∃ n, rt = .object n) ∨ ∃ t, rt = .array t) (hy : plainName y.cls = true) (hn : (lg_sl vals).length ≤ nL)
    (h : xRg Γ l y cc nL (some rt) fr lo f (zAt0 nL 0 (lv_args 0 vals) []) (xNo (zLo cc))) : xCt Γ l y (ws_ y cc nL (some rt)) fr lo vals f xoo :=
  xCt.enter hy hn (fun p e R s m args below meth c So A0 A H locs x g th hex C hL hG => by obtain ⟨rfl, hL⟩ := hL; exact xE_o hrt C hL hG) h
theorem xCt.mkti {Γ : zG} {l : Launch} {y : MethodName} {cc : ByteArray} {nL fr lo : Nat} {vals : List Value} {f : xN (Int32 ⊕ Nat)} (hy : plainName y.cls = true) (hn : (lg_sl vals).length ≤ nL)
    (h : xRg Γ l y cc nL (some .int) fr lo f (zAt0 nL 0 (lv_args 0 vals) []) (xLT (zLi cc))) : xCt Γ l y (ws_ y cc nL (some .int)) fr lo vals f (xT xoi) :=
  xCt.enter hy hn (fun p e R s m args below meth c So A0 A H locs x g th hex C hL hG => by
    cases x with
    | inl v => obtain ⟨rfl, hL⟩ := hL; exact xE_i C hL hG
    | inr a => obtain ⟨rfl, hL⟩ := hL; exact xE_t hex C hL hG) h
theorem xCt.mktv {Γ : zG} {l : Launch} {y : MethodName} {cc : ByteArray} {nL fr lo : Nat} {vals : List Value} {f : xN (Unit ⊕ Nat)} (hy : plainName y.cls = true) (hn : (lg_sl vals).length ≤ nL)
    (h : xRg Γ l y cc nL none fr lo f (zAt0 nL 0 (lv_args 0 vals) []) (xLT (zLv cc))) : xCt Γ l y (ws_ y cc nL none) fr lo vals f (xT xov) :=
  xCt.enter hy hn (fun p e R s m args below meth c So A0 A H locs x g th hex C hL hG => by
    cases x with
    | inl v => obtain ⟨rfl, hL⟩ := hL; exact xE_v C hL hG
    | inr a => obtain ⟨rfl, hL⟩ := hL; exact xE_t hex C hL hG) h
/-! calls: the invoking instruction has found its method -/
section XInv
variable {p : Program} {l : Launch} {e : Env} {R : Room} {s : State} {m : MethodId} {args : Array Value} {below : List Frame} {meth : Method} {c : Code} {T : State} {locs : List Loc} {cells slots : Nat}
def xInv (p : Program) (l : Launch) (e : Env) (R : Room) (s : State) (m : MethodId) (args : Array Value) (below : List Frame) (meth : Method) (c : Code) (T : State) (locs : List Loc) (cells slots : Nat) (g : JFrame) (rest : List Value) (y : MethodName) (vals : List Value) : Prop :=
  ∃ (vm₁ : Vm) (mk : MethodId), Stand p l e R s m args below meth c (T.setVm vm₁) locs cells slots ∧ (T.setVm vm₁).methodNamed? y = some mk ∧ ∀ target, (∀ acts, Steps p.tables e below (doInvoke e ((T.setVm vm₁).setTop { g with stack := rest }) acts mk vals.toArray).1 target) → Steps p.tables e below (T.setTop g) target
theorem xi_V (X : Stand p l e R s m args below meth c T locs cells slots) (hexec : p.tables.exec = Jvm.exec) {own C : String} {index : Nat} {y : MethodName} {bytes : ByteArray} {maxL : Nat} {ret : Option FieldType}
    (hown : s.vm.findClass own = some m.cls) (hlink : (Cond.methodLink own index y).before args s = true) (hinst : (Cond.instanceMethod y).before args s = true) (hsel : (Cond.selects C y y).before args s = true)
    (hcode : (Cond.code y bytes maxL ret).before args s = true) (hy : y.cls ≠ "java/lang/invoke/MethodHandle" ∧ y.cls ≠ "java/lang/invoke/VarHandle")
    {b : Addr} {cellB : Cell} (hcell : T.heap[b]? = some cellB) (hobj : cellB.vm.isStatics = false) (hcls : s.vm.findClass C = some cellB.cls)
    {g : JFrame} (hg : g.method = m) {argsL rest : List Value} (hlen : ∀ sig, parseMethodDescriptor y.desc = some sig → argsL.length = sig.parameters.length)
    (hstack : g.stack = argsL.reverse ++ .ref b :: rest) (hdg : decode c.code g.pc = .ok (.invokevirtual index, 3)) : xInv p l e R s m args below meth c T locs cells slots g rest y (.ref b :: argsL) := by
  obtain ⟨mk, methM, hnamed, hmethM, hstM, habM⟩ := Cond.instanceMethod_spec hinst
  obtain ⟨methM', cM, hmethM', -, -, -, -, -, -, hsigM⟩ := Cond.code_spec hnamed hcode
  cases hmethM.symm.trans hmethM'
  obtain ⟨c2, r2, m2, q1, q2, q3, q4, kP, hkP, hkPi⟩ := Cond.selects_spec hsel
  cases hcls.symm.trans q1
  cases (State.methodFound?_of_named hnamed hy).symm.trans q2
  cases hnamed.symm.trans q3
  have hselP : selectMethod e.platform s.vm cellB.cls mk = .method mk := by rw [Launch.admits_selectMethod X.admits]; exact q4
  obtain ⟨vm₁, X₁, hstep₁⟩ := X.invokevirtual hexec hown hlink hnamed hmethM hstM hkP hkPi hy (a := b) (cell := cellB) hcell
    (fun z h => by rw [h] at hobj; cases hobj) hselP hmethM habM hkP hkPi (g := g) hg (argsL := argsL) (rest := rest) (hlen _ hsigM) hstack hdg
  exact ⟨vm₁, mk, X₁, X₁.named hnamed, fun target h => hstep₁ target h⟩
theorem xi_VN (X : Stand p l e R s m args below meth c T locs cells slots) (hexec : p.tables.exec = Jvm.exec) {own C host : String} {index : Nat} {y : MethodName} {bytes : ByteArray} {maxL : Nat} {ret : Option FieldType}
    (hown : s.vm.findClass own = some m.cls) (hlink : (Cond.methodLinkNest own index y host).before args s = true) (hinst : (Cond.instanceMethod y).before args s = true) (hsel : (Cond.selects C y y).before args s = true)
    (hcode : (Cond.code y bytes maxL ret).before args s = true) (hy : y.cls ≠ "java/lang/invoke/MethodHandle" ∧ y.cls ≠ "java/lang/invoke/VarHandle")
    {b : Addr} {cellB : Cell} (hcell : T.heap[b]? = some cellB) (hobj : cellB.vm.isStatics = false) (hcls : s.vm.findClass C = some cellB.cls)
    {g : JFrame} (hg : g.method = m) {argsL rest : List Value} (hlen : ∀ sig, parseMethodDescriptor y.desc = some sig → argsL.length = sig.parameters.length)
    (hstack : g.stack = argsL.reverse ++ .ref b :: rest) (hdg : decode c.code g.pc = .ok (.invokevirtual index, 3)) : xInv p l e R s m args below meth c T locs cells slots g rest y (.ref b :: argsL) := by
  obtain ⟨mk, methM, hnamed, hmethM, hstM, habM⟩ := Cond.instanceMethod_spec hinst
  obtain ⟨methM', cM, hmethM', -, -, -, -, -, -, hsigM⟩ := Cond.code_spec hnamed hcode
  cases hmethM.symm.trans hmethM'
  obtain ⟨c2, r2, m2, q1, q2, q3, q4, kP, hkP, hkPi⟩ := Cond.selects_spec hsel
  cases hcls.symm.trans q1
  cases (State.methodFound?_of_named hnamed hy).symm.trans q2
  cases hnamed.symm.trans q3
  have hselP : selectMethod e.platform s.vm cellB.cls mk = .method mk := by rw [Launch.admits_selectMethod X.admits]; exact q4
  obtain ⟨vm₁, X₁, hstep₁⟩ := X.invokevirtualNest hexec hown hlink hnamed hmethM hstM hkP hkPi hy (a := b) (cell := cellB) hcell
    (fun z h => by rw [h] at hobj; cases hobj) hselP hmethM habM hkP hkPi (g := g) hg (argsL := argsL) (rest := rest) (hlen _ hsigM) hstack hdg
  exact ⟨vm₁, mk, X₁, X₁.named hnamed, fun target h => hstep₁ target h⟩
theorem xi_VU (X : Stand p l e R s m args below meth c T locs cells slots) (hexec : p.tables.exec = Jvm.exec) {own C owner : String} {index : Nat} {x y : MethodName}
    (hown : s.vm.findClass own = some m.cls) (hlink : (Cond.methodLink own index x).before args s = true) (hsame : (Cond.sameMethod x.cls owner x.name x.desc).before args s = true)
    (hd0 : va_Decl s ⟨owner, x.name, x.desc⟩) (howner : owner ≠ "java/lang/invoke/MethodHandle" ∧ owner ≠ "java/lang/invoke/VarHandle")
    (hsel : (Cond.selects C x y).before args s = true) (hinst : (Cond.instanceMethod y).before args s = true)
    {b : Addr} {cellB : Cell} (hcell : T.heap[b]? = some cellB) (hobj : cellB.vm.isStatics = false) (hcls : s.vm.findClass C = some cellB.cls)
    {g : JFrame} (hg : g.method = m) {argsL rest : List Value} (hlen : ∀ sig, parseMethodDescriptor x.desc = some sig → argsL.length = sig.parameters.length)
    (hstack : g.stack = argsL.reverse ++ .ref b :: rest) (hdg : decode c.code g.pc = .ok (.invokevirtual index, 3)) : xInv p l e R s m args below meth c T locs cells slots g rest y (.ref b :: argsL) := by
  obtain ⟨r0, r, hn, hrm, hstR, hsigR⟩ := hd0
  obtain ⟨cn, ck, r1, hcn, hck, hni, hf, hn1⟩ := Cond.sameMethod_found hsame
  cases hn.symm.trans hn1
  obtain ⟨mk, methM, hnamed, hmethM, -, habM⟩ := Cond.instanceMethod_spec hinst
  obtain ⟨c2, r2, m2, q1, q2, q3, q4, kP, hkP, hkPi⟩ := Cond.selects_spec hsel
  cases hcls.symm.trans q1
  cases hf.symm.trans q2
  cases hnamed.symm.trans q3
  have hselP : selectMethod e.platform s.vm cellB.cls r0 = .method mk := by rw [Launch.admits_selectMethod X.admits]; exact q4
  obtain ⟨vm₁, X₁, hstep₁⟩ := X.invokevirtualUp hexec hown hlink hsame howner hn hrm hstR (a := b) (cell := cellB) hcell
    (fun z h => by rw [h] at hobj; cases hobj) hselP hmethM habM hkP hkPi (g := g) hg (argsL := argsL) (rest := rest) (hlen _ hsigR) hstack hdg
  exact ⟨vm₁, mk, X₁, X₁.named hnamed, fun target h => hstep₁ target h⟩
theorem xi_S (X : Stand p l e R s m args below meth c T locs cells slots) (hexec : p.tables.exec = Jvm.exec) {own : String} {index : Nat} {y : MethodName} {bytes : ByteArray} {maxL : Nat} {ret : Option FieldType}
    (hown : s.vm.findClass own = some m.cls) (hlink : (Cond.methodLink own index y).before args s = true) (hstat : (Cond.static y).before args s = true) (hinit : (Cond.initialized y.cls).before args s = true)
    (hcode : (Cond.code y bytes maxL ret).before args s = true) (hy : y.cls ≠ "java/lang/invoke/MethodHandle" ∧ y.cls ≠ "java/lang/invoke/VarHandle")
    {g : JFrame} (hg : g.method = m) {argsL rest : List Value} (hlen : ∀ sig, parseMethodDescriptor y.desc = some sig → argsL.length = sig.parameters.length)
    (hstack : g.stack = argsL.reverse ++ rest) (hdg : decode c.code g.pc = .ok (.invokestatic index, 3)) : xInv p l e R s m args below meth c T locs cells slots g rest y argsL := by
  obtain ⟨mk, hnamed⟩ := Cond.code_named hcode
  obtain ⟨methM, cM, hmethM, -, -, -, -, -, -, hsigM⟩ := Cond.code_spec hnamed hcode
  have hstatic : methM.isStatic = true := Cond.static_spec hnamed hmethM hstat
  obtain ⟨kP, hkP, -⟩ := className_of_methodNamed hnamed
  have hinitP : kP.init = .initialized := Cond.initialized_spec (findClass_of_methodNamed hnamed) hkP hinit
  obtain ⟨vm₁, X₁, hstep₁⟩ := X.invokestatic hexec hown hlink hnamed hmethM hstatic hkP hinitP hy (g := g) hg (argsL := argsL) (rest := rest) (hlen _ hsigM) hstack hdg
  exact ⟨vm₁, mk, X₁, X₁.named hnamed, fun target h => hstep₁ target h⟩
theorem xi_SN (X : Stand p l e R s m args below meth c T locs cells slots) (hexec : p.tables.exec = Jvm.exec) {own host : String} {index : Nat} {y : MethodName} {bytes : ByteArray} {maxL : Nat} {ret : Option FieldType}
    (hown : s.vm.findClass own = some m.cls) (hlink : (Cond.methodLinkNest own index y host).before args s = true) (hstat : (Cond.static y).before args s = true) (hinit : (Cond.initialized y.cls).before args s = true)
    (hcode : (Cond.code y bytes maxL ret).before args s = true) (hy : y.cls ≠ "java/lang/invoke/MethodHandle" ∧ y.cls ≠ "java/lang/invoke/VarHandle")
    {g : JFrame} (hg : g.method = m) {argsL rest : List Value} (hlen : ∀ sig, parseMethodDescriptor y.desc = some sig → argsL.length = sig.parameters.length)
    (hstack : g.stack = argsL.reverse ++ rest) (hdg : decode c.code g.pc = .ok (.invokestatic index, 3)) : xInv p l e R s m args below meth c T locs cells slots g rest y argsL := by
  obtain ⟨mk, hnamed⟩ := Cond.code_named hcode
  obtain ⟨methM, cM, hmethM, -, -, -, -, -, -, hsigM⟩ := Cond.code_spec hnamed hcode
  have hstatic : methM.isStatic = true := Cond.static_spec hnamed hmethM hstat
  obtain ⟨kP, hkP, -⟩ := className_of_methodNamed hnamed
  have hinitP : kP.init = .initialized := Cond.initialized_spec (findClass_of_methodNamed hnamed) hkP hinit
  obtain ⟨vm₁, X₁, hstep₁⟩ := X.invokestaticNest hexec hown hlink hnamed hmethM hstatic hkP hinitP hy (g := g) hg (argsL := argsL) (rest := rest) (hlen _ hsigM) hstack hdg
  exact ⟨vm₁, mk, X₁, X₁.named hnamed, fun target h => hstep₁ target h⟩
theorem xi_I (X : Stand p l e R s m args below meth c T locs cells slots) (hexec : p.tables.exec = Jvm.exec) {own : String} {index : Nat} {y : MethodName} {bytes : ByteArray} {maxL : Nat}
    (hown : s.vm.findClass own = some m.cls) (hy1 : y.name = "<init>") (hlink : (Cond.methodLink own index y).before args s = true) (hinst : (Cond.instanceMethod y).before args s = true)
    (hcode : (Cond.code y bytes maxL none).before args s = true) (hy : y.cls ≠ "java/lang/invoke/MethodHandle" ∧ y.cls ≠ "java/lang/invoke/VarHandle")
    {g : JFrame} (hg : g.method = m) {a : Addr} {argsL rest : List Value} (hlen : ∀ sig, parseMethodDescriptor y.desc = some sig → argsL.length = sig.parameters.length)
    (hstack : g.stack = argsL.reverse ++ .ref a :: rest) (hdg : decode c.code g.pc = .ok (.invokespecial index, 3)) : xInv p l e R s m args below meth c T locs cells slots g rest y (.ref a :: argsL) := by
  subst hg
  have hpl : e.platform.magicAccessors = ({} : Platform).magicAccessors := by rw [X.admits.platform]
  obtain ⟨mk, methM, cM, kP, vm₁, hnamed, hmethM, hcodeM, -, hlocalsM, -, hkP, -, hW₁, hstep₁⟩ := Steps.initColdArgs (e := e) X.here hexec X.warmed hpl hown hy1 hy hlink hinst hcode (f := g) rfl hlen hstack hdg
  exact ⟨vm₁, mk, X.noted hW₁, (X.noted hW₁).named hnamed, fun target h => hstep₁ target h⟩
theorem xi_IN (X : Stand p l e R s m args below meth c T locs cells slots) (hexec : p.tables.exec = Jvm.exec) {own host : String} {index : Nat} {y : MethodName} {bytes : ByteArray} {maxL : Nat}
    (hown : s.vm.findClass own = some m.cls) (hy1 : y.name = "<init>") (hlink : (Cond.methodLinkNest own index y host).before args s = true) (hinst : (Cond.instanceMethod y).before args s = true)
    (hcode : (Cond.code y bytes maxL none).before args s = true) (hy : y.cls ≠ "java/lang/invoke/MethodHandle" ∧ y.cls ≠ "java/lang/invoke/VarHandle")
    {g : JFrame} (hg : g.method = m) {a : Addr} {argsL rest : List Value} (hlen : ∀ sig, parseMethodDescriptor y.desc = some sig → argsL.length = sig.parameters.length)
    (hstack : g.stack = argsL.reverse ++ .ref a :: rest) (hdg : decode c.code g.pc = .ok (.invokespecial index, 3)) : xInv p l e R s m args below meth c T locs cells slots g rest y (.ref a :: argsL) := by
  subst hg
  have hpl : e.platform.magicAccessors = ({} : Platform).magicAccessors := by rw [X.admits.platform]
  obtain ⟨mk, methM, cM, kP, vm₁, hnamed, hmethM, hcodeM, -, hlocalsM, -, hkP, -, hW₁, hstep₁⟩ := Steps.initColdArgsNest (e := e) X.here hexec X.warmed hpl hown hy1 hy hlink hinst hcode (f := g) rfl hlen hstack hdg
  exact ⟨vm₁, mk, X.noted hW₁, (X.noted hW₁).named hnamed, fun target h => hstep₁ target h⟩
end XInv
section XCall
variable {Γ : zG} {p : Program} {l : Launch} {e : Env} {R : Room} {s : State} {m : MethodId} {args : Array Value} {below : List Frame} {meth : Method} {c : Code} {H : Heap} {locs : List Loc} {Q : State → Prop} {A0 A : zA} {So : Option zS}
variable {cc bytes : ByteArray} {nL pc fr lo maxL n index fr1 lo1 : Nat} {own nm : String} {ret ret1 : Option FieldType} {ls : Array Slot} {rest vals st0 : List Value} {y : MethodName}
/-- THE CALL, whatever its instruction and its end -/
theorem zx_call {α β : Type} {f : xN α} {K : α → xN β} {r : β × zA} {out : α → Outcome} {ig : Instr} (C : xCx Γ p R s m args meth c cc nL own ret fr lo nm A0) (hG : xR Γ A0 A So H locs) (hf : nB f K A = some r) (hM : xCt Γ l y (ws_ y bytes maxL ret1) fr1 lo1 vals f out) (hq : Cond.code y bytes maxL ret1 ∈ lw_all) (hini : Cond.initialized y.cls ∈ lw_all)
    (hfr : fr1 + 1 ≤ fr) (hlo : 8 + (maxL + 11) + lo1 ≤ lo) (hl : ls.size = nL) (hst : (rest.map fun v => v.category).sum ≤ 8) (hd : decode cc pc = .ok (ig, 3))
    (hinv : ∀ T : State, T.heap = H → Stand p l e R s m args below meth c T locs (A_nc A - A_nc A0) (A_us A - A_us A0) → xInv p l e R s m args below meth c T locs (A_nc A - A_nc A0) (A_us A - A_us A0) (F0 m pc ls st0) rest y vals)
    (kk : ∀ (v : α) (A1 : zA) (H1 : Heap) (locs1 : List Loc), xR Γ A0 A1 So H1 locs1 → K v A1 = some r →
      (∀ w, out v = .returned w → W p l e R s m args below meth c H1 locs1 (A_nc A1 - A_nc A0) (A_us A1 - A_us A0) Q (F0 m (pc + 3) ls (w.toList ++ rest))) ∧ (∀ x, out v = .threw x → WT p l e R s m args below meth c H1 locs1 (A_nc A1 - A_nc A0) (A_us A1 - A_us A0) Q (F0 m pc ls rest) x)) :
    W p l e R s m args below meth c H locs (A_nc A - A_nc A0) (A_us A - A_us A0) Q (F0 m pc ls st0) := by
  obtain ⟨v, A1, h1, h2⟩ := nB_some hf
  obtain ⟨⟨hx, hb, hml, hown, hts⟩, hr, hlk, hK, hR1, hR2, hRc, hRs, hnm⟩ := C
  have hG4 := hG.2.2.2
  have hM1 := hM So A A1 v hG4 h1
  intro T hT X
  obtain ⟨vm₁, mk, X₁, hn, hgo⟩ := hinv T hT X
  have g2 := hG.2.1
  have g3 := hG.2.2.1
  have hok1 := hG4.1
  have hok2 := hG4.2
  have hgood : GoodIn lw_all (ws_ y bytes maxL ret1) := lw_meth hq
  have hwords : ∀ w ∈ ws_ y bytes maxL ret1, w.before vals.toArray (T.setVm vm₁) = true := fun w hw => pay_in hts hgood w hw _ _ X₁.warmed
  have h3 : (Cond.initialized y.cls).before vals.toArray (T.setVm vm₁) = true := word_at X₁.warmed (Or.inl (by first | rfl | simp [Cond.onTables, Cond.keeps, Cond.steady])) (hts _ hini)
  have h2w : (Cond.code y bytes maxL ret1).before vals.toArray (T.setVm vm₁) = true := hwords _ List.mem_cons_self
  obtain ⟨methY, cY, hmY, hcY, -, hlY, -, -, -, -⟩ := Cond.code_spec hn h2w
  obtain ⟨kY, hkY, -⟩ := className_of_methodNamed hn
  have hinitY : kY.init = .initialized := Cond.initialized_spec (findClass_of_methodNamed hn) hkY h3
  have hdc : decode c.code (F0 m pc ls rest).pc = .ok (ig, 3) := by rw [hb]; exact hd
  have happ : (headSpec (ws_ y bytes maxL ret1) { frames := fr1, cells := 601024 - A_nc A, slots := 7293034 - A_us A, locals := lo1 }).appliesLoose y e.platform ((T.setVm vm₁).calling (F0 m pc ls rest) mk vals.toArray) = true :=
    Spec.appliesLoose_calling (g := F0 m pc ls rest) X₁.here hdc hn hkY hinitY
      (X₁.room_calling (g := F0 m pc ls rest) (R' := { frames := fr1, cells := 601024 - A_nc A, slots := 7293034 - A_us A, locals := lo1 }) (hl.trans hml.symm) hmY hcY (Nat.le_trans hfr hR1) (by rw [hlY]; have := lv_room (m := m) (pc := pc) (ls := ls) (rest := rest) hst; have h9 : (F0 m pc ls rest).stack = rest := rfl; rw [h9]; show _ + lo1 ≤ R.locals; omega) (by show _ + (601024 - A_nc A) ≤ R.cells; omega) (by show _ + (7293034 - A_us A) ≤ R.slots; omega)) (atoms_intro hwords)
  have hfrm : ((T.setVm vm₁).setTop (F0 m pc ls rest)).frames = ([.java (F0 m pc ls rest)] : List Frame) ++ below := by rw [State.frames_setTop' _ X₁.here.top, X₁.tail]; rfl
  obtain ⟨o, s₂, hsteps, -, hend, ⟨⟨ho, hrel, q1, q2, q3⟩, L, hfe, hL⟩⟩ := Steps.callFree hM1 p X₁.admits X₁.cas X₁.clock (acts := []) hfrm happ ⟨rfl, by show zRel Γ A So T.heap; rw [hT]; exact hG.1.1, hK.moved X₁.warmed⟩ trivial
  rw [hfrm] at hend
  have hgo2 : ∀ t, Steps p.tables e below s₂ t → Steps p.tables e below (T.setTop (F0 m pc ls st0)) t := fun t h9 => hgo t (fun acts => by rw [doInvoke_state] at hsteps ⊢; exact hsteps.trans h9)
  have hR' : ∀ (T' : State), T'.heap = s₂.heap → xR Γ A0 A1 So T'.heap (locs ++ L) := fun T' hT' => ⟨⟨by rw [hT']; exact hrel, fun q hq => by
    rcases List.mem_append.mp hq with h | h
    · exact hG.1.2 q h
    · exact hL q h⟩, by omega, by omega, q3⟩
  have ec : A_nc A - A_nc A0 + (A_nc A1 - A_nc A) = A_nc A1 - A_nc A0 := by omega
  have es : A_us A - A_us A0 + (A_us A1 - A_us A) = A_us A1 - A_us A0 := by omega
  cases o with
  | returned w =>
    obtain ⟨T', X', -, -, e9⟩ := X₁.outOf (g := F0 m pc ls rest) rfl hdc hend hfe.1 hfe.2
    have hh : T'.heap = s₂.heap := by rw [e9]; rfl
    rw [ec, es] at X'
    obtain ⟨t2, a1, b1⟩ := (kk v A1 T'.heap (locs ++ L) (hR' T' hh) h2).1 w ho.symm T' rfl X'
    refine ⟨t2, hgo2 t2 ?_, b1⟩
    rw [e9]
    exact a1
  | threw x =>
    obtain ⟨T', X', -, -, e9⟩ := X₁.outOfThrown (g := F0 m pc ls rest) rfl hend hfe.1 hfe.2
    have hh : T'.heap = s₂.heap := by
      rw [e9]
      show T'.heap = ((T'.setTop (F0 m pc ls rest)).pushFrame (.throwing x)).heap
      rfl
    rw [ec, es] at X'
    obtain ⟨t2, a1, b1⟩ := (kk v A1 T'.heap (locs ++ L) (hR' T' hh) h2).2 x ho.symm T' rfl X'
    refine ⟨t2, hgo2 t2 ?_, b1⟩
    rw [e9]
    exact a1
end XCall
