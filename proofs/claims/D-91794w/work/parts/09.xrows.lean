set_option maxRecDepth 100000
/-! STAGE 1, PretendDesk's rows: the abstract heap's operations -/
abbrev xN (α : Type) : Type := zN zA α
def xu {α : Type} (f : Nat → Nat → α) (k a : Nat) (v : α) : Nat → Nat → α := fun k' a' => if k' = k ∧ a' = a then v else f k' a'
/-- fields -/
def A_sfi (A : zA) (k a : Nat) (v : Int32) : zA := (A.1, A.2.1, A.2.2.1, A.2.2.2.1, xu A.2.2.2.2.1 k a v, A.2.2.2.2.2)
def A_sfl (A : zA) (k a : Nat) (v : Int64) : zA := (A.1, A.2.1, A.2.2.1, A.2.2.2.1, A.2.2.2.2.1, xu A.2.2.2.2.2.1 k a v, A.2.2.2.2.2.2)
def A_sfr (A : zA) (k a : Nat) (v : Option Nat) : zA := (A.1, A.2.1, A.2.2.1, A.2.2.2.1, A.2.2.2.2.1, A.2.2.2.2.2.1, xu A.2.2.2.2.2.2.1 k a v, A.2.2.2.2.2.2.2)
/-- whole arrays -/
def A_sai (A : zA) (a : Nat) (f : Nat → Int32) : zA := (A.1, A.2.1, A.2.2.1, A.2.2.2.1, A.2.2.2.2.1, A.2.2.2.2.2.1, A.2.2.2.2.2.2.1, va_up A.2.2.2.2.2.2.2.1 a f, A.2.2.2.2.2.2.2.2)
def A_sal (A : zA) (a : Nat) (f : Nat → Int64) : zA := (A.1, A.2.1, A.2.2.1, A.2.2.2.1, A.2.2.2.2.1, A.2.2.2.2.2.1, A.2.2.2.2.2.2.1, A.2.2.2.2.2.2.2.1, va_up A.2.2.2.2.2.2.2.2.1 a f, A.2.2.2.2.2.2.2.2.2)
def A_sar (A : zA) (a : Nat) (f : Nat → Option Nat) : zA := (A.1, A.2.1, A.2.2.1, A.2.2.2.1, A.2.2.2.2.1, A.2.2.2.2.2.1, A.2.2.2.2.2.2.1, A.2.2.2.2.2.2.2.1, A.2.2.2.2.2.2.2.2.1, va_up A.2.2.2.2.2.2.2.2.2.1 a f, A.2.2.2.2.2.2.2.2.2.2)
/-- a new cell of kind d, with n slots, of length n: all its fields and elements are 0 or null -/
def A_new (A : zA) (d n : Nat) : zA :=
  (A.1 + 1, A.2.1 + n, va_up A.2.2.1 (A_bs A + A.1) d, va_up A.2.2.2.1 (A_bs A + A.1) n, (fun k => va_up (A.2.2.2.2.1 k) (A_bs A + A.1) 0), (fun k => va_up (A.2.2.2.2.2.1 k) (A_bs A + A.1) 0), (fun k => va_up (A.2.2.2.2.2.2.1 k) (A_bs A + A.1) none),
    va_up A.2.2.2.2.2.2.2.1 (A_bs A + A.1) (fun _ => 0), va_up A.2.2.2.2.2.2.2.2.1 (A_bs A + A.1) (fun _ => 0), va_up A.2.2.2.2.2.2.2.2.2.1 (A_bs A + A.1) (fun _ => none), A.2.2.2.2.2.2.2.2.2.2)
def A_skd (A : zA) (a d : Nat) : zA := (A.1, A.2.1, va_up A.2.2.1 a d, A.2.2.2)
def gI (k ci a : Nat) : xN Int32 := fun A => if A_kd A a = ci + 1 then some (A_fi A k a, A) else none
def gL (k ci a : Nat) : xN Int64 := fun A => if A_kd A a = ci + 1 then some (A_fl A k a, A) else none
def gR (k ci a : Nat) : xN (Option Nat) := fun A => if A_kd A a = ci + 1 then some (A_fr A k a, A) else none
def pI (k ci a : Nat) (v : Int32) : xN Unit := fun A => if A_kd A a = ci + 1 then some ((), A_sfi A k a v) else none
def pZ (k ci a : Nat) (v : Int32) : xN Unit := fun A => if A_kd A a = ci + 1 ∧ (v = 0 ∨ v = 1) then some ((), A_sfi A k a v) else none
def pL (k ci a : Nat) (v : Int64) : xN Unit := fun A => if A_kd A a = ci + 1 then some ((), A_sfl A k a v) else none
def pR (k ci a : Nat) (v : Option Nat) : xN Unit := fun A => if A_kd A a = ci + 1 then some ((), A_sfr A k a v) else none
def xin (A : zA) (t a : Nat) (i : Int32) : Prop := A_kd A a = 101 + t ∧ ¬ (i < 0 ∨ A_ln A a ≤ i.toNatClampNeg)
def aI (t a : Nat) (i : Int32) : xN Int32 := fun A => if A_kd A a = 101 + t ∧ ¬ (i < 0 ∨ A_ln A a ≤ i.toNatClampNeg) then some (A_ai A a i.toNatClampNeg, A) else none
def aL (a : Nat) (i : Int32) : xN Int64 := fun A => if A_kd A a = 104 ∧ ¬ (i < 0 ∨ A_ln A a ≤ i.toNatClampNeg) then some (A_al A a i.toNatClampNeg, A) else none
def aR (t a : Nat) (i : Int32) : xN (Option Nat) := fun A => if A_kd A a = 101 + t ∧ ¬ (i < 0 ∨ A_ln A a ≤ i.toNatClampNeg) then some (A_ar A a i.toNatClampNeg, A) else none
/-- into an int array; into a byte array; a long array; an array of references to objects of class ci -/
def sI (a : Nat) (i v : Int32) : xN Unit := fun A => if A_kd A a = 101 ∧ ¬ (i < 0 ∨ A_ln A a ≤ i.toNatClampNeg) then some ((), A_sai A a (upd (A_ai A a) i.toNatClampNeg v)) else none
def sB (a : Nat) (i v : Int32) : xN Unit := fun A => if A_kd A a = 102 ∧ ¬ (i < 0 ∨ A_ln A a ≤ i.toNatClampNeg) then some ((), A_sai A a (upd (A_ai A a) i.toNatClampNeg v.toInt8.toInt32)) else none
def sL (a : Nat) (i : Int32) (v : Int64) : xN Unit := fun A => if A_kd A a = 104 ∧ ¬ (i < 0 ∨ A_ln A a ≤ i.toNatClampNeg) then some ((), A_sal A a (vp_updL (A_al A a) i.toNatClampNeg v)) else none
def sR (t ci a : Nat) (i : Int32) (v : Nat) : xN Unit := fun A => if (A_kd A a = 101 + t ∧ A_kd A v = ci + 1) ∧ ¬ (i < 0 ∨ A_ln A a ≤ i.toNatClampNeg) then some ((), A_sar A a (va_up (A_ar A a) i.toNatClampNeg (some v))) else none
def aN (a : Nat) : xN Int32 := fun A => if 101 ≤ A_kd A a ∧ A_kd A a < 114 then some (zi (A_ln A a : Nat), A) else none
/-- a new object of class ci with N fields, a new array -/
def nO (d N : Nat) : xN Nat := fun A => if A_nc A + 1 ≤ 601024 ∧ A_us A + N ≤ 7293034 then some (A_bs A + A_nc A, A_new A d N) else none
def nA (t : Nat) (n : Int32) : xN Nat := fun A => if (¬ n < 0 ∧ n.toNatClampNeg ≤ 1000000) ∧ A_nc A + 1 ≤ 601024 ∧ A_us A + n.toNatClampNeg ≤ 7293034 then some (A_bs A + A_nc A, A_new A (101 + t) n.toNatClampNeg) else none
/-- a reference that must be there -/
def nN {β : Type} (o : Option Nat) (k : Nat → xN β) : xN β := match o with
  | some a => k a
  | none => nX
theorem z_nn {β : Type} {o : Option Nat} {k : Nat → xN β} {A : zA} {r : β × zA} (hf : nN o k A = some r) : ∃ a, o = some a ∧ k a A = some r := by
  cases o with
  | none => cases hf
  | some a => exact ⟨a, rfl, hf⟩
theorem z_ns {β : Type} {a : Nat} {k : Nat → xN β} {A : zA} {r : β × zA} (hf : nN (some a) k A = some r) : k a A = some r := hf
theorem z_if {α : Type} {c : Prop} [Decidable c] {x y : α} (h : (if c then some x else none) = some y) : c ∧ x = y := by
  by_cases hc : c
  · rw [if_pos hc] at h; cases h; exact ⟨hc, rfl⟩
  · rw [if_neg hc] at h; cases h
/-! one cell of the picture -/
def zC (Γ : zG) (A : zA) (H : Heap) (a : Nat) : Prop :=
  (∀ ci q, A_kd A a = ci + 1 → ci ≠ 12 → zCL[ci]? = some q → t_OB a ((G_D Γ).1 ci) q.2.2 ((G_D Γ).2 ci) H (zfv A ci a)) ∧
  (A_kd A a = 13 → ∃ cell : Cell, H[a]? = some cell ∧ cell.cls = (G_D Γ).1 12 ∧ cell.vm = .none ∧ cell.slots[(G_D Γ).2 12 6]? = some (.int (A_fi A 1206 a)) ∧ (A_ln A a = 7 → ∃ kX : Class, (G_0 Γ).vm.classes[(G_D Γ).1 12]? = some kX ∧ cell = { cls := (G_D Γ).1 12, slots := kX.instanceTypes.map defaultValue, vm := .none })) ∧
  (∀ t, A_kd A a = 101 + t → t < 13 → H[a]? = some (vp_cell (G_a Γ t) (zarr A t a)) ∧ A_ln A a < 2147483648 ∧ (t = 1 → ∀ j, (A_ai A a j).toInt8.toInt32 = A_ai A a j))
theorem zRX.mk {Γ : zG} {A : zA} {H : Heap} (h1 : H.size = (G_H Γ).size + A_nc A) (h2 : ∀ a, A_kd A a ≠ 0 → (G_H Γ).size ≤ a ∧ a < H.size) (h : ∀ a, zC Γ A H a) (h3 : A_bs A = (G_H Γ).size) (h4 : A_st A = G_s Γ) : zRX Γ A H :=
  ⟨h1, h2, fun a => (h a).1, fun a => (h a).2.1, fun a => (h a).2.2, trivial, h3, h4⟩
theorem zRX.c {Γ : zG} {A : zA} {H : Heap} (h : zRX Γ A H) (a : Nat) : zC Γ A H a := ⟨h.2.2.1 a, h.2.2.2.1 a, h.2.2.2.2.1 a⟩
/-- A and A' say the same of the cell a -/
def zSame (A A' : zA) (a : Nat) : Prop := A_kd A' a = A_kd A a ∧ A_ln A' a = A_ln A a ∧ (∀ k, A_fi A' k a = A_fi A k a) ∧ (∀ k, A_fl A' k a = A_fl A k a) ∧ (∀ k, A_fr A' k a = A_fr A k a) ∧ A_ai A' a = A_ai A a ∧ A_al A' a = A_al A a ∧ A_ar A' a = A_ar A a
theorem zSame.fv {A A' : zA} {a : Nat} (h : zSame A A' a) (ci k : Nat) : zfv A' ci a k = zfv A ci a k := by
  obtain ⟨h1, h2, h3, h4, h5, h6, h7, h8⟩ := h
  simp only [zfv, h3, h4, h5]
theorem zSame.arr {A A' : zA} {a : Nat} (h : zSame A A' a) (t : Nat) : zarr A' t a = zarr A t a := by
  obtain ⟨h1, h2, h3, h4, h5, h6, h7, h8⟩ := h
  simp only [zarr, h2, h6, h7, h8]
theorem zC.kept {Γ : zG} {A A' : zA} {H H1 : Heap} {a : Nat} (h : zC Γ A H a) (hs : zSame A A' a) (ho : H1[a]? = H[a]?) : zC Γ A' H1 a := by
  obtain ⟨h1, h2, h3⟩ := h
  refine ⟨fun ci q e1 e2 e3 => ?_, fun e1 => ?_, fun t e1 e2 => ?_⟩
  · rw [hs.1] at e1
    exact ((h1 ci q e1 e2 e3).kept ho).to (fun k _ => (hs.fv ci k).symm)
  · rw [hs.1] at e1
    rw [ho, hs.2.2.1, hs.2.1]; exact h2 e1
  · rw [hs.1] at e1
    rw [ho, hs.arr, hs.2.1, hs.2.2.2.2.2.1]; exact h3 t e1 e2
theorem zCL_lt {ci : Nat} {q : vw_C} (h : zCL[ci]? = some q) : ci < 20 := (List.getElem?_eq_some_iff.mp h).1
theorem zC.obj {Γ : zG} {A : zA} {H : Heap} {a ci : Nat} {q : vw_C} (hk : A_kd A a = ci + 1) (hn : ci ≠ 12) (hc : zCL[ci]? = some q) (h : t_OB a ((G_D Γ).1 ci) q.2.2 ((G_D Γ).2 ci) H (zfv A ci a)) : zC Γ A H a := by
  have hl := zCL_lt hc
  refine ⟨fun ci' q' e1 e2 e3 => ?_, fun e1 => ?_, fun t e1 e2 => ?_⟩
  · have : ci' = ci := by omega
    subst this
    cases hc.symm.trans e3
    exact h
  · omega
  · omega
theorem zC.arrs {Γ : zG} {A : zA} {H : Heap} {a t : Nat} (hk : A_kd A a = 101 + t) (ht : t < 13) (h : H[a]? = some (vp_cell (G_a Γ t) (zarr A t a))) (hl : A_ln A a < 2147483648) (hb : t = 1 → ∀ j, (A_ai A a j).toInt8.toInt32 = A_ai A a j) : zC Γ A H a := by
  refine ⟨fun ci' q' e1 e2 e3 => ?_, fun e1 => ?_, fun t' e1 e2 => ?_⟩
  · have := zCL_lt e3; omega
  · omega
  · have : t' = t := by omega
    subst this
    exact ⟨h, hl, hb⟩
/-- one cell is written -/
theorem zRel.xset {Γ : zG} {A A' : zA} {So : Option zS} {H H1 : Heap} {a : Nat} (h : zRel Γ A So H) (hk0 : A_kd A a ≠ 0) (hkd : ∀ b, A_kd A' b = 0 ↔ A_kd A b = 0) (hnc : A_nc A' = A_nc A) (hbs : A_bs A' = A_bs A) (hst : A_st A' = A_st A) (hs : ∀ b, b ≠ a → zSame A A' b) (z : H1.size = H.size) (o : ∀ x : Nat, x ≠ a → H1[x]? = H[x]?) (hc : zC Γ A' H1 a) : zRel Γ A' So H1 := by
  obtain ⟨h1, h2, h3⟩ := h
  have hb := h1.2.1 a hk0
  refine ⟨zRX.mk (by rw [z, hnc]; exact h1.1) (fun b hb2 => by rw [z]; exact h1.2.1 b (fun e => hb2 ((hkd b).mpr e))) (fun b => ?_) (by rw [hbs]; exact h1.2.2.2.2.2.2.1) (by rw [hst]; exact h1.2.2.2.2.2.2.2), fun S e => ?_, fun q hq => ?_⟩
  · by_cases hba : b = a
    · rw [hba]; exact hc
    · exact (h1.c b).kept (hs b hba) (o b hba)
  · obtain ⟨⟨g1, g2, g3, g4⟩, g5⟩ := h2 S e
    have ne : ∀ i, zus i → G_m Γ i ≠ a := fun i hi e9 => hk0 (by rw [← e9]; exact g5 i hi)
    refine ⟨⟨g1.kept (o _ (ne 0 (Or.inl rfl))), fun k hk hs9 => ?_, g3, g4⟩, fun i hi => (hkd _).mpr (g5 i hi)⟩
    rw [o _ (ne (k + 1) (Or.inr ⟨k, rfl, hk, hs9⟩))]
    exact g2 k hk hs9
  · rw [o q (fun e => by omega)]
    exact h3 q hq
/-- a new cell -/
theorem zRel.xnew {Γ : zG} {A : zA} {So : Option zS} {H H1 : Heap} {d n : Nat} (h : zRel Γ A So H) (z : H1.size = H.size + 1) (o : ∀ x : Nat, x < H.size → H1[x]? = H[x]?) (hc : zC Γ (A_new A d n) H1 H.size) : zRel Γ (A_new A d n) So H1 ∧ A_bs A + A_nc A = H.size := by
  obtain ⟨h1, h2, h3⟩ := h
  have e0 : A_bs A + A.1 = H.size := by rw [h1.1, h1.2.2.2.2.2.2.1]; rfl
  have sm : ∀ b, b ≠ H.size → zSame A (A_new A d n) b := by
    intro b hb
    have hb' : ¬ b = A_bs A + A.1 := by rw [e0]; exact hb
    refine ⟨?_, ?_, fun k => ?_, fun k => ?_, fun k => ?_, ?_, ?_, ?_⟩
    · show va_up _ _ _ b = _
      simp [va_up, hb', A_kd]
    · show va_up _ _ _ b = _
      simp [va_up, hb', A_ln]
    · show va_up _ _ _ b = _
      simp [va_up, hb', A_fi]
    · show va_up _ _ _ b = _
      simp [va_up, hb', A_fl]
    · show va_up _ _ _ b = _
      simp [va_up, hb', A_fr]
    · show va_up _ _ _ b = _
      simp [va_up, hb', A_ai]
    · show va_up _ _ _ b = _
      simp [va_up, hb', A_al]
    · show va_up _ _ _ b = _
      simp [va_up, hb', A_ar]
  have hsz : (G_H Γ).size ≤ H.size := by rw [h1.1]; exact Nat.le_add_right _ _
  refine ⟨⟨zRX.mk (by rw [z, h1.1]; rfl) (fun b hb => ?_) (fun b => ?_) h1.2.2.2.2.2.2.1 h1.2.2.2.2.2.2.2, fun S e => ?_, fun q hq => ?_⟩, e0⟩
  · by_cases hbz : b = H.size
    · rw [hbz]; exact ⟨hsz, by omega⟩
    · have := h1.2.1 b (by rw [← (sm b hbz).1]; exact hb)
      exact ⟨this.1, by omega⟩
  · by_cases hbz : b = H.size
    · rw [hbz]; exact hc
    · by_cases hk : A_kd A b = 0
      · have hk' : A_kd (A_new A d n) b = 0 := by rw [(sm b hbz).1]; exact hk
        exact ⟨fun ci q e1 => by omega, fun e1 => by omega, fun t e1 => by omega⟩
      · exact (h1.c b).kept (sm b hbz) (o b (h1.2.1 b hk).2)
  · obtain ⟨⟨g1, g2, g3, g4⟩, g5⟩ := h2 S e
    have lt0 : G_m Γ 0 < H.size := by
      obtain ⟨cell, q1, -⟩ := g1
      exact (Array.getElem?_eq_some_iff.mp q1).1
    have ltk : ∀ k, k < 49 → zsrt k ≠ 0 → G_m Γ (k + 1) < H.size := fun k hk hs => (Array.getElem?_eq_some_iff.mp (g2 k hk hs)).1
    refine ⟨⟨g1.kept (o _ lt0), fun k hk hs9 => by rw [o _ (ltk k hk hs9)]; exact g2 k hk hs9, g3, g4⟩, fun i hi => ?_⟩
    have hlt : G_m Γ i < H.size := by
      rcases hi with rfl | ⟨k, rfl, hk, hs⟩
      · exact lt0
      · exact ltk k hk hs
    rw [(sm _ (Nat.ne_of_lt hlt)).1]
    exact g5 i hi
  · rw [o q (Nat.lt_of_lt_of_le hq hsz)]
    exact h3 q hq
/-! the context of a walk -/
def xOK (A : zA) : Prop := A_nc A ≤ 601024 ∧ A_us A ≤ 7293034
def xR (Γ : zG) (A0 A : zA) (So : Option zS) (H : Heap) (locs : List Loc) : Prop := zR Γ A So H locs ∧ A_nc A0 ≤ A_nc A ∧ A_us A0 ≤ A_us A ∧ xOK A
def xCx (Γ : zG) (p : Program) (R : Room) (s : State) (m : MethodId) (args : Array Value) (meth : Method) (c : Code) (cc : ByteArray) (nL : Nat) (own : String) (ret : Option FieldType) (fr lo : Nat) (nm : String) (A0 : zA) : Prop :=
  CallFix p m c cc nL s args lw_all own ∧ meth.sig.returnType = ret ∧ meth.locks = false ∧ zK Γ s ∧ fr ≤ R.frames ∧ lo ≤ R.locals ∧ 601024 ≤ R.cells + A_nc A0 ∧ 7293034 ≤ R.slots + A_us A0 ∧ meth.name = nm
section XR
variable {Γ : zG} {p : Program} {l : Launch} {e : Env} {R : Room} {s : State} {m : MethodId} {args : Array Value} {below : List Frame} {meth : Method} {c : Code} {H : Heap} {locs : List Loc} {cells slots : Nat} {Q : State → Prop} {A0 A : zA} {So : Option zS}
variable {cc : ByteArray} {nL pc fr lo : Nat} {own nm : String} {ret : Option FieldType} {ls : Array Slot} {rest : List Value}
theorem zx_get (C : xCx Γ p R s m args meth c cc nL own ret fr lo nm A0) (hG : xR Γ A0 A So H locs) (ci k : Nat) {a idx : Nat} {q : vw_C} {ref : String} (hkd : A_kd A a = ci + 1) (hci : ci ≠ 12) (hc : zCL[ci]? = some q) (hk : k < q.2.2) (hin : ∀ w ∈ u_ws q.1 q.2.1 q.2.2, w ∈ lw_all) (hq : Cond.fieldLink own idx ref (q.2.1 k).2.1 (q.2.1 k).2.2.1 ∈ lw_all) (hsame : ∀ x, s.fieldFound? (q.2.1 k).1 (q.2.1 k).2.1 (q.2.1 k).2.2.1 = some x → s.fieldFound? ref (q.2.1 k).2.1 (q.2.1 k).2.2.1 = some x) (hd : decode cc pc = .ok (.getfield idx, 3))
    (kk : W p l e R s m args below meth c H locs cells slots Q (F0 m (pc + 3) ls (zfv A ci a k :: rest))) : W p l e R s m args below meth c H locs cells slots Q (F0 m pc ls (.ref a :: rest)) := by
  obtain ⟨⟨hx, hb, hml, hown, hts⟩, hr, hlk, hK, -⟩ := C
  obtain ⟨cell, q1, q2, q3, q4⟩ := hG.1.1.1.2.2.1 a ci q hkd hci hc
  obtain ⟨hS, hfc, kC, hkC, hkind⟩ := hK.K.1 ci _ hc
  obtain ⟨cf, kf, fi, f, hi, hsl⟩ := hS k hk
  refine W.getf hx hb hown (hts _ hq) (hsame _ hi) (u_facts hfc hkC (u_lays hts hin hk) hi).1 q1 (by rw [q3]; exact fun h => by cases h) (v := zfv A ci a k) ?_ rfl rfl hd kk
  rw [hsl, q4 k hk]
theorem zK.nwF {U : State} (hK : zK Γ U) {a : String} {i : Nat} {b n d h : String} (hw : Cond.fieldLinkNest a i b n d h ∈ lw_tbl) (av : Array Value) : (Cond.fieldLinkNest a i b n d h).before av U = true :=
  va_Nw.use rfl (va_Nw.warmF hK.2 (va_Nw.of rfl (hK.1.2.1 _ hw)))
theorem zK.nwM {U : State} (hK : zK Γ U) {a : String} {i : Nat} {y : MethodName} {h : String} (hw : Cond.methodLinkNest a i y h ∈ lw_tbl) : va_Nw (.methodLinkNest a i y h) U := va_Nw.warmM hK.2 (va_Nw.of rfl (hK.1.2.1 _ hw))

/-- a class of the list, with what the rows ask of it -/
def zCls (ci : Nat) (q : vw_C) (ty : Nat → FieldType) : Prop := zCL[ci]? = some q ∧ ci ≠ 12 ∧ (∀ w ∈ u_ws q.1 q.2.1 q.2.2, w ∈ lw_all) ∧ (∀ k, k < q.2.2 → parseFieldDescriptor (q.2.1 k).2.2.1 = some (ty k)) ∧ ∀ a, a < q.2.2 → ∀ b, b < q.2.2 → a ≠ b → (q.2.1 a).2.1 ≠ (q.2.1 b).2.1 ∨ ((q.2.1 a).2.2.2 = true ∧ (q.2.1 b).2.2.2 = true ∧ (q.2.1 a).1 ≠ (q.2.1 b).1)
/-- how an instruction names a field: its own class's entry, or a nest mate's -/
def zLk (Γ : zG) (s : State) (args : Array Value) (own : String) (idx : Nat) (ref name desc : String) : Prop := (Cond.fieldLink own idx ref name desc).before args s = true ∨ ∃ host, (Cond.fieldLinkNest own idx ref name desc host).before args s = true
theorem zx_gv {v : Value} (C : xCx Γ p R s m args meth c cc nL own ret fr lo nm A0) (hG : xR Γ A0 A So H locs) (ci k : Nat) {a idx : Nat} {q : vw_C} {ty : Nat → FieldType} {ref : String} (hC : zCls ci q ty) (hkd : A_kd A a = ci + 1) (hk : k < q.2.2) (hq : zLk Γ s args own idx ref (q.2.1 k).2.1 (q.2.1 k).2.2.1) (hsame : ∀ x, s.fieldFound? (q.2.1 k).1 (q.2.1 k).2.1 (q.2.1 k).2.2.1 = some x → s.fieldFound? ref (q.2.1 k).2.1 (q.2.1 k).2.2.1 = some x) (hd : decode cc pc = .ok (.getfield idx, 3)) (hv : zfv A ci a k = v)
    (kk : W p l e R s m args below meth c H locs cells slots Q (F0 m (pc + 3) ls (v :: rest))) : W p l e R s m args below meth c H locs cells slots Q (F0 m pc ls (.ref a :: rest)) := by
  obtain ⟨⟨hx, hb, hml, hown, hts⟩, hr, hlk, hK, -⟩ := C
  obtain ⟨hc, hci, hin, -⟩ := hC
  obtain ⟨cell, q1, q2, q3, q4⟩ := hG.1.1.1.2.2.1 a ci q hkd hci hc
  obtain ⟨hS, hfc, kC, hkC, hkind⟩ := hK.K.1 ci _ hc
  obtain ⟨cf, kf, fi, f, hi, hsl⟩ := hS k hk
  have h9 : cell.slots[f.slot]? = some v := by rw [hsl, q4 k hk, hv]
  rcases hq with hq | ⟨host, hq⟩
  · exact W.getf hx hb hown hq (hsame _ hi) (u_facts hfc hkC (u_lays hts hin hk) hi).1 q1 (by rw [q3]; exact fun h => by cases h) h9 rfl rfl hd kk
  · exact va_Wgetf hx hb hown hq (hsame _ hi) (u_facts hfc hkC (u_lays hts hin hk) hi).1 q1 (by rw [q3]; exact fun h => by cases h) h9 rfl rfl hd kk
theorem zx_gI {β : Type} {K : Int32 → xN β} {r : β × zA} {fid : Nat} (C : xCx Γ p R s m args meth c cc nL own ret fr lo nm A0) (hG : xR Γ A0 A So H locs) (ci k : Nat) {a idx : Nat} {q : vw_C} {ty : Nat → FieldType} {ref : String} (hf : nB (gI fid ci a) K A = some r) (hfid : zfid ci k = fid) (htag : ztag ci k = 0) (hC : zCls ci q ty) (hk : k < q.2.2) (hq : zLk Γ s args own idx ref (q.2.1 k).2.1 (q.2.1 k).2.2.1) (hsame : ∀ x, s.fieldFound? (q.2.1 k).1 (q.2.1 k).2.1 (q.2.1 k).2.2.1 = some x → s.fieldFound? ref (q.2.1 k).2.1 (q.2.1 k).2.2.1 = some x) (hd : decode cc pc = .ok (.getfield idx, 3))
    (kk : ∀ v, K v A = some r → W p l e R s m args below meth c H locs cells slots Q (F0 m (pc + 3) ls (.int v :: rest))) : W p l e R s m args below meth c H locs cells slots Q (F0 m pc ls (.ref a :: rest)) := by
  obtain ⟨v, A1, h1, h2⟩ := nB_some hf
  obtain ⟨h3, h4⟩ := z_if h1
  cases h4
  exact zx_gv C hG ci k hC h3 hk hq hsame hd (by rw [zfv, if_pos htag, hfid]) (kk _ h2)
theorem zx_gL {β : Type} {K : Int64 → xN β} {r : β × zA} {fid : Nat} (C : xCx Γ p R s m args meth c cc nL own ret fr lo nm A0) (hG : xR Γ A0 A So H locs) (ci k : Nat) {a idx : Nat} {q : vw_C} {ty : Nat → FieldType} {ref : String} (hf : nB (gL fid ci a) K A = some r) (hfid : zfid ci k = fid) (htag : ztag ci k = 1) (hC : zCls ci q ty) (hk : k < q.2.2) (hq : zLk Γ s args own idx ref (q.2.1 k).2.1 (q.2.1 k).2.2.1) (hsame : ∀ x, s.fieldFound? (q.2.1 k).1 (q.2.1 k).2.1 (q.2.1 k).2.2.1 = some x → s.fieldFound? ref (q.2.1 k).2.1 (q.2.1 k).2.2.1 = some x) (hd : decode cc pc = .ok (.getfield idx, 3))
    (kk : ∀ v, K v A = some r → W p l e R s m args below meth c H locs cells slots Q (F0 m (pc + 3) ls (.long v :: rest))) : W p l e R s m args below meth c H locs cells slots Q (F0 m pc ls (.ref a :: rest)) := by
  obtain ⟨v, A1, h1, h2⟩ := nB_some hf
  obtain ⟨h3, h4⟩ := z_if h1
  cases h4
  exact zx_gv C hG ci k hC h3 hk hq hsame hd (by rw [zfv, if_neg (by rw [htag]; decide), if_pos htag, hfid]) (kk _ h2)
theorem zx_gR {β : Type} {K : Option Nat → xN β} {r : β × zA} {fid : Nat} (C : xCx Γ p R s m args meth c cc nL own ret fr lo nm A0) (hG : xR Γ A0 A So H locs) (ci k : Nat) {a idx : Nat} {q : vw_C} {ty : Nat → FieldType} {ref : String} (hf : nB (gR fid ci a) K A = some r) (hfid : zfid ci k = fid) (htag : ztag ci k = 2) (hC : zCls ci q ty) (hk : k < q.2.2) (hq : zLk Γ s args own idx ref (q.2.1 k).2.1 (q.2.1 k).2.2.1) (hsame : ∀ x, s.fieldFound? (q.2.1 k).1 (q.2.1 k).2.1 (q.2.1 k).2.2.1 = some x → s.fieldFound? ref (q.2.1 k).2.1 (q.2.1 k).2.2.1 = some x) (hd : decode cc pc = .ok (.getfield idx, 3))
    (kk : ∀ v, K v A = some r → W p l e R s m args below meth c H locs cells slots Q (F0 m (pc + 3) ls (va_rf v :: rest))) : W p l e R s m args below meth c H locs cells slots Q (F0 m pc ls (.ref a :: rest)) := by
  obtain ⟨v, A1, h1, h2⟩ := nB_some hf
  obtain ⟨h3, h4⟩ := z_if h1
  cases h4
  exact zx_gv C hG ci k hC h3 hk hq hsame hd (by rw [zfv, if_neg (by rw [htag]; decide), if_neg (by rw [htag]; decide), hfid]) (kk _ h2)
theorem zfid_inj {ci j k : Nat} (hj : j < 100) (hk : k < 100) (h : zfid ci j = zfid ci k) : j = k := by
  unfold zfid at h
  split at h <;> split at h <;> omega
/-- what stays when a field or an array of a is written -/
def zOther (A A' : zA) (a : Nat) : Prop := A_kd A' = A_kd A ∧ A_nc A' = A_nc A ∧ A_us A' = A_us A ∧ A_bs A' = A_bs A ∧ A_st A' = A_st A ∧ A_ln A' = A_ln A ∧ ∀ b, b ≠ a → zSame A A' b
theorem zOther.xr {A' : zA} {a : Nat} {H1 : Heap} {i : Nat} (h : zOther A A' a) (hG : xR Γ A0 A So H locs) (hk0 : A_kd A a ≠ 0) (z : H1.size = H.size) (o : ∀ x : Nat, x ≠ a → H1[x]? = H[x]?) (hc : zC Γ A' H1 a) : xR Γ A0 A' So H1 (locs ++ [⟨a, i⟩]) := by
  obtain ⟨h1, h2, h3, h4, h5, h6, h7⟩ := h
  obtain ⟨g1, g2, g3, g4⟩ := hG
  refine ⟨zR.put g1.2 (g1.1.xset hk0 (fun b => by rw [h1]) h2 h4 h5 h7 z o hc) (g1.1.1.2.1 a hk0).1, by rw [h2]; exact g2, by rw [h3]; exact g3, by unfold xOK; rw [h2, h3]; exact g4⟩
theorem zOther.fi (A : zA) (k a : Nat) (v : Int32) : zOther A (A_sfi A k a v) a := by
  refine ⟨rfl, rfl, rfl, rfl, rfl, rfl, fun b hb => ⟨rfl, rfl, fun k' => ?_, fun _ => rfl, fun _ => rfl, rfl, rfl, rfl⟩⟩
  show xu _ _ _ _ k' b = _
  simp [xu, hb, A_fi]
theorem zOther.fl (A : zA) (k a : Nat) (v : Int64) : zOther A (A_sfl A k a v) a := by
  refine ⟨rfl, rfl, rfl, rfl, rfl, rfl, fun b hb => ⟨rfl, rfl, fun _ => rfl, fun k' => ?_, fun _ => rfl, rfl, rfl, rfl⟩⟩
  show xu _ _ _ _ k' b = _
  simp [xu, hb, A_fl]
theorem zOther.rf (A : zA) (k a : Nat) (v : Option Nat) : zOther A (A_sfr A k a v) a := by
  refine ⟨rfl, rfl, rfl, rfl, rfl, rfl, fun b hb => ⟨rfl, rfl, fun _ => rfl, fun _ => rfl, fun k' => ?_, rfl, rfl, rfl⟩⟩
  show xu _ _ _ _ k' b = _
  simp [xu, hb, A_fr]
theorem zOther.ai (A : zA) (a : Nat) (f : Nat → Int32) : zOther A (A_sai A a f) a := by
  refine ⟨rfl, rfl, rfl, rfl, rfl, rfl, fun b hb => ⟨rfl, rfl, fun _ => rfl, fun _ => rfl, fun _ => rfl, ?_, rfl, rfl⟩⟩
  show va_up _ _ _ b = _
  simp [va_up, hb, A_ai]
theorem zOther.al (A : zA) (a : Nat) (f : Nat → Int64) : zOther A (A_sal A a f) a := by
  refine ⟨rfl, rfl, rfl, rfl, rfl, rfl, fun b hb => ⟨rfl, rfl, fun _ => rfl, fun _ => rfl, fun _ => rfl, rfl, ?_, rfl⟩⟩
  show va_up _ _ _ b = _
  simp [va_up, hb, A_al]
theorem zOther.ar (A : zA) (a : Nat) (f : Nat → Option Nat) : zOther A (A_sar A a f) a := by
  refine ⟨rfl, rfl, rfl, rfl, rfl, rfl, fun b hb => ⟨rfl, rfl, fun _ => rfl, fun _ => rfl, fun _ => rfl, rfl, rfl, ?_⟩⟩
  show va_up _ _ _ b = _
  simp [va_up, hb, A_ar]
/-- fields of one object lie apart: their names differ, or (both final) the classes that declare them -/
theorem z_apart {ci : Nat} {q : vw_C} {ty : Nat → FieldType} (hts : ∀ w ∈ lw_all, w.before args s = true) (hC : zCls ci q ty) (hK : zK Γ s) : ∀ x y, x < q.2.2 → y < q.2.2 → x ≠ y → (G_D Γ).2 ci x ≠ (G_D Γ).2 ci y := by
  intro x y hx hy hne
  obtain ⟨hc, -, hin, hty, hnn⟩ := hC
  obtain ⟨hS, -⟩ := hK.K.1 ci _ hc
  obtain ⟨_, _, _, fa, hia, ea⟩ := hS x hx
  obtain ⟨_, _, _, fb, hib, eb⟩ := hS y hy
  rw [← ea, ← eb]
  rcases hnn x hx y hy hne with h | ⟨h1, h2, h3⟩
  · refine u_apart (u_lays hts hin hx) (u_lays hts hin hy) hia hib ?_
    rw [(State.fieldFound?_type hia (hty x hx)).1, (State.fieldFound?_type hib (hty y hy)).1]
    exact h
  · have l1 := hts _ (hin _ (u_in_lay hx))
    have l2 := hts _ (hin _ (u_in_lay hy))
    unfold u_lay at l1 l2
    rw [if_pos h1] at l1
    rw [if_pos h2] at l2
    obtain ⟨c1, k1, cf1, kf1, i1, f1, a1, a2, a3, -, -, -, a7, -, d1, a8, a9, -⟩ := Cond.laysFinal_spec l1
    obtain ⟨c2, k2, cf2, kf2, i2, f2, b1, b2, b3, -, -, -, b7, -, d2, b8, b9, -⟩ := Cond.laysFinal_spec l2
    cases a1.symm.trans b1
    cases hia.symm.trans a3
    cases hib.symm.trans b3
    intro e
    rw [e] at a8
    cases a8.symm.trans b8
    obtain ⟨n1, n2, n3⟩ := Vm.findClass_spec a7
    obtain ⟨m1, m2, m3⟩ := Vm.findClass_spec b7
    have e1 := (State.fieldFound?_spec hia).1
    have e2 := (State.fieldFound?_spec hib).1
    cases e1.symm.trans n2
    cases e2.symm.trans m2
    exact h3 (n3.symm.trans (a9.symm.trans (b9.trans m3)))
theorem zx_pv {A' : zA} {v : Value} (C : xCx Γ p R s m args meth c cc nL own ret fr lo nm A0) (hG : xR Γ A0 A So H locs) (ci k : Nat) {a idx : Nat} {q : vw_C} {ty : Nat → FieldType} {ref : String} (hC : zCls ci q ty) (hkd : A_kd A a = ci + 1) (hk : k < q.2.2) (hq : zLk Γ s args own idx ref (q.2.1 k).2.1 (q.2.1 k).2.2.1) (hsame : ∀ x, s.fieldFound? (q.2.1 k).1 (q.2.1 k).2.1 (q.2.1 k).2.2.1 = some x → s.fieldFound? ref (q.2.1 k).2.1 (q.2.1 k).2.2.1 = some x) (hfin : (q.2.1 k).2.2.2 = false ∨ (nm = "<init>" ∧ (q.2.1 k).1 = own)) (hn : narrow (ty k) v = v) (hfit : fits (ty k) v = true) (hd : decode cc pc = .ok (.putfield idx, 3))
    (ho : zOther A A' a) (hv : ∀ j, j < q.2.2 → zfv A' ci a j = updV (zfv A ci a) k v j)
    (kk : ∀ (H1 : Heap) (locs1 : List Loc), xR Γ A0 A' So H1 locs1 → W p l e R s m args below meth c H1 locs1 cells slots Q (F0 m (pc + 3) ls rest)) : W p l e R s m args below meth c H locs cells slots Q (F0 m pc ls (v :: .ref a :: rest)) := by
  obtain ⟨⟨hx, hb, hml, hown, hts⟩, hr, hlk, hK, -, -, -, -, hnm⟩ := C
  have hap := z_apart hts hC hK
  obtain ⟨hc, hci, hin, hty, hnn⟩ := hC
  have hob := hG.1.1.1.2.2.1 a ci q hkd hci hc
  obtain ⟨cell, q1, q2, q3, q4⟩ := hob
  obtain ⟨hS, hfc, kC, hkC, hkind⟩ := hK.K.1 ci _ hc
  obtain ⟨cf, kf, fi, f, hi, hsl⟩ := hS k hk
  have hst := (u_facts hfc hkC (u_lays hts hin hk) hi).1
  have fin : ∀ H1 : Heap, H1[a]? = some (cell.setSlot f.slot v) → H1.size = H.size → (∀ x, x ≠ a → H1[x]? = H[x]?) → xR Γ A0 A' So H1 (locs ++ [⟨a, f.slot⟩]) := by
    intro H1 e1 e2 e3
    refine ho.xr hG (by omega) e2 e3 (zC.obj (by rw [ho.1]; exact hkd) hci hc ?_)
    rw [hsl] at e1
    exact t_OB.to (V := updV (zfv A ci a) k v) ⟨_, e1, q2, q3, t_set q4 hap hk v⟩ (fun j hj => (hv j hj).symm)
  have hlt : f.slot < cell.slots.size := by rw [hsl]; exact k2_hasslot (q4 k hk)
  rcases hq with hq | ⟨host, hq⟩
  · by_cases hf : (q.2.1 k).2.2.2 = false
    · have hlay := hts _ (hin _ (u_in_lay hk))
      unfold u_lay at hlay
      rw [if_neg (by rw [hf]; decide)] at hlay
      have h6 := u_store hfc hkC hkind hlay hi (hty k hk) hn hfit
      exact W.putK hx hb (f := f) ⟨hown, hq, ⟨_, _, _, hsame _ hi⟩, hst⟩ (by rw [q2]; exact h6) q1 q3 hlt rfl rfl hd fun H1 e1 e2 e3 => kk H1 _ (fin H1 e1 e2 e3)
    · rcases hfin with hfin | ⟨hin2, hdecl⟩
      · exact absurd hfin hf
      · have hlay := hts _ (hin _ (u_in_lay hk))
        unfold u_lay at hlay
        rw [if_pos (by revert hf; cases (q.2.1 k).2.2.2 <;> simp)] at hlay
        have hcf : m.cls = cf := by
          obtain ⟨_, _, c', _, _, _, -, -, hf', -, -, -, hown2, -⟩ := Cond.laysFinal_spec hlay
          have e1 : c' = cf := by have := hi.symm.trans hf'; simp at this; exact this.1.symm
          rw [hdecl] at hown2
          rw [← e1]; exact Option.some.inj (hown.symm.trans hown2)
        have h6 := u_fits hfc hkC hkind (Or.inr hlay) hi (hty k hk) hn hfit
        exact W.putFinK hx hb hown hq (hsame _ hi) hst hcf (hnm.trans hin2) (by rw [q2]; exact h6) q1 q3 hlt rfl rfl hd fun H1 e1 e2 e3 => kk H1 _ (fin H1 e1 e2 e3)
  · rcases hfin with hf | ⟨hin2, hdecl⟩
    · have hlay := hts _ (hin _ (u_in_lay hk))
      unfold u_lay at hlay
      rw [if_neg (by rw [hf]; decide)] at hlay
      have h6 := u_store hfc hkC hkind hlay hi (hty k hk) hn hfit
      exact va_WputK hx hb (f := f) hown hq (hsame _ hi) hst (by rw [q2]; exact h6) q1 q3 hlt rfl rfl hd fun H1 e1 e2 e3 => kk H1 _ (fin H1 e1 e2 e3)
    · have hlay := hts _ (hin _ (u_in_lay hk))
      unfold u_lay at hlay
      by_cases hf : (q.2.1 k).2.2.2 = true
      · rw [if_pos hf] at hlay
        have hcf : m.cls = cf := by
          obtain ⟨_, _, c', _, _, _, -, -, hf', -, -, -, hown2, -⟩ := Cond.laysFinal_spec hlay
          have e1 : c' = cf := by have := hi.symm.trans hf'; simp at this; exact this.1.symm
          rw [hdecl] at hown2
          rw [← e1]; exact Option.some.inj (hown.symm.trans hown2)
        have h6 := u_fits hfc hkC hkind (Or.inr hlay) hi (hty k hk) hn hfit
        have ha : a < H.size := (Array.getElem?_eq_some_iff.mp q1).1
        refine va_Wputf hx hb hown hq (hsame _ hi) hst (Or.inr ⟨hcf, hnm.trans hin2⟩) q1 (by rw [q3]; exact fun h => by cases h) hlt h6.1 (by rw [q3, q2]; exact h6.2) rfl rfl hd ?_
        refine kk _ _ (fin _ ?_ ?_ ?_)
        · simp [Array.getElem?_setIfInBounds, ha]
        · simp
        · intro x hx9
          simp [Array.getElem?_setIfInBounds, Ne.symm hx9]
      · rw [if_neg hf] at hlay
        have h6 := u_store hfc hkC hkind hlay hi (hty k hk) hn hfit
        exact va_WputK hx hb (f := f) hown hq (hsame _ hi) hst (by rw [q2]; exact h6) q1 q3 hlt rfl rfl hd fun H1 e1 e2 e3 => kk H1 _ (fin H1 e1 e2 e3)
theorem zx_pI {β : Type} {K : Unit → xN β} {r : β × zA} {fid : Nat} {v : Int32} (C : xCx Γ p R s m args meth c cc nL own ret fr lo nm A0) (hG : xR Γ A0 A So H locs) (ci k : Nat) {a idx : Nat} {q : vw_C} {ty : Nat → FieldType} {ref : String} (hf : nB (pI fid ci a v) K A = some r) (hfid : zfid ci k = fid) (htag : ztag ci k = 0) (hC : zCls ci q ty) (hN : q.2.2 ≤ 100) (hty : ty k = .int) (hk : k < q.2.2) (hq : zLk Γ s args own idx ref (q.2.1 k).2.1 (q.2.1 k).2.2.1) (hsame : ∀ x, s.fieldFound? (q.2.1 k).1 (q.2.1 k).2.1 (q.2.1 k).2.2.1 = some x → s.fieldFound? ref (q.2.1 k).2.1 (q.2.1 k).2.2.1 = some x) (hfin : (q.2.1 k).2.2.2 = false ∨ (nm = "<init>" ∧ (q.2.1 k).1 = own)) (hd : decode cc pc = .ok (.putfield idx, 3))
    (kk : ∀ (A : zA) (H1 : Heap) (locs1 : List Loc), xR Γ A0 A So H1 locs1 → K () A = some r → W p l e R s m args below meth c H1 locs1 (A_nc A - A_nc A0) (A_us A - A_us A0) Q (F0 m (pc + 3) ls rest)) : W p l e R s m args below meth c H locs (A_nc A - A_nc A0) (A_us A - A_us A0) Q (F0 m pc ls (.int v :: .ref a :: rest)) := by
  obtain ⟨u, A1, h1, h2⟩ := nB_some hf
  obtain ⟨h3, h4⟩ := z_if h1
  cases h4
  refine zx_pv C hG ci k hC h3 hk hq hsame hfin (by rw [hty]; rfl) (by rw [hty]; rfl) hd (zOther.fi A fid a v) (fun j hj => ?_) (fun H1 locs1 h => (kk _ H1 locs1 h h2 :))
  by_cases hjk : j = k
  · subst hjk
    simp only [updV, if_true]
    rw [zfv, if_pos htag, hfid]
    show Value.int (xu _ _ _ _ fid a) = _
    simp [xu]
  · simp only [updV, if_neg hjk]
    have hne : ¬ zfid ci j = fid := fun e9 => hjk (zfid_inj (by omega) (by omega) (e9.trans hfid.symm))
    unfold zfv
    show (if _ then Value.int (xu _ _ _ _ (zfid ci j) a) else _) = _
    simp only [xu, hne, false_and, if_false]
    rfl
theorem zx_pZ {β : Type} {K : Unit → xN β} {r : β × zA} {fid : Nat} {v : Int32} (C : xCx Γ p R s m args meth c cc nL own ret fr lo nm A0) (hG : xR Γ A0 A So H locs) (ci k : Nat) {a idx : Nat} {q : vw_C} {ty : Nat → FieldType} {ref : String} (hf : nB (pZ fid ci a v) K A = some r) (hfid : zfid ci k = fid) (htag : ztag ci k = 0) (hC : zCls ci q ty) (hN : q.2.2 ≤ 100) (hty : ty k = .boolean) (hk : k < q.2.2) (hq : zLk Γ s args own idx ref (q.2.1 k).2.1 (q.2.1 k).2.2.1) (hsame : ∀ x, s.fieldFound? (q.2.1 k).1 (q.2.1 k).2.1 (q.2.1 k).2.2.1 = some x → s.fieldFound? ref (q.2.1 k).2.1 (q.2.1 k).2.2.1 = some x) (hfin : (q.2.1 k).2.2.2 = false ∨ (nm = "<init>" ∧ (q.2.1 k).1 = own)) (hd : decode cc pc = .ok (.putfield idx, 3))
    (kk : ∀ (A : zA) (H1 : Heap) (locs1 : List Loc), xR Γ A0 A So H1 locs1 → K () A = some r → W p l e R s m args below meth c H1 locs1 (A_nc A - A_nc A0) (A_us A - A_us A0) Q (F0 m (pc + 3) ls rest)) : W p l e R s m args below meth c H locs (A_nc A - A_nc A0) (A_us A - A_us A0) Q (F0 m pc ls (.int v :: .ref a :: rest)) := by
  obtain ⟨u, A1, h1, h2⟩ := nB_some hf
  obtain ⟨⟨h3, h5⟩, h4⟩ := z_if h1
  cases h4
  refine zx_pv C hG ci k hC h3 hk hq hsame hfin (by rw [hty]; exact z_nb h5) (by rw [hty]; rcases h5 with rfl | rfl <;> decide +kernel) hd (zOther.fi A fid a v) (fun j hj => ?_) (fun H1 locs1 h => (kk _ H1 locs1 h h2 :))
  by_cases hjk : j = k
  · subst hjk
    simp only [updV, if_true]
    rw [zfv, if_pos htag, hfid]
    show Value.int (xu _ _ _ _ fid a) = _
    simp [xu]
  · simp only [updV, if_neg hjk]
    have hne : ¬ zfid ci j = fid := fun e9 => hjk (zfid_inj (by omega) (by omega) (e9.trans hfid.symm))
    unfold zfv
    show (if _ then Value.int (xu _ _ _ _ (zfid ci j) a) else _) = _
    simp only [xu, hne, false_and, if_false]
    rfl
theorem zx_pL {β : Type} {K : Unit → xN β} {r : β × zA} {fid : Nat} {v : Int64} (C : xCx Γ p R s m args meth c cc nL own ret fr lo nm A0) (hG : xR Γ A0 A So H locs) (ci k : Nat) {a idx : Nat} {q : vw_C} {ty : Nat → FieldType} {ref : String} (hf : nB (pL fid ci a v) K A = some r) (hfid : zfid ci k = fid) (htag : ztag ci k = 1) (hC : zCls ci q ty) (hN : q.2.2 ≤ 100) (hty : ty k = .long) (hk : k < q.2.2) (hq : zLk Γ s args own idx ref (q.2.1 k).2.1 (q.2.1 k).2.2.1) (hsame : ∀ x, s.fieldFound? (q.2.1 k).1 (q.2.1 k).2.1 (q.2.1 k).2.2.1 = some x → s.fieldFound? ref (q.2.1 k).2.1 (q.2.1 k).2.2.1 = some x) (hfin : (q.2.1 k).2.2.2 = false ∨ (nm = "<init>" ∧ (q.2.1 k).1 = own)) (hd : decode cc pc = .ok (.putfield idx, 3))
    (kk : ∀ (A : zA) (H1 : Heap) (locs1 : List Loc), xR Γ A0 A So H1 locs1 → K () A = some r → W p l e R s m args below meth c H1 locs1 (A_nc A - A_nc A0) (A_us A - A_us A0) Q (F0 m (pc + 3) ls rest)) : W p l e R s m args below meth c H locs (A_nc A - A_nc A0) (A_us A - A_us A0) Q (F0 m pc ls (.long v :: .ref a :: rest)) := by
  obtain ⟨u, A1, h1, h2⟩ := nB_some hf
  obtain ⟨h3, h4⟩ := z_if h1
  cases h4
  refine zx_pv C hG ci k hC h3 hk hq hsame hfin (by rw [hty]; rfl) (by rw [hty]; rfl) hd (zOther.fl A fid a v) (fun j hj => ?_) (fun H1 locs1 h => (kk _ H1 locs1 h h2 :))
  by_cases hjk : j = k
  · subst hjk
    simp only [updV, if_true]
    rw [zfv, if_neg (by rw [htag]; decide), if_pos htag, hfid]
    show Value.long (xu _ _ _ _ fid a) = _
    simp [xu]
  · simp only [updV, if_neg hjk]
    have hne : ¬ zfid ci j = fid := fun e9 => hjk (zfid_inj (by omega) (by omega) (e9.trans hfid.symm))
    unfold zfv
    show (if _ then _ else if _ then Value.long (xu _ _ _ _ (zfid ci j) a) else _) = _
    simp only [xu, hne, false_and, if_false]
    rfl
theorem zx_pR {β : Type} {K : Unit → xN β} {r : β × zA} {fid : Nat} {v : Option Nat} {w : Value} (C : xCx Γ p R s m args meth c cc nL own ret fr lo nm A0) (hG : xR Γ A0 A So H locs) (ci k : Nat) {a idx : Nat} {q : vw_C} {ty : Nat → FieldType} {ref : String} (hf : nB (pR fid ci a v) K A = some r) (hw : va_rf v = w) (hfid : zfid ci k = fid) (htag : ztag ci k = 2) (hC : zCls ci q ty) (hN : q.2.2 ≤ 100) (hty : (∃ n, ty k = .object n) ∨ ∃ t, ty k = .array t) (hk : k < q.2.2) (hq : zLk Γ s args own idx ref (q.2.1 k).2.1 (q.2.1 k).2.2.1) (hsame : ∀ x, s.fieldFound? (q.2.1 k).1 (q.2.1 k).2.1 (q.2.1 k).2.2.1 = some x → s.fieldFound? ref (q.2.1 k).2.1 (q.2.1 k).2.2.1 = some x) (hfin : (q.2.1 k).2.2.2 = false ∨ (nm = "<init>" ∧ (q.2.1 k).1 = own)) (hd : decode cc pc = .ok (.putfield idx, 3))
    (kk : ∀ (A : zA) (H1 : Heap) (locs1 : List Loc), xR Γ A0 A So H1 locs1 → K () A = some r → W p l e R s m args below meth c H1 locs1 (A_nc A - A_nc A0) (A_us A - A_us A0) Q (F0 m (pc + 3) ls rest)) : W p l e R s m args below meth c H locs (A_nc A - A_nc A0) (A_us A - A_us A0) Q (F0 m pc ls (w :: .ref a :: rest)) := by
  obtain ⟨u, A1, h1, h2⟩ := nB_some hf
  obtain ⟨h3, h4⟩ := z_if h1
  cases h4
  subst hw
  have hnr : narrow (ty k) (va_rf v) = va_rf v := by rcases hty with ⟨n, h⟩ | ⟨t, h⟩ <;> rw [h] <;> cases v <;> rfl
  have hft : fits (ty k) (va_rf v) = true := by rcases hty with ⟨n, h⟩ | ⟨t, h⟩ <;> rw [h] <;> cases v <;> rfl
  refine zx_pv C hG ci k hC h3 hk hq hsame hfin hnr hft hd (zOther.rf A fid a v) (fun j hj => ?_) (fun H1 locs1 h => (kk _ H1 locs1 h h2 :))
  by_cases hjk : j = k
  · subst hjk
    simp only [updV, if_true]
    rw [zfv, if_neg (by rw [htag]; decide), if_neg (by rw [htag]; decide), hfid]
    show va_rf (xu _ _ _ _ fid a) = _
    simp [xu]
  · simp only [updV, if_neg hjk]
    have hne : ¬ zfid ci j = fid := fun e9 => hjk (zfid_inj (by omega) (by omega) (e9.trans hfid.symm))
    unfold zfv
    show (if _ then _ else if _ then _ else va_rf (xu _ _ _ _ (zfid ci j) a)) = _
    simp only [xu, hne, false_and, if_false]
    rfl
end XR
