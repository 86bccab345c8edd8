set_option maxRecDepth 100000
/-! STAGE 1, frame: numbers, the state monad, loops -/
/-- an int by a whole number -/
def zi (n : Int) : Int32 := Int32.ofInt n
abbrev zN (τ α : Type) : Type := τ → Option (α × τ)
def nP {τ α : Type} (v : α) : zN τ α := fun S => some (v, S)
def nB {τ α β : Type} (m : zN τ α) (k : α → zN τ β) : zN τ β := fun S => (m S).bind fun p => k p.1 p.2
def nE {τ α β : Type} (v : α) (k : α → zN τ β) : zN τ β := k v
def nX {τ α : Type} : zN τ α := fun _ => none
def nIt {τ σ ε : Type} (body : σ → zN τ (σ ⊕ ε)) : Nat → σ → zN τ ε
  | 0, _ => fun _ => none
  | n + 1, s => fun S => (body s S).bind fun p => match p.1 with
    | .inl s' => nIt body n s' p.2
    | .inr e => some (e, p.2)
theorem nIt_up {τ σ ε : Type} {body : σ → zN τ (σ ⊕ ε)} : ∀ (n : Nat) (s : σ) (S : τ) (p : ε × τ), nIt body n s S = some p → ∀ k : Nat, nIt body (n + k) s S = some p := by
  intro n
  induction n with
  | zero => intro s S p h; cases h
  | succ n ih =>
    intro s S p h k
    rw [Nat.add_right_comm]
    unfold nIt at h ⊢
    cases hb : body s S with
    | none => rw [hb] at h; cases h
    | some q =>
      rw [hb] at h
      obtain ⟨x, S'⟩ := q
      cases x with
      | inl s' => exact ih s' S' p h k
      | inr e => exact h
theorem nLp_ex {τ σ ε : Type} (body : σ → zN τ (σ ⊕ ε)) (s : σ) (S : τ) : ∃ r : Option (ε × τ), ∀ p, r = some p ↔ ∃ n, nIt body n s S = some p := by
  by_cases h : ∃ n p, nIt body n s S = some p
  · obtain ⟨n, p, h⟩ := h
    refine ⟨some p, fun q => ⟨fun e => ⟨n, by rw [h]; exact e⟩, fun ⟨k, e⟩ => ?_⟩⟩
    have h1 := nIt_up n s S p h k
    have h2 := nIt_up k s S q e n
    rw [Nat.add_comm] at h2
    rw [← h1, ← h2]
  · exact ⟨none, fun q => ⟨fun e => (by cases e), fun ⟨k, e⟩ => absurd ⟨k, q, e⟩ h⟩⟩
/-- a loop, as often as it goes -/
noncomputable def nLp {τ σ ε : Type} (body : σ → zN τ (σ ⊕ ε)) (s : σ) : zN τ ε := fun S => Classical.choose (nLp_ex body s S)
theorem nLp_iff {τ σ ε : Type} {body : σ → zN τ (σ ⊕ ε)} {s : σ} {S : τ} {p : ε × τ} : nLp body s S = some p ↔ ∃ n, nIt body n s S = some p := Classical.choose_spec (nLp_ex body s S) p
theorem nLp_eq {τ σ ε : Type} (body : σ → zN τ (σ ⊕ ε)) (s : σ) (S : τ) : nLp body s S = (body s S).bind fun p => match p.1 with
    | .inl s' => nLp body s' p.2
    | .inr e => some (e, p.2) := by
  cases hb : body s S with
  | none =>
    cases h : nLp body s S with
    | none => rfl
    | some p =>
      obtain ⟨n, hn⟩ := nLp_iff.mp h
      cases n with
      | zero => cases hn
      | succ n => unfold nIt at hn; rw [hb] at hn; cases hn
  | some q =>
    obtain ⟨x, S'⟩ := q
    cases x with
    | inr e => exact nLp_iff.mpr ⟨1, by unfold nIt; rw [hb]; rfl⟩
    | inl s' =>
      show nLp body s S = nLp body s' S'
      cases h : nLp body s' S' with
      | some p =>
        obtain ⟨n, hn⟩ := nLp_iff.mp h
        exact nLp_iff.mpr ⟨n + 1, by unfold nIt; rw [hb]; exact hn⟩
      | none =>
        cases h2 : nLp body s S with
        | none => rfl
        | some p =>
          obtain ⟨n, hn⟩ := nLp_iff.mp h2
          cases n with
          | zero => cases hn
          | succ n =>
            unfold nIt at hn
            rw [hb] at hn
            have h3 : nLp body s' S' = some p := nLp_iff.mpr ⟨n, hn⟩
            rw [h] at h3; cases h3
theorem nB_some {τ α β : Type} {m : zN τ α} {k : α → zN τ β} {S : τ} {r : β × τ} (h : nB m k S = some r) : ∃ v S', m S = some (v, S') ∧ k v S' = some r := by
  unfold nB at h
  cases hm : m S with
  | none => rw [hm] at h; cases h
  | some q => rw [hm] at h; exact ⟨q.1, q.2, rfl, h⟩
theorem z_t {τ β : Type} {c : Prop} [Decidable c] {a b : zN τ β} {S : τ} {r : β × τ} (hc : c) (hf : (if c then a else b) S = some r) : a S = some r := by rw [if_pos hc] at hf; exact hf
theorem z_f {τ β : Type} {c : Prop} [Decidable c] {a b : zN τ β} {S : τ} {r : β × τ} (hc : ¬ c) (hf : (if c then a else b) S = some r) : b S = some r := by rw [if_neg hc] at hf; exact hf
theorem z_p {τ α : Type} {v : α} {S : τ} {x : α} {S' : τ} (hf : (nP v : zN τ α) S = some (x, S')) : x = v ∧ S' = S := by
  unfold nP at hf
  injection hf with h
  injection h with h1 h2
  exact ⟨h1.symm, h2.symm⟩
/-- a loop's several ends -/
def nD {τ α β γ : Type} (f : α → zN τ γ) (g : β → zN τ γ) (x : α ⊕ β) : zN τ γ := match x with
  | .inl a => f a
  | .inr b => g b
theorem z_dl {τ α β γ : Type} {f : α → zN τ γ} {g : β → zN τ γ} {a : α} {S : τ} {r : γ × τ} (hf : nD f g (.inl a) S = some r) : f a S = some r := hf
theorem z_dr {τ α β γ : Type} {f : α → zN τ γ} {g : β → zN τ γ} {b : β} {S : τ} {r : γ × τ} (hf : nD f g (.inr b) S = some r) : g b S = some r := hf
/-- the check of a branch that mustn't be taken -/
def nC {τ β : Type} (c : Prop) [Decidable c] (k : zN τ β) : zN τ β := if c then k else nX
theorem z_c {τ β : Type} {c : Prop} [Decidable c] {k : zN τ β} {S : τ} {r : β × τ} (hf : nC c k S = some r) : c ∧ k S = some r := by
  unfold nC at hf
  by_cases h : c
  · rw [if_pos h] at hf; exact ⟨h, hf⟩
  · rw [if_neg h] at hf; cases hf
/-! the abstract heap of PretendDesk: new cells so far, new slots so far, kinds, lengths, fields (int, long, reference) by field number and address, arrays by address; the first new address; the String constants' addresses -/
abbrev zA : Type := Nat × Nat × (Nat → Nat) × (Nat → Nat) × (Nat → Nat → Int32) × (Nat → Nat → Int64) × (Nat → Nat → Option Nat) × (Nat → Nat → Int32) × (Nat → Nat → Int64) × (Nat → Nat → Option Nat) × Nat × (Nat → Nat)
def A_nc (A : zA) : Nat := A.1
def A_us (A : zA) : Nat := A.2.1
def A_kd (A : zA) : Nat → Nat := A.2.2.1
def A_ln (A : zA) : Nat → Nat := A.2.2.2.1
def A_fi (A : zA) : Nat → Nat → Int32 := A.2.2.2.2.1
def A_fl (A : zA) : Nat → Nat → Int64 := A.2.2.2.2.2.1
def A_fr (A : zA) : Nat → Nat → Option Nat := A.2.2.2.2.2.2.1
def A_ai (A : zA) : Nat → Nat → Int32 := A.2.2.2.2.2.2.2.1
def A_al (A : zA) : Nat → Nat → Int64 := A.2.2.2.2.2.2.2.2.1
def A_ar (A : zA) : Nat → Nat → Option Nat := A.2.2.2.2.2.2.2.2.2.1
def A_bs (A : zA) : Nat := A.2.2.2.2.2.2.2.2.2.2.1
def A_st (A : zA) : Nat → Nat := A.2.2.2.2.2.2.2.2.2.2.2
/-- the model's state: its int fields by number, its arrays by their field's number -/
abbrev zS : Type := (Nat → Int32) × (Nat → Nat → Int32)
/-- ghosts: classes and slots; array classes (0 int, 1 byte, 2 boolean, 3 long, 4 String, 5 House, 6 Came, 7 Case, 8 Pattern, 9 Desk, 10 Page, 11 Box, 12 Change); the model's addresses; the law's start, the script's address; the String constants' addresses -/
abbrev zG : Type := va_G × (Nat → ClassId) × (Nat → Nat) × State × Nat × (Nat → Nat)
def G_D (Γ : zG) : va_G := Γ.1
def G_a (Γ : zG) : Nat → ClassId := Γ.2.1
def G_m (Γ : zG) : Nat → Nat := Γ.2.2.1
def G_0 (Γ : zG) : State := Γ.2.2.2.1
def G_b (Γ : zG) : Nat := Γ.2.2.2.2.1
def G_s (Γ : zG) : Nat → Nat := Γ.2.2.2.2.2
def G_H (Γ : zG) : Heap := (G_0 Γ).heap
/-- the String constants: class, entry, text -/
def zsC (i : Nat) : String × Nat × String := match i with
  | 0 => ("PretendDesk", 28, "box")
  | 1 => ("PretendDesk", 30, "form")
  | 2 => ("PretendDesk", 32, "pass")
  | 3 => ("PretendDesk", 34, "card")
  | 4 => ("PretendDesk", 36, "pin")
  | 5 => ("PretendDesk", 38, "logo")
  | 6 => ("PretendDesk", 40, "text")
  | 7 => ("PretendDesk", 42, "link")
  | 8 => ("PretendDesk", 48, "read")
  | 9 => ("PretendDesk", 50, "mix")
  | 10 => ("PretendDesk", 52, "put")
  | 11 => ("PretendDesk", 54, "send")
  | 12 => ("PretendDesk", 56, "if")
  | 13 => ("PretendDesk", 58, "go")
  | 14 => ("PretendDesk", 60, "stop")
  | 15 => ("PretendDesk$Reader", 69, "land")
  | 16 => ("PretendDesk$Reader", 77, "day")
  | 17 => ("PretendDesk$ProgramReader", 81, "to")
  | _ => ("PretendDesk$ProgramReader", 71, "go")
/-- the classes by number (9, Tokens, is never made: its place holds Box) -/
abbrev zCL : List vw_C := [(RX0, TX0, 17), (RX1, TX1, 5), (RX2, TX2, 4), (RX3, TX3, 23), (RX4, TX4, 4), (RX5, TX5, 5), (RX6, TX6, 4), (RX7, TX7, 49), (RX8, TX8, 4), (RX13, TX13, 5), (RX10, TX10, 12), (RX11, TX11, 2), (RX12, TX12, 7), (RX13, TX13, 5), (RX14, TX14, 8), (RX15, TX15, 5), (RX16, TX16, 3), (RX17, TX17, 4), (RX18, TX18, 12), (RX19, TX19, 2)]
/-- the array types by number -/
def zAt (t : Nat) : FieldType := match t with
  | 0 => .int
  | 1 => .byte
  | 2 => .boolean
  | 3 => .long
  | 4 => .object "java/lang/String"
  | 5 => .object "PretendDesk$House"
  | 6 => .object "PretendDesk$Came"
  | 7 => .object "PretendDesk$Case"
  | 8 => .object "PretendDesk$Pattern"
  | 9 => .object "PretendDesk$Desk"
  | 10 => .object "PretendDesk$Page"
  | 11 => .object "PretendDesk$Box"
  | _ => .object "PretendDesk$Change"
abbrev zTY (a : Nat → ClassId) : List (ClassId × FieldType) := (List.range 13).map fun t => (a t, zAt t)
theorem zTY_at (a : Nat → ClassId) {t : Nat} (h : t < 13) : (zTY a)[t]? = some (a t, zAt t) := by
  rw [List.getElem?_map, List.getElem?_range h]; rfl
/-- a field's number over all classes; its sort (0 int, 1 long, 2 reference). What Reader (10) and ProgramReader (18) have of Tokens is numbered alike (9..) -/
def zfid (ci k : Nat) : Nat := if (ci = 10 ∨ ci = 18) ∧ k < 10 then 900 + k else 100 * ci + k
def ztag (ci k : Nat) : Nat := match ci with
  | 0 => if k = 14 then 0 else 2
  | 1 => 2
  | 2 => if k = 3 then 0 else 2
  | 3 => if 1 ≤ k ∧ k ≤ 11 then 0 else 2
  | 4 => if k = 3 then 2 else 0
  | 5 => if k = 0 ∨ k = 4 then 2 else 0
  | 6 => if k = 3 then 0 else 2
  | 7 => if k < 2 ∨ (12 ≤ k ∧ k ≤ 14) ∨ (16 ≤ k ∧ k ≤ 25) ∨ k = 28 ∨ k = 29 ∨ (35 ≤ k ∧ k ≤ 39) ∨ (43 ≤ k ∧ k ≤ 46) then 2 else 0
  | 8 => if k < 2 then 2 else 0
  | 10 => if k = 3 then 1 else if k < 9 then 0 else 2
  | 11 => if k = 0 then 2 else 0
  | 12 => if k < 5 then 2 else 0
  | 14 => if k < 3 ∨ k = 7 then 2 else 0
  | 15 => if k < 4 then 2 else 0
  | 18 => if k = 3 then 1 else if k < 9 then 0 else 2
  | _ => 0
def zfv (A : zA) (ci a k : Nat) : Value := if ztag ci k = 0 then .int (A_fi A (zfid ci k) a) else if ztag ci k = 1 then .long (A_fl A (zfid ci k) a) else va_rf (A_fr A (zfid ci k) a)
def zarr (A : zA) (t a : Nat) : vp_A := if t < 3 then (A_ln A a, .inl (A_ai A a)) else if t = 3 then (A_ln A a, .inr (.inl (A_al A a))) else (A_ln A a, .inr (.inr (.inr (.inr (A_ar A a)))))
/-- the heap H holds the objects and arrays of A. Kinds: ci + 1 an object of class ci; of Wrong (13) only its place is known, and while its length is 7 that it is as it was made; 101 + t an array -/
def zRX (Γ : zG) (A : zA) (H : Heap) : Prop :=
  H.size = (G_H Γ).size + A_nc A ∧ (∀ a, A_kd A a ≠ 0 → (G_H Γ).size ≤ a ∧ a < H.size) ∧
  (∀ a ci q, A_kd A a = ci + 1 → ci ≠ 12 → zCL[ci]? = some q → t_OB a ((G_D Γ).1 ci) q.2.2 ((G_D Γ).2 ci) H (zfv A ci a)) ∧
  (∀ a, A_kd A a = 13 → ∃ cell : Cell, H[a]? = some cell ∧ cell.cls = (G_D Γ).1 12 ∧ cell.vm = .none ∧ cell.slots[(G_D Γ).2 12 6]? = some (.int (A_fi A 1206 a)) ∧ (A_ln A a = 7 → ∃ kX : Class, (G_0 Γ).vm.classes[(G_D Γ).1 12]? = some kX ∧ cell = { cls := (G_D Γ).1 12, slots := kX.instanceTypes.map defaultValue, vm := .none })) ∧
  (∀ a t, A_kd A a = 101 + t → t < 13 → H[a]? = some (vp_cell (G_a Γ t) (zarr A t a)) ∧ A_ln A a < 2147483648 ∧ (t = 1 → ∀ j, (A_ai A a j).toInt8.toInt32 = A_ai A a j)) ∧
  True ∧
  A_bs A = (G_H Γ).size ∧ A_st A = G_s Γ
/-- of the model's fields: 0 an int, 1 an int array, 2 a boolean array; lengths -/
def zsrt (k : Nat) : Nat := match k with
  | 0 => 1
  | 1 => 2
  | 12 => 1
  | 13 => 1
  | 14 => 1
  | 16 => 2
  | 17 => 1
  | 18 => 2
  | 19 => 1
  | 20 => 1
  | 21 => 1
  | 22 => 1
  | 23 => 1
  | 24 => 1
  | 25 => 1
  | 28 => 1
  | 29 => 1
  | 35 => 1
  | 36 => 1
  | 37 => 1
  | 38 => 1
  | 39 => 1
  | 43 => 1
  | 44 => 1
  | 45 => 1
  | 46 => 1
  | _ => 0
def zlen (k : Nat) : Nat := match k with
  | 0 => 22080
  | 1 => 3
  | 12 => 8
  | 13 => 72
  | 14 => 169
  | 22 => 2
  | 23 => 32
  | 24 => 32
  | 25 => 32
  | 28 => 256
  | 29 => 289
  | 35 => 16
  | 36 => 16
  | 37 => 16
  | 38 => 3
  | 39 => 5
  | 43 => 80
  | 44 => 6
  | 45 => 6
  | 46 => 10
  | _ => 14
/-- the addresses of the model that are in use: 0 itself, k + 1 the array of field k -/
def zus (i : Nat) : Prop := i = 0 ∨ ∃ k, i = k + 1 ∧ k < 49 ∧ zsrt k ≠ 0
def zmv (mb : Nat → Nat) (S : zS) (k : Nat) : Value := if zsrt k = 0 then .int (S.1 k) else .ref (mb (k + 1))
def zat (k : Nat) : Nat := if zsrt k = 1 then 0 else 2
def zRM (Γ : zG) (S : zS) (H : Heap) : Prop :=
  t_OB (G_m Γ 0) ((G_D Γ).1 7) 49 ((G_D Γ).2 7) H (zmv (G_m Γ) S) ∧
  (∀ k, k < 49 → zsrt k ≠ 0 → H[G_m Γ (k + 1)]? = some (vp_cell (G_a Γ (zat k)) (zlen k, .inl (S.2 k)))) ∧
  (∀ i j, zus i → zus j → G_m Γ i = G_m Γ j → i = j) ∧ (∀ i, zus i → (G_H Γ).size ≤ G_m Γ i)
/-- the whole picture: PretendDesk's heap A, the model's state (when it has been made), what was there before -/
def zRel (Γ : zG) (A : zA) (So : Option zS) (H : Heap) : Prop :=
  zRX Γ A H ∧ (∀ S, So = some S → zRM Γ S H ∧ ∀ i, zus i → A_kd A (G_m Γ i) = 0) ∧ ∀ q : Nat, q < (G_H Γ).size → H[q]? = (G_H Γ)[q]?
/-- the law's start is as the Statement says, and the ghosts are what they are called -/
def zOK (Γ : zG) : Prop := va_K (G_D Γ) zCL (zTY (G_a Γ)) (G_0 Γ) ∧ (∀ w ∈ lw_tbl, w.before #[Value.ref (G_b Γ)] (G_0 Γ) = true) ∧ (Jvm.Cond.and given_1 narrow_1).before #[Value.ref (G_b Γ)] (G_0 Γ) = true ∧ (∀ i, i < 19 → (Term.string (zsC i).1 (zsC i).2.1).eval #[Value.ref (G_b Γ)] (G_0 Γ) none [] (G_0 Γ) = some (.ref (G_s Γ i)))
/-- what the tables say all through a run -/
def zK (Γ : zG) (U : State) : Prop := zOK Γ ∧ (G_0 Γ).WarmedH U.vm
theorem zK.K {Γ : zG} {U : State} (h : zK Γ U) : va_K (G_D Γ) zCL (zTY (G_a Γ)) U := va_K.moved h.2.alike h.1.1
theorem zK.moved {Γ : zG} {u U : State} (h : zK Γ u) (hW : u.WarmedH U.vm) : zK Γ U := ⟨h.1, State.WarmedH.trans h.2 hW⟩
def zR (Γ : zG) (A : zA) (So : Option zS) (H : Heap) (locs : List Loc) : Prop := zRel Γ A So H ∧ ∀ q ∈ locs, (G_H Γ).size ≤ q.base
/-- what a walk of a method's body knows all the way -/
def zCx (Γ : zG) (p : Program) (R : Room) (s : State) (m : MethodId) (args : Array Value) (meth : Method) (c : Code) (cc : ByteArray) (nL : Nat) (own : String) (ret : Option FieldType) (fr lo : Nat) : Prop :=
  CallFix p m c cc nL s args lw_all own ∧ meth.sig.returnType = ret ∧ meth.locks = false ∧ zK Γ s ∧ fr ≤ R.frames ∧ lo ≤ R.locals
