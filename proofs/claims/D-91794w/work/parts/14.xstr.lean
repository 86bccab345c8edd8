set_option maxRecDepth 100000
/-! STAGE 1, String constants: 18 of them, by number -/
def zsl : List Nat := [3, 4, 4, 4, 3, 4, 4, 4, 4, 3, 3, 4, 2, 2, 4, 4, 3, 2]
def zsb : List (List Int32) := [[98, 111, 120], [102, 111, 114, 109], [112, 97, 115, 115], [99, 97, 114, 100], [112, 105, 110], [108, 111, 103, 111], [116, 101, 120, 116], [108, 105, 110, 107], [114, 101, 97, 100], [109, 105, 120], [112, 117, 116], [115, 101, 110, 100], [105, 102], [103, 111], [115, 116, 111, 112], [108, 97, 110, 100], [100, 97, 121], [116, 111]]
def ztm (i : Nat) : Term := Term.string (zsC i).1 (zsC i).2.1
/-- what's new -/
def zAp (Γ : zG) (q : Nat) : Prop := (G_H Γ).size ≤ q
theorem zsx : ∀ i, i < 18 → (Cond.exactly (ztm i) "java/lang/String" ∈ flatC (Jvm.Cond.and given_1 narrow_1)) ∧ (Cond.eq (.field (ztm i) "java/lang/String" "coder" "B") (.int 0) ∈ flatC (Jvm.Cond.and given_1 narrow_1)) ∧ (Cond.arrayOf (.field (ztm i) "java/lang/String" "value" "[B") .byte ∈ flatC (Jvm.Cond.and given_1 narrow_1)) ∧ (Cond.eq (.length (.field (ztm i) "java/lang/String" "value" "[B")) (.int (Int32.ofNat (zsl.getD i 0))) ∈ flatC (Jvm.Cond.and given_1 narrow_1)) := by decide +kernel
theorem zsy : ∀ i, i < 18 → ∀ j, j < zsl.getD i 0 → Cond.eq (.elem (.field (ztm i) "java/lang/String" "value" "[B") (.int (Int32.ofNat j))) (.int ((zsb.getD i []).getD j 0)) ∈ flatC (Jvm.Cond.and given_1 narrow_1) := by decide +kernel
theorem zss : Cond.eq (ztm 13) (ztm 18) ∈ flatC (Jvm.Cond.and given_1 narrow_1) ∨ Cond.eq (ztm 18) (ztm 13) ∈ flatC (Jvm.Cond.and given_1 narrow_1) := by decide +kernel
/-- what is known of the constants -/
def zSt (Γ : zG) (adV : Nat → Nat) (U : State) (H : Heap) : Prop := ∀ i : Nat, i < 18 → va_O "java/lang/String" (G_s Γ i) (zAp Γ) U H ∧ va_OF "java/lang/String" "coder" "B" (.int 0) (G_s Γ i) (zAp Γ) U H ∧ va_OF "java/lang/String" "value" "[B" (.ref (adV i)) (G_s Γ i) (zAp Γ) U H ∧ va_T .byte (adV i) (zsl.getD i 0) (fun j => .int ((zsb.getD i []).getD j 0)) (zAp Γ) U H
theorem zs_ex {Γ : zG} (h : zOK Γ) : ∃ adV, zSt Γ adV (G_0 Γ) (G_H Γ) := by
  have hs := flat_of_before _ h.2.2.1
  have key : ∀ i : Nat, ∃ v : Nat, i < 18 → va_O "java/lang/String" (G_s Γ i) (zAp Γ) (G_0 Γ) (G_H Γ) ∧ va_OF "java/lang/String" "coder" "B" (.int 0) (G_s Γ i) (zAp Γ) (G_0 Γ) (G_H Γ) ∧ va_OF "java/lang/String" "value" "[B" (.ref v) (G_s Γ i) (zAp Γ) (G_0 Γ) (G_H Γ) ∧ va_T .byte v (zsl.getD i 0) (fun j => .int ((zsb.getD i []).getD j 0)) (zAp Γ) (G_0 Γ) (G_H Γ) := by
    intro i
    by_cases hi : i < 18
    · obtain ⟨adK, adV, h1, h2⟩ := vk_Sof (args := #[Value.ref (G_b Γ)]) (s := G_0 Γ) (N := 1) (tm := fun _ => ztm i) (len := [zsl.getD i 0]) (byt := [zsb.getD i []]) (A := zAp Γ)
        (fun k hk => by
          have : k = 0 := by omega
          subst this
          exact (show ∀ i, i < 18 → zsl.getD i 0 < 2 ^ 31 by decide) i hi)
        (fun k hk => hs _ (zsx i hi).1) (fun k hk => hs _ (zsx i hi).2.1) (fun k hk => hs _ (zsx i hi).2.2.1)
        (fun k hk => by
          have : k = 0 := by omega
          subst this
          exact hs _ (zsx i hi).2.2.2)
        (fun k hk j hj => by
          have : k = 0 := by omega
          subst this
          exact hs _ (zsy i hi j hj))
        (fun a b ha hb hab => absurd (by omega : a = b) hab) (fun a ha hn => by unfold zAp G_H at hn; omega)
      have e : adK 0 = G_s Γ i := by
        have := (h2 0 (by omega)).symm.trans (h.2.2.2 i (by omega))
        simpa using this
      have h3 := h1.1 0 (by omega)
      rw [e] at h3
      exact ⟨adV 0, fun _ => h3⟩
    · exact ⟨0, fun q => absurd q hi⟩
  obtain ⟨adV, hv⟩ := Classical.axiomOfChoice key
  exact ⟨adV, fun i hi => hv i hi⟩
/-- the addresses of the Strings' byte arrays -/
noncomputable def G_v (Γ : zG) : Nat → Nat := Classical.epsilon fun adV => zSt Γ adV (G_0 Γ) (G_H Γ)
theorem zs_v {Γ : zG} (h : zOK Γ) : zSt Γ (G_v Γ) (G_0 Γ) (G_H Γ) := Classical.epsilon_spec (zs_ex h)
theorem zsd : ∀ i, i < 18 → ∀ j, j < 18 → zsl.getD i 0 = zsl.getD j 0 → (∀ k, k < zsl.getD i 0 → (zsb.getD i []).getD k 0 = (zsb.getD j []).getD k 0) → i = j := by decide +kernel
/-- they differ, as their texts do -/
theorem zs_inj {Γ : zG} (h : zOK Γ) {i j : Nat} (hi : i < 18) (hj : j < 18) (e : G_s Γ i = G_s Γ j) : i = j := by
  have h1 := (zs_v h i hi).2.2
  have h2 := (zs_v h j hj).2.2
  rw [← e] at h2
  obtain ⟨⟨cf, k, fi, f, cell, a1, a2, a3, a4, a5, a6⟩, cellT, b1, b2, b3, b4, b5, b6, b7⟩ := h1
  obtain ⟨⟨cf', k', fi', f', cell', c1, c2, c3, c4, c5, c6⟩, cellT', d1, d2, d3, d4, d5, d6, d7⟩ := h2
  cases a1.symm.trans c1
  cases a3.symm.trans c3
  have e2 : G_v Γ i = G_v Γ j := by
    have := a5.symm.trans c5
    simpa using this
  rw [← e2] at d1
  cases b1.symm.trans d1
  have hb : ∀ i, i < 18 → zsl.getD i 0 < 5 := by decide
  have e3 : zsl.getD i 0 = zsl.getD j 0 := by
    have q1 := b5.symm.trans d5
    have q2 := congrArg Int32.toNatClampNeg q1
    have q3 := hb i hi
    have q4 := hb j hj
    rwa [Int32.toNatClampNeg_ofNat_of_lt (by omega), Int32.toNatClampNeg_ofNat_of_lt (by omega)] at q2
  refine zsd i hi j hj e3 (fun k hk => ?_)
  have q1 := (b6 k hk).symm.trans (d6 k (by omega))
  simpa using q1
theorem zs_13 {Γ : zG} (h : zOK Γ) : G_s Γ 18 = G_s Γ 13 := by
  have hs := flat_of_before _ h.2.2.1
  have e1 := h.2.2.2 13 (by omega)
  have e2 := h.2.2.2 18 (by omega)
  have key : ∀ (x y : Nat) (t1 t2 : Term), (Cond.eq t1 t2).before #[Value.ref (G_b Γ)] (G_0 Γ) = true → t1.eval #[Value.ref (G_b Γ)] (G_0 Γ) none [] (G_0 Γ) = some (.ref x) → t2.eval #[Value.ref (G_b Γ)] (G_0 Γ) none [] (G_0 Γ) = some (.ref y) → x = y := by
    intro x y t1 t2 h0 h1 h2
    simpa [Cond.before, Cond.holds, Cond.value, h1, h2] using h0
  rcases zss with h3 | h3
  · exact (key _ _ _ _ (hs _ h3) e1 e2).symm
  · exact key _ _ _ _ (hs _ h3) e2 e1
/-- which String constant stands at a -/
def zix (st : Nat → Nat) (a : Nat) : Option Nat := (List.range 18).find? (fun i => st i == a)
theorem zix_some {st : Nat → Nat} {a i : Nat} (h : zix st a = some i) : i < 18 ∧ st i = a := by
  have h1 := List.mem_of_find?_eq_some h
  have h2 := List.find?_some h
  exact ⟨List.mem_range.mp h1, by simpa using h2⟩
/-- a constant; its byte array; its coder; of the byte array of the i-th: its length, a byte -/
def gS (i : Nat) : xN Nat := fun A => some (A_st A i, A)
def sV (a : Nat) : xN Nat := fun A => (zix (A_st A) a).map fun i => (i, A)
def sC (a : Nat) : xN Int32 := fun A => (zix (A_st A) a).map fun _ => (0, A)
def vN (i : Nat) : xN Int32 := fun A => if i < 18 then some (zi (zsl.getD i 0 : Nat), A) else none
def vB (i : Nat) (k : Int32) : xN Int32 := fun A => if i < 18 ∧ ¬ (k < 0 ∨ zsl.getD i 0 ≤ k.toNatClampNeg) then some ((zsb.getD i []).getD k.toNatClampNeg 0, A) else none
/-- a String constant, as a receiver -/
def nS {β : Type} (a : Nat) (k : xN β) : xN β := fun A => if (zix (A_st A) a).isSome then k A else none
theorem z_nsr {β : Type} {a : Nat} {k : xN β} {A : zA} {r : β × zA} (hf : nS a k A = some r) : (∃ i, zix (A_st A) a = some i) ∧ k A = some r := by
  unfold nS at hf
  cases h : zix (A_st A) a with
  | none => rw [h] at hf; simp at hf
  | some i => rw [h] at hf; simp at hf; exact ⟨⟨i, rfl⟩, hf⟩
/-- into an array of Strings -/
def sRS (a : Nat) (i : Int32) (v : Nat) : xN Unit := fun A => if (A_kd A a = 105 ∧ (zix (A_st A) v).isSome) ∧ ¬ (i < 0 ∨ A_ln A a ≤ i.toNatClampNeg) then some ((), A_sar A a (va_up (A_ar A a) i.toNatClampNeg (some v))) else none
theorem z_nch {v : Int32} (h : (v.toUInt32 % 65536).toInt32 = v) : narrow .char (.int v) = .int v := by
  show Value.int _ = _
  first | exact congrArg Value.int h | simp [narrow, h]
theorem z_nby {v : Int32} (h : v.toInt8.toInt32 = v) : narrow .byte (.int v) = .int v := by
  show Value.int _ = _
  first | exact congrArg Value.int h | simp [narrow, h]
def zLn (ty : FieldType) (cc : ByteArray) (m : MethodId) (v : Int32) (g : JFrame) : Prop := ∃ pc ls, g = F0 m pc ls [.int v] ∧ decode cc pc = .ok (.ireturn, 1) ∧ narrow ty (.int v) = .int v
theorem xCt.mkn {Γ : zG} {l : Launch} {y : MethodName} {cc : ByteArray} {nL fr lo : Nat} {vals : List Value} {ty : FieldType} {f : xN Int32} (hy : plainName y.cls = true) (hn : (lg_sl vals).length ≤ nL)
    (h : xRg Γ l y cc nL (some ty) fr lo f (zAt0 nL 0 (lv_args 0 vals) []) (xNo (zLn ty cc))) : xCt Γ l y (ws_ y cc nL (some ty)) fr lo vals f xoi :=
  xCt.enter hy hn (fun p e R s m args below meth c So A0 A H locs x g th hex C hL hG => by
    obtain ⟨rfl, pc, ls, rfl, hd, hx⟩ := hL
    exact W.xmq (W.zret C.1.1 C.1.2.1 C.2.1 hx (fun t ht hW => ⟨rfl, by rw [ht]; exact hG.1.1, hG.2⟩) hG.1.2 hd C.2.2.1)) h
section XS
variable {Γ : zG} {p : Program} {l : Launch} {e : Env} {R : Room} {s : State} {m : MethodId} {args : Array Value} {below : List Frame} {meth : Method} {c : Code} {H : Heap} {locs : List Loc} {cells slots : Nat} {Q : State → Prop} {A0 A : zA} {So : Option zS}
variable {cc bytes : ByteArray} {nL pc fr lo maxL n index fr1 lo1 : Nat} {own nm : String} {ret ret1 : Option FieldType} {ls : Array Slot} {rest As st0 : List Value} {y : MethodName}
theorem xR.old (hG : xR Γ A0 A So H locs) : ∀ a : Nat, a < (G_H Γ).size → ¬ zAp Γ a → H[a]? = (G_H Γ)[a]? := fun a ha _ => hG.1.1.2.2 a ha
theorem xR.str (hK : zK Γ s) (hG : xR Γ A0 A So H locs) : zSt Γ (G_v Γ) s H := fun i hi =>
  have h := zs_v hK.1 i hi
  ⟨(va_O.moved hK.2.alike h.1).kept hG.old, (va_OF.moved hK.2.alike h.2.1).kept hG.old, (va_OF.moved hK.2.alike h.2.2.1).kept hG.old, (va_T.moved hK.2.alike h.2.2.2).kept hG.old⟩
theorem xR.st (hG : xR Γ A0 A So H locs) : A_st A = G_s Γ := hG.1.1.1.2.2.2.2.2.2.2
theorem xR.stat {C n d : String} {v : Value} (hK : zK Γ s) (hG : xR Γ A0 A So H locs) (h : va_Z C n d v (zAp Γ) (G_0 Γ) (G_H Γ)) : va_Z C n d v (zAp Γ) s H := (h.moved hK.2.alike).kept hG.old
theorem zx_ldS {β : Type} {K : Nat → xN β} {r : β × zA} {i : Nat} {own : String} (C : xCx Γ p R s m args meth c cc nL own ret fr lo nm A0) (hG : xR Γ A0 A So H locs) (hf : nB (gS i) K A = some r) (hi : i < 19) (hq : Cond.stringRef own index (zsC i).2.2 ∈ lw_tbl) (ho : (zsC i).1 = own) (hi2 : (zsC i).2.1 = index) (hd : decode cc pc = .ok (.ldc index, 2))
    (kk : ∀ v, K v A = some r → W p l e R s m args below meth c H locs cells slots Q (F0 m (pc + 2) ls (.ref v :: rest))) : W p l e R s m args below meth c H locs cells slots Q (F0 m pc ls rest) := by
  obtain ⟨⟨hx, hb, hml, hown, hts⟩, -, -, hK, -⟩ := C
  obtain ⟨v, A1, h1, h2⟩ := nB_some hf
  cases h1
  subst ho hi2
  have h3 := kk _ h2
  rw [hG.st] at h3
  exact va_ldcS hx hb hown (vk_R.warm hK.2 (vk_R.of (hK.1.2.1 _ hq) (hK.1.2.2.2 i hi))) hd h3
theorem zx_sV {β : Type} {K : Nat → xN β} {r : β × zA} {a : Nat} (C : xCx Γ p R s m args meth c cc nL own ret fr lo nm A0) (hG : xR Γ A0 A So H locs) (hf : nB (sV a) K A = some r) (hq : Cond.fieldLink own index "java/lang/String" "value" "[B" ∈ lw_all) (hd : decode cc pc = .ok (.getfield index, 3))
    (kk : ∀ i, K i A = some r → W p l e R s m args below meth c H locs cells slots Q (F0 m (pc + 3) ls (.ref (G_v Γ i) :: rest))) : W p l e R s m args below meth c H locs cells slots Q (F0 m pc ls (.ref a :: rest)) := by
  obtain ⟨⟨hx, hb, hml, hown, hts⟩, -, -, hK, -⟩ := C
  obtain ⟨v, A1, h1, h2⟩ := nB_some hf
  unfold sV at h1
  cases hz : zix (A_st A) a with
  | none => rw [hz] at h1; cases h1
  | some i =>
    rw [hz] at h1
    cases h1
    obtain ⟨hi, hst⟩ := zix_some hz
    rw [hG.st] at hst
    subst hst
    obtain ⟨cf, k, fi, f, cell, g1, g2, g3, g4, g5, g6⟩ := ((hG.str hK v hi)).2.2.1
    exact W.getf hx hb hown (hts _ hq) g1 g2 g3 g4 (v := .ref (G_v Γ v)) g5 rfl rfl hd (kk _ h2)
theorem zx_sC {β : Type} {K : Int32 → xN β} {r : β × zA} {a : Nat} (C : xCx Γ p R s m args meth c cc nL own ret fr lo nm A0) (hG : xR Γ A0 A So H locs) (hf : nB (sC a) K A = some r) (hq : Cond.fieldLink own index "java/lang/String" "coder" "B" ∈ lw_all) (hd : decode cc pc = .ok (.getfield index, 3))
    (kk : ∀ v, K v A = some r → W p l e R s m args below meth c H locs cells slots Q (F0 m (pc + 3) ls (.int v :: rest))) : W p l e R s m args below meth c H locs cells slots Q (F0 m pc ls (.ref a :: rest)) := by
  obtain ⟨⟨hx, hb, hml, hown, hts⟩, -, -, hK, -⟩ := C
  obtain ⟨v, A1, h1, h2⟩ := nB_some hf
  unfold sC at h1
  cases hz : zix (A_st A) a with
  | none => rw [hz] at h1; cases h1
  | some i =>
    rw [hz] at h1
    cases h1
    obtain ⟨hi, hst⟩ := zix_some hz
    rw [hG.st] at hst
    subst hst
    obtain ⟨cf, k, fi, f, cell, g1, g2, g3, g4, g5, g6⟩ := ((hG.str hK i hi)).2.1
    exact W.getf hx hb hown (hts _ hq) g1 g2 g3 g4 (v := .int 0) g5 rfl rfl hd (kk _ h2)
theorem zx_vN {β : Type} {K : Int32 → xN β} {r : β × zA} {i : Nat} (C : xCx Γ p R s m args meth c cc nL own ret fr lo nm A0) (hG : xR Γ A0 A So H locs) (hf : nB (vN i) K A = some r) (hd : decode cc pc = .ok (.arraylength, 1))
    (kk : ∀ v, K v A = some r → W p l e R s m args below meth c H locs cells slots Q (F0 m (pc + 1) ls (.int v :: rest))) : W p l e R s m args below meth c H locs cells slots Q (F0 m pc ls (.ref (G_v Γ i) :: rest)) := by
  obtain ⟨⟨hx, hb, hml, hown, hts⟩, -, -, hK, -⟩ := C
  obtain ⟨v, A1, h1, h2⟩ := nB_some hf
  obtain ⟨hi, h3⟩ := z_if h1
  cases h3
  obtain ⟨cell, t1, t2, t3, t4, t5, t6, t7⟩ := ((hG.str hK i hi)).2.2.2
  exact W.alen (n := zi (zsl.getD i 0 : Nat)) hx hb t1 t2 (by rw [zi_nat]; exact t5) rfl rfl hd (kk _ h2)
theorem zx_vB {β : Type} {K : Int32 → xN β} {r : β × zA} {i : Nat} {j : Int32} (C : xCx Γ p R s m args meth c cc nL own ret fr lo nm A0) (hG : xR Γ A0 A So H locs) (hf : nB (vB i j) K A = some r) (hd : decode cc pc = .ok (.baload, 1))
    (kk : ∀ v, K v A = some r → W p l e R s m args below meth c H locs cells slots Q (F0 m (pc + 1) ls (.int v :: rest))) : W p l e R s m args below meth c H locs cells slots Q (F0 m pc ls (.int j :: .ref (G_v Γ i) :: rest)) := by
  obtain ⟨⟨hx, hb, hml, hown, hts⟩, -, -, hK, -⟩ := C
  obtain ⟨v, A1, h1, h2⟩ := nB_some hf
  obtain ⟨⟨hi, hin⟩, h3⟩ := z_if h1
  cases h3
  obtain ⟨cell, t1, t2, t3, t4, t5, t6, t7⟩ := ((hG.str hK i hi)).2.2.2
  have hlt : j.toNatClampNeg < zsl.getD i 0 := Nat.not_le.mp fun q => hin (Or.inr q)
  exact W.bald (v := .int ((zsb.getD i []).getD j.toNatClampNeg 0)) hx hb t1 t2 t3 (fun q => by
    rcases q with q | q
    · exact hin (Or.inl q)
    · omega) (t6 _ hlt) rfl rfl hd (kk _ h2)
theorem zx_sRS {β : Type} {K : Unit → xN β} {r : β × zA} {a v : Nat} {i : Int32} (C : xCx Γ p R s m args meth c cc nL own ret fr lo nm A0) (hG : xR Γ A0 A So H locs) (hf : nB (sRS a i v) K A = some r) (hd : decode cc pc = .ok (.aastore, 1))
    (kk : ∀ (A : zA) (H1 : Heap) (locs1 : List Loc), xR Γ A0 A So H1 locs1 → K () A = some r → W p l e R s m args below meth c H1 locs1 (A_nc A - A_nc A0) (A_us A - A_us A0) Q (F0 m (pc + 1) ls rest)) : W p l e R s m args below meth c H locs (A_nc A - A_nc A0) (A_us A - A_us A0) Q (F0 m pc ls (.ref v :: .int i :: .ref a :: rest)) := by
  obtain ⟨⟨hx, hb, hml, hown, hts⟩, hr, hlk, hK, -⟩ := C
  obtain ⟨u, A1, h1, h2⟩ := nB_some hf
  obtain ⟨⟨⟨h3, h5⟩, hin⟩, h4⟩ := z_if h1
  cases h4
  obtain ⟨hc, hln, hby⟩ := hG.1.1.1.2.2.2.2.1 a 4 h3 (by omega)
  rw [zarr_q (by omega)] at hc
  have hlt : i.toNatClampNeg < A_ln A a := Nat.not_le.mp fun q => hin (Or.inr q)
  have h0 : ¬ i < 0 := fun q => hin (Or.inl q)
  cases hz : zix (A_st A) v with
  | none => rw [hz] at h5; cases h5
  | some w =>
    obtain ⟨hi, hst⟩ := zix_some hz
    rw [hG.st] at hst
    subst hst
    obtain ⟨cellV, g1, g2, g3, g4⟩ := ((hG.str hK w hi)).1
    have hra := (hK.K.2 4 _ (zTY_at _ (by omega))).2
    obtain ⟨kA, comp, k1, k2, k3, -⟩ := hra
    have hcomp : comp = cellV.cls := Option.some.inj (k3.symm.trans g3)
    subst hcomp
    obtain ⟨kC, hkC, hkC2⟩ := Vm.findClass_spec g3
    refine W.aast hx hb hc (fun q h => by cases h) (fun h => by cases h) k1 k2 rfl hkC ⟨h0, by show _ < (arrV _ _ _).slots.size; rw [arrV_size]; exact hlt⟩ g1 (fun q h => by rw [h] at g2; cases g2) hkC (va_asg _ _) rfl rfl hd fun H1 e z oq => ?_
    have ho := zOther.ar A a (va_up (A_ar A a) i.toNatClampNeg (some (G_s Γ w)))
    refine (kk _ H1 _ (ho.xr hG (by omega) z oq (zC.arrs (t := 4) (by rw [ho.1]; exact h3) (by omega) ?_ (by rw [ho.2.2.2.2.2.1]; exact hln) (fun e9 => by omega))) h2 :)
    rw [e, zarr_q (by omega), vp_cell_q, vp_cell_q, arrV_store]
    rw [show A_ar (A_sar A a (va_up (A_ar A a) i.toNatClampNeg (some (G_s Γ w)))) a = va_up (A_ar A a) i.toNatClampNeg (some (G_s Γ w)) by show va_up _ _ _ a = _; simp [va_up]]
    congr 2
    funext q
    by_cases hq : q = i.toNatClampNeg
    · subst hq; simp [updV, va_up, va_rf]
    · simp [updV, va_up, hq]
/-! statics -/
theorem zx_gets {n d ref : String} {v : Value} {index : Nat} (C : xCx Γ p R s m args meth c cc nL own ret fr lo nm A0) (hG : xR Γ A0 A So H locs) (hZ : va_Z ref n d v (zAp Γ) (G_0 Γ) (G_H Γ)) (hq : Cond.fieldLink own index ref n d ∈ lw_all) (hd : decode cc pc = .ok (.getstatic index, 3))
    (kk : W p l e R s m args below meth c H locs cells slots Q (F0 m (pc + 3) ls (v :: rest))) : W p l e R s m args below meth c H locs cells slots Q (F0 m pc ls rest) := by
  obtain ⟨⟨hx, hb, hml, hown, hts⟩, -, -, hK, -⟩ := C
  obtain ⟨cf, kf, fi, f, a, cell, h1, h2, h3, h4, h5, h6, h7, h8⟩ := hG.stat hK hZ
  exact W.gets hx hb hown (hts _ hq) h1 h2 h3 h4 h5 (fun e => by rw [e] at h6; cases h6) h7 rfl hd kk
/-! calls by a receiver of which the class is known -/
theorem zx_Vg {α β : Type} {f : xN α} {K : α → xN β} {r : β × zA} {out : α → Outcome} {b : Nat} {cn : String} (C : xCx Γ p R s m args meth c cc nL own ret fr lo nm A0) (hG : xR Γ A0 A So H locs) (hf : nB f K A = some r) (hrc : ∃ cellB : Cell, H[b]? = some cellB ∧ cellB.vm.isStatics = false ∧ s.vm.findClass cn = some cellB.cls) (hM : xCt Γ l y (ws_ y bytes maxL ret1) fr1 lo1 (.ref b :: As) f out)
    (q1 : Cond.methodLink own index y ∈ lw_all) (q2 : Cond.instanceMethod y ∈ lw_all) (q3 : (Cond.selects cn y y).before args s = true) (q4 : Cond.initialized y.cls ∈ lw_all) (q5 : Cond.code y bytes maxL ret1 ∈ lw_all) (hy : xN2 y n) (hn : As.length = n) (hs0 : st0 = As.reverse ++ .ref b :: rest) (hfr : fr1 + 1 ≤ fr) (hlo : 8 + (maxL + 11) + lo1 ≤ lo) (hl : ls.size = nL) (hst : (rest.map fun v => v.category).sum ≤ 8) (hd : decode cc pc = .ok (.invokevirtual index, 3))
    (kk : xKK Γ p l e R s m args below meth c Q A0 So pc ls rest out K r) : W p l e R s m args below meth c H locs (A_nc A - A_nc A0) (A_us A - A_us A0) Q (F0 m pc ls st0) := by
  have C' := C
  obtain ⟨⟨hx, hb, hml, hown, hts⟩, -, -, hK, -⟩ := C'
  obtain ⟨cellB, h1, h2, h3⟩ := hrc
  exact zx_call C hG hf hM q5 q4 hfr hlo hl hst hd (fun T hT X => xi_V X hx hown (hts _ q1) (hts _ q2) q3 (hts _ q5) ⟨hy.1, hy.2.1⟩ (by rw [hT]; exact h1) h2 h3 rfl (fun sig h => hn.trans (hy.len sig h)) hs0 (by rw [hb]; exact hd)) kk
theorem xrecS {b : Nat} (hK : zK Γ s) (hG : xR Γ A0 A So H locs) (h : ∃ i, zix (A_st A) b = some i) : ∃ cellB : Cell, H[b]? = some cellB ∧ cellB.vm.isStatics = false ∧ s.vm.findClass "java/lang/String" = some cellB.cls := by
  obtain ⟨i, hz⟩ := h
  obtain ⟨hi, hst⟩ := zix_some hz
  rw [hG.st] at hst
  subst hst
  obtain ⟨cell, h1, h2, h3, -⟩ := ((hG.str hK i hi)).1
  exact ⟨cell, h1, h2, h3⟩
end XS
theorem w113 : (Jvm.Cond.initialized "java/lang/String") ∈ lw_tbl := lw_at lw_m1 14 rfl
theorem w115 : (Jvm.Cond.initialized "jdk/internal/util/Preconditions") ∈ lw_tbl := lw_at lw_m1 16 rfl
theorem zst_c {Γ : zG} (h : zOK Γ) : va_Z "java/lang/String" "COMPACT_STRINGS" "Z" (.int 1) (zAp Γ) (G_0 Γ) (G_H Γ) := by
  have hs := flat_of_before _ h.2.2.1
  exact va_Zof (args := #[Value.ref (G_b Γ)]) (h.2.1 _ q662) (h.2.1 _ w113) (va_eqi (hs _ (by decide +kernel))) (fun a ha hn => by unfold zAp G_H at hn; omega)
theorem zst_f0 {Γ : zG} (h : zOK Γ) : ∃ o : Option Nat, va_Z "jdk/internal/util/Preconditions" "SIOOBE_FORMATTER" "Ljava/util/function/BiFunction;" (va_rf o) (zAp Γ) (G_0 Γ) (G_H Γ) := by
  have hs := flat_of_before _ h.2.2.1
  rcases va_Zqof (args := #[Value.ref (G_b Γ)]) (A := zAp Γ) (h.2.1 _ q678) (h.2.1 _ w115) (hs _ (by decide +kernel)) (fun a ha hn => by unfold zAp G_H at hn; omega) with h | ⟨t, h⟩
  · exact ⟨none, h⟩
  · exact ⟨some t, h⟩
noncomputable def G_f (Γ : zG) : Option Nat := Classical.epsilon fun o => va_Z "jdk/internal/util/Preconditions" "SIOOBE_FORMATTER" "Ljava/util/function/BiFunction;" (va_rf o) (zAp Γ) (G_0 Γ) (G_H Γ)
theorem zst_f {Γ : zG} (h : zOK Γ) : va_Z "jdk/internal/util/Preconditions" "SIOOBE_FORMATTER" "Ljava/util/function/BiFunction;" (va_rf (G_f Γ)) (zAp Γ) (G_0 Γ) (G_H Γ) := Classical.epsilon_spec (zst_f0 h)
/-- a private method is selected whatever the receiver's class -/
theorem z_selp {cn : String} {y : MethodName} {s : State} {args : Array Value} {c : ClassId} (hy : y.cls ≠ "java/lang/invoke/MethodHandle" ∧ y.cls ≠ "java/lang/invoke/VarHandle")
    (hc : s.vm.findClass cn = some c) (h0 : (Cond.selects y.cls y y).before args s = true) (hpriv : (Cond.privateMethod y).before args s = true) (hinst : (Cond.instanceMethod y).before args s = true) : (Cond.selects cn y y).before args s = true := by
  obtain ⟨mk, methM, hnamed, hmethM, -, -⟩ := Cond.instanceMethod_spec hinst
  have hfound : s.methodFound? y.cls y.name y.desc = some mk := State.methodFound?_of_named hnamed hy
  have hsel : selectMethod {} s.vm c mk = .method mk := selectMethod_private hmethM (Cond.privateMethod_at hpriv mk methM hnamed hmethM)
  obtain ⟨c2, r2, m2, g1, g2, g3, g4, kP, hkP, hkPi⟩ := Cond.selects_spec h0
  cases hnamed.symm.trans g3
  simp only [Cond.before, Cond.holds, Cond.value, hc, hfound, hnamed, hsel, hkP]
  simp [hkPi]
