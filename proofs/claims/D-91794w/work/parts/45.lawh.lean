set_option maxRecDepth 100000
/-! STAGE 1, the law: its rows -/
def R_law : String := "PretendDeskLaw"
section LW
variable {Γ : zG} {p : Program} {l : Launch} {e : Env} {R : Room} {s : State} {m : MethodId} {args : Array Value} {below : List Frame} {meth : Method} {c : Code} {H : Heap} {locs : List Loc} {Q : State → Prop} {A0 A : zA} {S : zS} {So : Option zS}
variable {cc bytes : ByteArray} {nL pc fr lo maxL n index fr1 lo1 cells slots : Nat} {own nm : String} {ret ret1 : Option FieldType} {ls : Array Slot} {rest As st0 : List Value} {y : MethodName}
/-- a call of the model -/
theorem lm_V {f : mN Int32} {r : Int32} {S1 : zS} (C : xCx Γ p R s m args meth c cc nL own ret fr lo nm A0) (hG : xR Γ A0 A (some S) H locs) (h1 : f S = some (r, S1)) (hM : mCt Γ l y (ws_ y bytes maxL ret1) fr1 lo1 (.ref (G_m Γ 0) :: As) f zoi) (hw : GoodIn lw_all (wsV own index RX7 y (ws_ y bytes maxL ret1)))
    (hd0 : y.cls = RX7 ∧ y.cls ≠ "java/lang/invoke/MethodHandle" ∧ y.cls ≠ "java/lang/invoke/VarHandle" ∧ (parseMethodDescriptor y.desc).map (fun d => d.parameters.length) = some n) (hn : As.length = n) (hs0 : st0 = As.reverse ++ .ref (G_m Γ 0) :: rest) (hfr : fr1 + 1 ≤ fr) (hlo : 8 + (maxL + 11) + lo1 ≤ lo) (hl : ls.size = nL) (hst : (rest.map fun v => v.category).sum ≤ 8) (hd : decode cc pc = .ok (.invokevirtual index, 3))
    (kk : ∀ (H1 : Heap) (locs1 : List Loc), xR Γ A0 A (some S1) H1 locs1 → W p l e R s m args below meth c H1 locs1 (A_nc A - A_nc A0) (A_us A - A_us A0) Q (F0 m (pc + 3) ls (.int r :: rest))) : W p l e R s m args below meth c H locs (A_nc A - A_nc A0) (A_us A - A_us A0) Q (F0 m pc ls st0) := by
  subst hs0
  have hroom := xroom C hG
  obtain ⟨C1, hr, hlk, hK, hR1, hR2, -⟩ := C
  obtain ⟨⟨⟨cell, q1, q2, q3, q4⟩, -⟩, -⟩ := hG.1.1.2.1 S rfl
  have hrun := va_runV (below := below) (meth := meth) (locs := locs) (e := e) (C := RX7) (b := G_m Γ 0) (As := As) (rest := rest) (n := n) (cells := A_nc A - A_nc A0) (slots := A_us A - A_us A0) (g := F0 m pc ls (As.reverse ++ .ref (G_m Γ 0) :: rest)) C1 (hM A S S1 r h1) (cwV n C1.2.2.2.2 hw rfl rfl rfl hd0 ⟨Nat.le_trans hfr hR1, Nat.le_trans hlo hR2⟩) ⟨fun a U g mk q => ⟨q.1, q.2.1, q.2.2⟩, ⟨cell, q1, by rw [q3]; rfl, by rw [q2]; exact (hK.K.1 7 _ rfl).2.1⟩, fun U hU hW => ⟨rfl, by rw [hU]; exact hG.1.1, hK.moved hW⟩⟩ rfl hn hl rfl (lv_room hst) hd ⟨by omega, by omega⟩
  intro T hT X
  obtain ⟨v9, st₀, t, T', L, h0, X', hL, e1, e2, ⟨hv, hrel⟩, st⟩ := hrun T hT X
  cases hv
  obtain ⟨t2, a1, b1⟩ := kk T'.heap (locs ++ L) ⟨⟨by rw [e1]; exact hrel, fun q hq => by
    rcases List.mem_append.mp hq with h | h
    · exact hG.1.2 q h
    · exact hL q h⟩, hG.2⟩ T' rfl X'
  exact ⟨t2, st t2 a1, b1⟩
/-- a call of PretendDesk -/
theorem lx_V {f : xN Int32} {r : Int32} {A1 : zA} {ci b : Nat} {q : vw_C} {ty : Nat → FieldType} (C : xCx Γ p R s m args meth c cc nL own ret fr lo nm A0) (hG : xR Γ A0 A So H locs) (h1 : f A = some (r, A1)) (hkd : A_kd A b = ci + 1) (hC : zCls ci q ty) (hM : xCt Γ l y (ws_ y bytes maxL ret1) fr1 lo1 (.ref b :: As) f xoi)
    (q1 : Cond.methodLink own index y ∈ lw_all) (q2 : Cond.instanceMethod y ∈ lw_all) (q3 : Cond.selects q.1 y y ∈ lw_all) (q4 : Cond.initialized y.cls ∈ lw_all) (q5 : Cond.code y bytes maxL ret1 ∈ lw_all) (hy : xN2 y n) (hn : As.length = n) (hs0 : st0 = As.reverse ++ .ref b :: rest) (hfr : fr1 + 1 ≤ fr) (hlo : 8 + (maxL + 11) + lo1 ≤ lo) (hl : ls.size = nL) (hst : (rest.map fun v => v.category).sum ≤ 8) (hd : decode cc pc = .ok (.invokevirtual index, 3))
    (kk : ∀ (H1 : Heap) (locs1 : List Loc), xR Γ A0 A1 So H1 locs1 → W p l e R s m args below meth c H1 locs1 (A_nc A1 - A_nc A0) (A_us A1 - A_us A0) Q (F0 m (pc + 3) ls (.int r :: rest))) : W p l e R s m args below meth c H locs (A_nc A - A_nc A0) (A_us A - A_us A0) Q (F0 m pc ls st0) :=
  zx_V (K := fun v => nP v) (r := (r, A1)) C hG (by unfold nB; rw [h1]; rfl) hkd hC hM q1 q2 q3 q4 q5 hy hn hs0 hfr hlo hl hst hd (xk_i fun v A2 H1 locs1 hG1 hf => by
    obtain ⟨rfl, rfl⟩ := z_p hf
    exact kk H1 locs1 hG1)
theorem lx_VW {f : xN Int32} {r : Int32} {A1 : zA} {ci b : Nat} {q : vw_C} {ty : Nat → FieldType} {hh : List (Nat × Nat × Nat × Nat)} (C : xCx Γ p R s m args meth c cc nL own ret fr lo nm A0) (hG : xR Γ A0 A So H locs) (h1 : f A = some (r, A1)) (hkd : A_kd A b = ci + 1) (hC : zCls ci q ty) (hM : xCt Γ l y (wsW_ y bytes maxL ret1 hh) fr1 lo1 (.ref b :: As) f xoi)
    (q1 : Cond.methodLink own index y ∈ lw_all) (q2 : Cond.instanceMethod y ∈ lw_all) (q3 : Cond.selects q.1 y y ∈ lw_all) (q4 : Cond.initialized y.cls ∈ lw_all) (q5 : Cond.codeWith y bytes maxL ret1 hh ∈ lw_all) (hy : xN2 y n) (hn : As.length = n) (hs0 : st0 = As.reverse ++ .ref b :: rest) (hfr : fr1 + 1 ≤ fr) (hlo : 8 + (maxL + 11) + lo1 ≤ lo) (hl : ls.size = nL) (hst : (rest.map fun v => v.category).sum ≤ 8) (hd : decode cc pc = .ok (.invokevirtual index, 3))
    (kk : ∀ (H1 : Heap) (locs1 : List Loc), xR Γ A0 A1 So H1 locs1 → W p l e R s m args below meth c H1 locs1 (A_nc A1 - A_nc A0) (A_us A1 - A_us A0) Q (F0 m (pc + 3) ls (.int r :: rest))) : W p l e R s m args below meth c H locs (A_nc A - A_nc A0) (A_us A - A_us A0) Q (F0 m pc ls st0) :=
  zx_VW (K := fun v => nP v) (r := (r, A1)) C hG (by unfold nB; rw [h1]; rfl) hkd hC hM q1 q2 q3 q4 q5 hy hn hs0 hfr hlo hl hst hd (xk_i fun v A2 H1 locs1 hG1 hf => by
    obtain ⟨rfl, rfl⟩ := z_p hf
    exact kk H1 locs1 hG1)
/-- an int of the script -/
theorem lw_ld {b L k : Nat} {xs : Nat → Int32} (hx : p.tables.exec = Jvm.exec) (hb : c.code = cc) (hX : va_X b L xs s (G_H Γ)) (hbl : b < (G_H Γ).size) (hL : L ≤ 384) (hG : xR Γ A0 A So H locs) (hk : k < L) (hd : decode cc pc = .ok (.iaload, 1))
    (kk : W p l e R s m args below meth c H locs cells slots Q (F0 m (pc + 1) ls (.int (xs k) :: rest))) : W p l e R s m args below meth c H locs cells slots Q (F0 m pc ls (.int (zi (k : Int)) :: .ref b :: rest)) := by
  obtain ⟨scr, h1, h2, h3, h4, h5⟩ := hX
  exact W.iald (v := .int (xs k)) hx hb (by rw [hG.1.1.2.2 b hbl]; exact h1) h2 h3 (by rw [h4]; exact zi_in (by omega) (by omega) (by omega)) (by rw [zi_tn (by omega) (by omega)]; exact h5 _ hk) rfl rfl hd kk
theorem lw_el {b L i j x y : Nat} {ji : Int} {xs : Nat → Int32} (hx : p.tables.exec = Jvm.exec) (hb : c.code = cc) (hX : va_X b L xs s (G_H Γ)) (hbl : b < (G_H Γ).size) (hL : L ≤ 384) (hG : xR Γ A0 A So H locs) (hl : lv_has ls 4 [(0, .ref b), (1, .ref x), (2, .ref y), (3, .int (zi (i : Int)))]) (hi : i + 6 ≤ L) (j : Nat) (hj : ji = (j : Int)) (hj6 : j < 6)
    (d1 : decode cc pc = .ok (.aload_n 0, 1)) (d2 : decode cc (pc + 1) = .ok (.iload_n 3, 1)) (d3 : decode cc (pc + 2) = .ok (.iconst ji, 1)) (d4 : decode cc (pc + 3) = .ok (.iadd, 1)) (d5 : decode cc (pc + 4) = .ok (.iaload, 1))
    (kk : W p l e R s m args below meth c H locs cells slots Q (F0 m (pc + 5) ls (.int (xs (i + j)) :: rest))) : W p l e R s m args below meth c H locs cells slots Q (F0 m pc ls rest) := by
  subst hj
  refine lv_aload_n hx hb d1 rfl (lv_at hl 0 rfl) ?_
  refine lv_iload_n hx hb d2 rfl (lv_at hl 3 rfl) ?_
  refine lv_iconst (v := zi (j : Int)) hx hb d3 rfl ?_
  refine lv_iadd hx hb d4 ?_
  rw [zi_add, show (i : Int) + (j : Int) = ((i + j : Nat) : Int) by omega]
  exact lw_ld hx hb hX hbl hL hG (by omega) d5 kk
/-- whether an int of the script isn't 0 -/
theorem lw_elb {b L i j x y pc1 pc2 : Nat} {ji o1 o2 : Int} {xs : Nat → Int32} (hx : p.tables.exec = Jvm.exec) (hb : c.code = cc) (hX : va_X b L xs s (G_H Γ)) (hbl : b < (G_H Γ).size) (hL : L ≤ 384) (hG : xR Γ A0 A So H locs) (hl : lv_has ls 4 [(0, .ref b), (1, .ref x), (2, .ref y), (3, .int (zi (i : Int)))]) (hi : i + 6 ≤ L) (j : Nat) (hj : ji = (j : Int)) (hj6 : j < 6)
    (d1 : decode cc pc = .ok (.aload_n 0, 1)) (d2 : decode cc (pc + 1) = .ok (.iload_n 3, 1)) (d3 : decode cc (pc + 2) = .ok (.iconst ji, 1)) (d4 : decode cc (pc + 3) = .ok (.iadd, 1)) (d5 : decode cc (pc + 4) = .ok (.iaload, 1))
    (d6 : decode cc (pc + 5) = .ok (.ifCond .eq o1, 3)) (d7 : decode cc (pc + 8) = .ok (.iconst 1, 1)) (d8 : decode cc (pc + 9) = .ok (.goto o2, 3)) (d9 : decode cc pc1 = .ok (.iconst 0, 1)) (e1 : ((pc + 5 : Nat) : Int) + o1 = (pc1 : Int)) (e2 : ((pc + 9 : Nat) : Int) + o2 = (pc2 : Int)) (e3 : pc1 + 1 = pc2)
    (kk : W p l e R s m args below meth c H locs cells slots Q (F0 m pc2 ls (.int (if xs (i + j) = 0 then zi 0 else zi 1) :: rest))) : W p l e R s m args below meth c H locs cells slots Q (F0 m pc ls rest) := by
  refine lw_el hx hb hX hbl hL hG hl hi j hj hj6 d1 d2 d3 d4 d5 ?_
  refine lv_if_eq hx hb d6 e1 (fun h => ?_) (fun h => ?_)
  · refine lv_iconst (v := zi 0) hx hb d9 rfl ?_
    rw [if_pos h] at kk
    rw [e3]; exact kk
  · refine lv_iconst (v := zi 1) hx hb d7 rfl ?_
    refine lv_goto hx hb d8 e2 ?_
    rw [if_neg h] at kk
    exact kk
end LW
/-- what holds all through the law -/
abbrev lwC (Γ : zG) (p : Program) (R : Room) (s : State) (m : MethodId) (args : Array Value) (meth : Method) (c : Code) (A0 : zA) : Prop := xCx Γ p R s m args meth c cL_law 4 R_law (some .boolean) 2048 84000 "law" A0
