set_option maxRecDepth 100000
/-! STAGE 1, the JDK's check of an index -/
def xJ2_checkIndex (a0 a1 : Int32) : xN Int32 := if a0 < 0 then nX else if a0 < a1 then nP a0 else nX
theorem wJ2_checkIndex (Γ : zG) (l : Launch) (a0 a1 : Int32) (w : Value) : xRg Γ l yJ2_checkIndex cJ2_checkIndex 3 (some .int) 0 0 (xJ2_checkIndex a0 a1) (zAt0 3 0 [(0, .int a0), (1, .int a1), (2, w)] []) (xNo (zLi cJ2_checkIndex)) := by
  intro p e R s m args below meth c Q A0 So A H locs x A' g C hG hI hf kk
  obtain ⟨ls, rfl, hl⟩ := hI
  obtain ⟨⟨hx, hb, hml, hown, hts⟩, hr, hlk, hK, hR1, hR2, hRc, hRs, hnm⟩ := id C
  have hl : lv_has ls 3 [(0, .int a0), (1, .int a1), (2, w)] := hl
  refine lv_iload_n hx hb dJ2_checkIndex_0 rfl (lv_at hl 0 rfl) ?_
  refine lv_if_lt (tgt := 9) hx hb dJ2_checkIndex_1 (by decide) (fun c1 => ?_) (fun c1 => ?_)
  · have hf := z_t c1 hf
    cases hf
  have hf := z_f c1 hf
  refine lv_iload_n hx hb dJ2_checkIndex_4 rfl (lv_at hl 0 rfl) ?_
  refine lv_iload_n hx hb dJ2_checkIndex_5 rfl (lv_at hl 1 rfl) ?_
  refine lv_icmp_lt (tgt := 16) hx hb dJ2_checkIndex_6 (by decide) (fun c2 => ?_) (fun c2 => ?_)
  · have hf := z_t c2 hf
    refine lv_iload_n hx hb dJ2_checkIndex_16 rfl (lv_at hl 0 rfl) ?_
    obtain ⟨rfl, rfl⟩ := z_p hf
    exact kk _ _ _ none ⟨rfl, _, _, rfl, dJ2_checkIndex_17⟩ hG
  · have hf := z_f c2 hf
    cases hf
theorem ctJ2_checkIndex (Γ : zG) (l : Launch) (a0 a1 : Int32) (o : Option Nat) : xCt Γ l yJ2_checkIndex (ws_ yJ2_checkIndex cJ2_checkIndex 3 (some .int)) 0 0 [.int a0, .int a1, va_rf o] (xJ2_checkIndex a0 a1) xoi := by
  cases o with
  | none => exact xCt.mki (by decide +kernel) (Nat.le_of_ble_eq_true rfl) (wJ2_checkIndex Γ l a0 a1 .null)
  | some f => exact xCt.mki (by decide +kernel) (Nat.le_of_ble_eq_true rfl) (wJ2_checkIndex Γ l a0 a1 (.ref f))
theorem ytJ2_checkIndex : xN2 yJ2_checkIndex 3 := by unfold xN2; decide +kernel
def xJ0_checkIndex (a0 a1 : Int32) : xN Unit := nB (xJ2_checkIndex a0 a1) fun _ => nP ()
theorem wxJ0_checkIndex (Γ : zG) (l : Launch) (a0 a1 : Int32) : xRg Γ l yJ0_checkIndex cJ0_checkIndex 2 none 1 22 (xJ0_checkIndex a0 a1) (zAt0 2 0 (lv_args 0 [.int a0, .int a1]) []) (xNo (zLv cJ0_checkIndex)) := by
  intro p e R s m args below meth c Q A0 So A H locs x A' g C hG hI hf kk
  obtain ⟨ls, rfl, hl⟩ := hI
  obtain ⟨⟨hx, hb, hml, hown, hts⟩, hr, hlk, hK, hR1, hR2, hRc, hRs, hnm⟩ := id C
  have hl : lv_has ls 2 [(0, .int a0), (1, .int a1)] := hl
  refine lv_iload_n hx hb dJ0_checkIndex_0 rfl (lv_at hl 0 rfl) ?_
  refine lv_iload_n hx hb dJ0_checkIndex_1 rfl (lv_at hl 1 rfl) ?_
  refine zx_gets C hG (zst_f hK.1) q677 dJ0_checkIndex_2 ?_
  refine zx_S (As := [.int a0, .int a1, va_rf (G_f Γ)]) (rest := []) C hG hf (ctJ2_checkIndex Γ l a0 a1 (G_f Γ)) q679 q680 q115 q681 ytJ2_checkIndex rfl rfl (Nat.le_of_ble_eq_true rfl) (Nat.le_of_ble_eq_true rfl) hl.1 (Nat.le_of_ble_eq_true rfl) dJ0_checkIndex_5 (xk_i fun v A H locs hG hf => ?_)
  refine lv_pop hx hb dJ0_checkIndex_8 rfl ?_
  obtain ⟨rfl, rfl⟩ := z_p hf
  exact kk _ _ _ none ⟨rfl, _, _, rfl, dJ0_checkIndex_9⟩ hG
theorem ctxJ0_checkIndex (Γ : zG) (l : Launch) (a0 a1 : Int32) : xCt Γ l yJ0_checkIndex (ws_ yJ0_checkIndex cJ0_checkIndex 2 none) 1 22 [.int a0, .int a1] (xJ0_checkIndex a0 a1) xov := xCt.mkv (by decide +kernel) (Nat.le_of_ble_eq_true rfl) (wxJ0_checkIndex Γ l a0 a1)
theorem ytxJ0_checkIndex : xN2 yJ0_checkIndex 2 := by unfold xN2; decide +kernel
