set_option maxRecDepth 100000
/-! the model: its bytecode does what the functions do (printed by genm.py) -/
def im_feed_l21 (Γ : zG) (f1 : Int32) (f2 : Int32) (f3 : Int32) (f4 : Int32) (f5 : Int32) (m : MethodId) (s : Int32) (g : JFrame) : Prop := zAt0 8 21 [(0, .ref (G_m Γ 0)), (1, .int f1), (2, .int f2), (3, .int f3), (4, .int f4), (5, .int f5), (6, .int s)] [] m g
def em_feed_l21 (Γ : zG) (f1 : Int32) (f2 : Int32) (f3 : Int32) (f4 : Int32) (f5 : Int32) (m : MethodId) (e : Unit) (g : JFrame) : Prop := zAt0 8 125 [(0, .ref (G_m Γ 0))] [] m g
set_option maxHeartbeats 4000000 in
theorem wm_feed_l21_j74 (Γ : zG) (l : Launch) (b1 : Int32) (b2 : Int32) (b3 : Int32) (b4 : Int32) (b5 : Int32) (b6 : Int32) (t0 : Int32) : mRg Γ l yX7_feed cX7_feed 8 (some .int) 0 0 (m_feed_l21_j74 b1 b2 b3 b4 b5 b6 t0) (zAt0 8 74 [(0, .ref (G_m Γ 0)), (1, .int b1), (2, .int b2), (3, .int b3), (4, .int b4), (5, .int b5), (6, .int b6)] [.int t0]) (zLE (im_feed_l21 Γ b1 b2 b3 b4 b5) (em_feed_l21 Γ b1 b2 b3 b4 b5)) := by
  intro p e R s m args below meth c Q A S H locs x S' g C hG hI hf kk
  obtain ⟨ls, rfl, hl⟩ := hI
  obtain ⟨⟨hx, hb, hml, hown, hts⟩, hr, hlk, hK, hR1, hR2⟩ := id C
  have C : zCx Γ p R s m args meth c cX7_feed 8 RX7 (some .int) 0 0 := C
  refine lv_istore (lv' := [(7, .int t0), (0, .ref (G_m Γ 0)), (1, .int b1), (2, .int b2), (3, .int b3), (4, .int b4), (5, .int b5), (6, .int b6)]) hx hb dX7_feed_74 hl (Nat.le_of_ble_eq_true rfl) rfl (fun ls hl => ?_)
  refine lv_aload_n hx hb dX7_feed_76 rfl (lv_at hl 1 rfl) ?_
  refine zm_ga C hG 0 (Nat.le_of_ble_eq_true rfl) (by decide) q1443 dX7_feed_77 ?_
  refine lv_bipush (v := zi 70) hx hb dX7_feed_80 (by decide +kernel) ?_
  refine lv_aload_n hx hb dX7_feed_82 rfl (lv_at hl 1 rfl) ?_
  refine zm_ga C hG 0 (Nat.le_of_ble_eq_true rfl) (by decide) q1443 dX7_feed_83 ?_
  refine lv_bipush (v := zi 6) hx hb dX7_feed_86 (by decide +kernel) ?_
  refine zm_al C hG 0 hf (Nat.le_of_ble_eq_true rfl) rfl dX7_feed_88 (fun v88 hf => ?_)
  refine lv_iadd hx hb dX7_feed_89 ?_
  refine lv_iload hx hb dX7_feed_90 (lv_at hl 0 rfl) ?_
  refine lv_bipush (v := zi 24) hx hb dX7_feed_92 (by decide +kernel) ?_
  refine lv_bipush (v := zi 8) hx hb dX7_feed_94 (by decide +kernel) ?_
  refine lv_iload hx hb dX7_feed_96 (lv_at hl 7 rfl) ?_
  refine lv_iconst (v := zi 4) hx hb dX7_feed_98 rfl ?_
  refine lv_irem hx hb dX7_feed_99 (by decide +kernel) ?_
  refine lv_imul hx hb dX7_feed_100 ?_
  refine lv_isub hx hb dX7_feed_101 ?_
  refine lv_ishr hx hb dX7_feed_102 ?_
  refine lv_sipush (v := zi 255) hx hb dX7_feed_103 (by decide +kernel) ?_
  refine lv_iand hx hb dX7_feed_106 ?_
  refine zm_as C hG 0 hf (Nat.le_of_ble_eq_true rfl) rfl dX7_feed_107 (fun S H locs hG hf => ?_)
  refine lv_aload_n hx hb dX7_feed_108 rfl (lv_at hl 1 rfl) ?_
  refine zm_ga C hG 0 (Nat.le_of_ble_eq_true rfl) (by decide) q1443 dX7_feed_109 ?_
  refine lv_bipush (v := zi 6) hx hb dX7_feed_112 (by decide +kernel) ?_
  refine lv_dup2_11 hx hb dX7_feed_114 rfl rfl ?_
  refine zm_al C hG 0 hf (Nat.le_of_ble_eq_true rfl) rfl dX7_feed_115 (fun v115 hf => ?_)
  refine lv_iconst (v := zi 1) hx hb dX7_feed_116 rfl ?_
  refine lv_iadd hx hb dX7_feed_117 ?_
  refine zm_as C hG 0 hf (Nat.le_of_ble_eq_true rfl) rfl dX7_feed_118 (fun S H locs hG hf => ?_)
  refine z_iinc (fun v => [(6, .int v), (7, .int t0), (0, .ref (G_m Γ 0)), (1, .int b1), (2, .int b2), (3, .int b3), (4, .int b4), (5, .int b5)]) hx hb hf dX7_feed_119 hl (k := 7) rfl (Nat.le_of_ble_eq_true rfl) (fun _ => rfl) (fun n119 ls hf hl => ?_)
  refine lv_goto (tgt := 21) hx hb dX7_feed_122 (by decide) ?_
  obtain ⟨rfl, rfl⟩ := z_p hf
  exact kk _ _ _ ⟨ls, rfl, lv_sub hl [2, 3, 4, 5, 6, 7, 0] rfl⟩ hG
set_option maxHeartbeats 4000000 in
theorem wm_feed_l21_b (Γ : zG) (l : Launch) (f1 : Int32) (f2 : Int32) (f3 : Int32) (f4 : Int32) (f5 : Int32) (s6 : Int32) : mRg Γ l yX7_feed cX7_feed 8 (some .int) 0 0 (m_feed_l21 f1 f2 f3 f4 f5 s6) (zAt0 8 21 [(0, .ref (G_m Γ 0)), (1, .int f1), (2, .int f2), (3, .int f3), (4, .int f4), (5, .int f5), (6, .int s6)] []) (zLE (im_feed_l21 Γ f1 f2 f3 f4 f5) (em_feed_l21 Γ f1 f2 f3 f4 f5)) := by
  intro p e R s m args below meth c Q A S H locs x S' g C hG hI hf kk
  obtain ⟨ls, rfl, hl⟩ := hI
  obtain ⟨⟨hx, hb, hml, hown, hts⟩, hr, hlk, hK, hR1, hR2⟩ := id C
  have C : zCx Γ p R s m args meth c cX7_feed 8 RX7 (some .int) 0 0 := C
  refine lv_iload hx hb dX7_feed_21 (lv_at hl 6 rfl) ?_
  refine lv_bipush (v := zi 20) hx hb dX7_feed_23 (by decide +kernel) ?_
  refine lv_icmp_ge (tgt := 125) hx hb dX7_feed_25 (by decide) (fun c25 => ?_) (fun c25 => ?_)
  · have hf := z_t c25 hf
    obtain ⟨rfl, rfl⟩ := z_p hf
    exact kk _ _ _ ⟨ls, rfl, lv_sub hl [0] rfl⟩ hG
  · have hf := z_f c25 hf
    refine lv_iload hx hb dX7_feed_28 (lv_at hl 6 rfl) ?_
    refine lv_iconst (v := zi 4) hx hb dX7_feed_30 rfl ?_
    refine lv_icmp_ge (tgt := 38) hx hb dX7_feed_31 (by decide) (fun c31 => ?_) (fun c31 => ?_)
    · have hf := z_t c31 hf
      refine lv_iload hx hb dX7_feed_38 (lv_at hl 6 rfl) ?_
      refine lv_bipush (v := zi 8) hx hb dX7_feed_40 (by decide +kernel) ?_
      refine lv_icmp_ge (tgt := 49) hx hb dX7_feed_42 (by decide) (fun c42 => ?_) (fun c42 => ?_)
      · have hf := z_t c42 hf
        refine lv_iload hx hb dX7_feed_49 (lv_at hl 6 rfl) ?_
        refine lv_bipush (v := zi 12) hx hb dX7_feed_51 (by decide +kernel) ?_
        refine lv_icmp_ge (tgt := 60) hx hb dX7_feed_53 (by decide) (fun c53 => ?_) (fun c53 => ?_)
        · have hf := z_t c53 hf
          refine lv_iload hx hb dX7_feed_60 (lv_at hl 6 rfl) ?_
          refine lv_bipush (v := zi 16) hx hb dX7_feed_62 (by decide +kernel) ?_
          refine lv_icmp_ge (tgt := 72) hx hb dX7_feed_64 (by decide) (fun c64 => ?_) (fun c64 => ?_)
          · have hf := z_t c64 hf
            refine lv_iload hx hb dX7_feed_72 (lv_at hl 5 rfl) ?_
            exact wm_feed_l21_j74 Γ l f1 f2 f3 f4 f5 s6 f5 p e R s m args below meth c Q A _ _ _ _ _ _ C hG ⟨ls, rfl, lv_sub hl [0, 1, 2, 3, 4, 5, 6] rfl⟩ hf kk
          · have hf := z_f c64 hf
            refine lv_iload hx hb dX7_feed_67 (lv_at hl 4 rfl) ?_
            refine lv_goto (tgt := 74) hx hb dX7_feed_69 (by decide) ?_
            exact wm_feed_l21_j74 Γ l f1 f2 f3 f4 f5 s6 f4 p e R s m args below meth c Q A _ _ _ _ _ _ C hG ⟨ls, rfl, lv_sub hl [0, 1, 2, 3, 4, 5, 6] rfl⟩ hf kk
        · have hf := z_f c53 hf
          refine lv_iload_n hx hb dX7_feed_56 rfl (lv_at hl 3 rfl) ?_
          refine lv_goto (tgt := 74) hx hb dX7_feed_57 (by decide) ?_
          exact wm_feed_l21_j74 Γ l f1 f2 f3 f4 f5 s6 f3 p e R s m args below meth c Q A _ _ _ _ _ _ C hG ⟨ls, rfl, lv_sub hl [0, 1, 2, 3, 4, 5, 6] rfl⟩ hf kk
      · have hf := z_f c42 hf
        refine lv_iload_n hx hb dX7_feed_45 rfl (lv_at hl 2 rfl) ?_
        refine lv_goto (tgt := 74) hx hb dX7_feed_46 (by decide) ?_
        exact wm_feed_l21_j74 Γ l f1 f2 f3 f4 f5 s6 f2 p e R s m args below meth c Q A _ _ _ _ _ _ C hG ⟨ls, rfl, lv_sub hl [0, 1, 2, 3, 4, 5, 6] rfl⟩ hf kk
    · have hf := z_f c31 hf
      refine lv_iload_n hx hb dX7_feed_34 rfl (lv_at hl 1 rfl) ?_
      refine lv_goto (tgt := 74) hx hb dX7_feed_35 (by decide) ?_
      exact wm_feed_l21_j74 Γ l f1 f2 f3 f4 f5 s6 f1 p e R s m args below meth c Q A _ _ _ _ _ _ C hG ⟨ls, rfl, lv_sub hl [0, 1, 2, 3, 4, 5, 6] rfl⟩ hf kk
theorem wm_feed_l21 (Γ : zG) (l : Launch) (f1 : Int32) (f2 : Int32) (f3 : Int32) (f4 : Int32) (f5 : Int32) : ∀ s : Int32, mRg Γ l yX7_feed cX7_feed 8 (some .int) 0 0 (m_feed_l21 f1 f2 f3 f4 f5 s) (fun m => im_feed_l21 Γ f1 f2 f3 f4 f5 m s) (zLE (im_feed_l21 Γ f1 f2 f3 f4 f5) (em_feed_l21 Γ f1 f2 f3 f4 f5)) := fun s => wm_feed_l21_b Γ l f1 f2 f3 f4 f5 s
set_option maxHeartbeats 4000000 in
theorem wm_feed (Γ : zG) (l : Launch) (a1 : Int32) (a2 : Int32) (a3 : Int32) (a4 : Int32) (a5 : Int32) : mRg Γ l yX7_feed cX7_feed 8 (some .int) 0 0 (m_feed a1 a2 a3 a4 a5) (zAt0 8 0 (lv_args 0 [.ref (G_m Γ 0), .int a1, .int a2, .int a3, .int a4, .int a5]) []) (zLi cX7_feed) := by
  intro p e R s m args below meth c Q A S H locs x S' g C hG hI hf kk
  obtain ⟨ls, rfl, hl⟩ := hI
  obtain ⟨⟨hx, hb, hml, hown, hts⟩, hr, hlk, hK, hR1, hR2⟩ := id C
  have C : zCx Γ p R s m args meth c cX7_feed 8 RX7 (some .int) 0 0 := C
  have hl : lv_has ls 8 [(0, .ref (G_m Γ 0)), (1, .int a1), (2, .int a2), (3, .int a3), (4, .int a4), (5, .int a5)] := hl
  refine lv_aload_n hx hb dX7_feed_0 rfl (lv_at hl 0 rfl) ?_
  refine zm_ga C hG 0 (Nat.le_of_ble_eq_true rfl) (by decide) q1443 dX7_feed_1 ?_
  refine lv_bipush (v := zi 6) hx hb dX7_feed_4 (by decide +kernel) ?_
  refine zm_al C hG 0 hf (Nat.le_of_ble_eq_true rfl) rfl dX7_feed_6 (fun v6 hf => ?_)
  refine lv_bipush (v := zi 20) hx hb dX7_feed_7 (by decide +kernel) ?_
  refine lv_iadd hx hb dX7_feed_9 ?_
  refine lv_sipush (v := zi 500) hx hb dX7_feed_10 (by decide +kernel) ?_
  refine lv_icmp_le (tgt := 18) hx hb dX7_feed_13 (by decide) (fun c13 => ?_) (fun c13 => ?_)
  · have hf := z_t c13 hf
    refine lv_iconst (v := zi 0) hx hb dX7_feed_18 rfl ?_
    refine lv_istore (lv' := [(6, .int (zi 0)), (0, .ref (G_m Γ 0)), (1, .int a1), (2, .int a2), (3, .int a3), (4, .int a4), (5, .int a5)]) hx hb dX7_feed_19 hl (Nat.le_of_ble_eq_true rfl) rfl (fun ls hl => ?_)
    obtain ⟨e21, S, hlp, hf⟩ := nB_some hf
    refine mRg.loop (wm_feed_l21 Γ l a1 a2 a3 a4 a5) (zi 0) p e R s m args below meth c Q A _ _ _ _ _ _ C hG ⟨ls, rfl, lv_sub hl [1, 2, 3, 4, 5, 6, 0] rfl⟩ hlp (fun H locs g hL hG => ?_)
    obtain ⟨ls, rfl, hl⟩ := hL
    have hl : lv_has ls 8 [(0, .ref (G_m Γ 0))] := hl
    refine lv_aload_n hx hb dX7_feed_125 rfl (lv_at hl 0 rfl) ?_
    refine zm_ga C hG 0 (Nat.le_of_ble_eq_true rfl) (by decide) q1443 dX7_feed_126 ?_
    refine lv_bipush (v := zi 6) hx hb dX7_feed_129 (by decide +kernel) ?_
    refine zm_al C hG 0 hf (Nat.le_of_ble_eq_true rfl) rfl dX7_feed_131 (fun v131 hf => ?_)
    obtain ⟨rfl, rfl⟩ := z_p hf
    exact kk _ _ _ ⟨_, _, rfl, dX7_feed_132⟩ hG
  · have hf := z_f c13 hf
    refine lv_iconst (v := zi (-1)) hx hb dX7_feed_16 rfl ?_
    obtain ⟨rfl, rfl⟩ := z_p hf
    exact kk _ _ _ ⟨_, _, rfl, dX7_feed_17⟩ hG
theorem ctm_feed (Γ : zG) (l : Launch) (a1 : Int32) (a2 : Int32) (a3 : Int32) (a4 : Int32) (a5 : Int32) : mCt Γ l yX7_feed (ws_ yX7_feed cX7_feed 8 (some .int)) 0 0 [.ref (G_m Γ 0), .int a1, .int a2, .int a3, .int a4, .int a5] (m_feed a1 a2 a3 a4 a5) zoi := mCt.mki (by decide +kernel) (Nat.le_of_ble_eq_true rfl) (wm_feed Γ l a1 a2 a3 a4 a5)
theorem ytm_feed : yX7_feed.cls = RX7 ∧ yX7_feed.cls ≠ "java/lang/invoke/MethodHandle" ∧ yX7_feed.cls ≠ "java/lang/invoke/VarHandle" ∧ (parseMethodDescriptor yX7_feed.desc).map (fun d => d.parameters.length) = some 5 := by decide +kernel
set_option maxHeartbeats 4000000 in
theorem wm_end (Γ : zG) (l : Launch) (a1 : Int32) : mRg Γ l yX7_end cX7_end 2 (some .int) 0 0 (m_end a1) (zAt0 2 0 (lv_args 0 [.ref (G_m Γ 0), .int a1]) []) (zLi cX7_end) := by
  intro p e R s m args below meth c Q A S H locs x S' g C hG hI hf kk
  obtain ⟨ls, rfl, hl⟩ := hI
  obtain ⟨⟨hx, hb, hml, hown, hts⟩, hr, hlk, hK, hR1, hR2⟩ := id C
  have C : zCx Γ p R s m args meth c cX7_end 2 RX7 (some .int) 0 0 := C
  have hl : lv_has ls 2 [(0, .ref (G_m Γ 0)), (1, .int a1)] := hl
  refine lv_iload_n hx hb dX7_end_0 rfl (lv_at hl 1 rfl) ?_
  refine lv_if_lt (tgt := 15) hx hb dX7_end_1 (by decide) (fun c1 => ?_) (fun c1 => ?_)
  · have hf := z_t c1 hf
    refine lv_iconst (v := zi (-1)) hx hb dX7_end_15 rfl ?_
    obtain ⟨rfl, rfl⟩ := z_p hf
    exact kk _ _ _ ⟨_, _, rfl, dX7_end_16⟩ hG
  · have hf := z_f c1 hf
    refine lv_iload_n hx hb dX7_end_4 rfl (lv_at hl 1 rfl) ?_
    refine lv_aload_n hx hb dX7_end_5 rfl (lv_at hl 0 rfl) ?_
    refine zm_ga C hG 0 (Nat.le_of_ble_eq_true rfl) (by decide) q1443 dX7_end_6 ?_
    refine lv_bipush (v := zi 6) hx hb dX7_end_9 (by decide +kernel) ?_
    refine zm_al C hG 0 hf (Nat.le_of_ble_eq_true rfl) rfl dX7_end_11 (fun v11 hf => ?_)
    refine lv_icmp_le (tgt := 17) hx hb dX7_end_12 (by decide) (fun c12 => ?_) (fun c12 => ?_)
    · have hf := z_t c12 hf
      refine lv_aload_n hx hb dX7_end_17 rfl (lv_at hl 0 rfl) ?_
      refine zm_ga C hG 0 (Nat.le_of_ble_eq_true rfl) (by decide) q1443 dX7_end_18 ?_
      refine lv_bipush (v := zi 6) hx hb dX7_end_21 (by decide +kernel) ?_
      refine lv_iload_n hx hb dX7_end_23 rfl (lv_at hl 1 rfl) ?_
      refine zm_as C hG 0 hf (Nat.le_of_ble_eq_true rfl) rfl dX7_end_24 (fun S H locs hG hf => ?_)
      refine lv_iload_n hx hb dX7_end_25 rfl (lv_at hl 1 rfl) ?_
      obtain ⟨rfl, rfl⟩ := z_p hf
      exact kk _ _ _ ⟨_, _, rfl, dX7_end_26⟩ hG
    · have hf := z_f c12 hf
      refine lv_iconst (v := zi (-1)) hx hb dX7_end_15 rfl ?_
      obtain ⟨rfl, rfl⟩ := z_p hf
      exact kk _ _ _ ⟨_, _, rfl, dX7_end_16⟩ hG
theorem ctm_end (Γ : zG) (l : Launch) (a1 : Int32) : mCt Γ l yX7_end (ws_ yX7_end cX7_end 2 (some .int)) 0 0 [.ref (G_m Γ 0), .int a1] (m_end a1) zoi := mCt.mki (by decide +kernel) (Nat.le_of_ble_eq_true rfl) (wm_end Γ l a1)
theorem ytm_end : yX7_end.cls = RX7 ∧ yX7_end.cls ≠ "java/lang/invoke/MethodHandle" ∧ yX7_end.cls ≠ "java/lang/invoke/VarHandle" ∧ (parseMethodDescriptor yX7_end.desc).map (fun d => d.parameters.length) = some 1 := by decide +kernel
set_option maxHeartbeats 4000000 in
theorem wm_begins (Γ : zG) (l : Launch) : mRg Γ l yX7_begins cX7_begins 1 none 0 0 (m_begins) (zAt0 1 0 (lv_args 0 [.ref (G_m Γ 0)]) []) (zLv cX7_begins) := by
  intro p e R s m args below meth c Q A S H locs x S' g C hG hI hf kk
  obtain ⟨ls, rfl, hl⟩ := hI
  obtain ⟨⟨hx, hb, hml, hown, hts⟩, hr, hlk, hK, hR1, hR2⟩ := id C
  have C : zCx Γ p R s m args meth c cX7_begins 1 RX7 none 0 0 := C
  have hl : lv_has ls 1 [(0, .ref (G_m Γ 0))] := hl
  refine lv_aload_n hx hb dX7_begins_0 rfl (lv_at hl 0 rfl) ?_
  refine lv_aload_n hx hb dX7_begins_1 rfl (lv_at hl 0 rfl) ?_
  refine zm_ga C hG 0 (Nat.le_of_ble_eq_true rfl) (by decide) q1443 dX7_begins_2 ?_
  refine lv_bipush (v := zi 6) hx hb dX7_begins_5 (by decide +kernel) ?_
  refine zm_al C hG 0 hf (Nat.le_of_ble_eq_true rfl) rfl dX7_begins_7 (fun v7 hf => ?_)
  refine zm_pf C hG 2 hf (Nat.le_of_ble_eq_true rfl) rfl rfl (by decide +kernel) q1445 dX7_begins_8 (fun S H locs hG hf => ?_)
  refine lv_aload_n hx hb dX7_begins_11 rfl (lv_at hl 0 rfl) ?_
  refine zm_ga C hG 0 (Nat.le_of_ble_eq_true rfl) (by decide) q1443 dX7_begins_12 ?_
  refine lv_bipush (v := zi 6) hx hb dX7_begins_15 (by decide +kernel) ?_
  refine lv_iconst (v := zi 0) hx hb dX7_begins_17 rfl ?_
  refine zm_as C hG 0 hf (Nat.le_of_ble_eq_true rfl) rfl dX7_begins_18 (fun S H locs hG hf => ?_)
  refine lv_aload_n hx hb dX7_begins_19 rfl (lv_at hl 0 rfl) ?_
  refine zm_ga C hG 0 (Nat.le_of_ble_eq_true rfl) (by decide) q1443 dX7_begins_20 ?_
  refine lv_bipush (v := zi 7) hx hb dX7_begins_23 (by decide +kernel) ?_
  refine lv_iconst (v := zi 0) hx hb dX7_begins_25 rfl ?_
  refine zm_as C hG 0 hf (Nat.le_of_ble_eq_true rfl) rfl dX7_begins_26 (fun S H locs hG hf => ?_)
  refine lv_aload_n hx hb dX7_begins_27 rfl (lv_at hl 0 rfl) ?_
  refine zm_ga C hG 0 (Nat.le_of_ble_eq_true rfl) (by decide) q1443 dX7_begins_28 ?_
  refine lv_bipush (v := zi 8) hx hb dX7_begins_31 (by decide +kernel) ?_
  refine lv_iconst (v := zi (-1)) hx hb dX7_begins_33 rfl ?_
  refine zm_as C hG 0 hf (Nat.le_of_ble_eq_true rfl) rfl dX7_begins_34 (fun S H locs hG hf => ?_)
  refine lv_aload_n hx hb dX7_begins_35 rfl (lv_at hl 0 rfl) ?_
  refine lv_iconst (v := zi 0) hx hb dX7_begins_36 rfl ?_
  refine zm_pf C hG 3 hf (Nat.le_of_ble_eq_true rfl) rfl rfl (by decide +kernel) q1446 dX7_begins_37 (fun S H locs hG hf => ?_)
  refine lv_aload_n hx hb dX7_begins_40 rfl (lv_at hl 0 rfl) ?_
  refine lv_iconst (v := zi 0) hx hb dX7_begins_41 rfl ?_
  refine zm_pz C hG 9 hf (Nat.le_of_ble_eq_true rfl) rfl rfl (by decide +kernel) q1452 dX7_begins_42 (fun S H locs hG hf => ?_)
  refine lv_aload_n hx hb dX7_begins_45 rfl (lv_at hl 0 rfl) ?_
  refine lv_iconst (v := zi 0) hx hb dX7_begins_46 rfl ?_
  refine zm_pf C hG 10 hf (Nat.le_of_ble_eq_true rfl) rfl rfl (by decide +kernel) q1453 dX7_begins_47 (fun S H locs hG hf => ?_)
  refine lv_aload_n hx hb dX7_begins_50 rfl (lv_at hl 0 rfl) ?_
  refine lv_iconst (v := zi 0) hx hb dX7_begins_51 rfl ?_
  refine zm_pf C hG 11 hf (Nat.le_of_ble_eq_true rfl) rfl rfl (by decide +kernel) q1454 dX7_begins_52 (fun S H locs hG hf => ?_)
  obtain ⟨rfl, rfl⟩ := z_p hf
  exact kk _ _ _ ⟨_, _, rfl, dX7_begins_55⟩ hG
theorem ctm_begins (Γ : zG) (l : Launch) : mCt Γ l yX7_begins (ws_ yX7_begins cX7_begins 1 none) 0 0 [.ref (G_m Γ 0)] (m_begins) zov := mCt.mkv (by decide +kernel) (Nat.le_of_ble_eq_true rfl) (wm_begins Γ l)
theorem ytm_begins : yX7_begins.cls = RX7 ∧ yX7_begins.cls ≠ "java/lang/invoke/MethodHandle" ∧ yX7_begins.cls ≠ "java/lang/invoke/VarHandle" ∧ (parseMethodDescriptor yX7_begins.desc).map (fun d => d.parameters.length) = some 0 := by decide +kernel
set_option maxHeartbeats 4000000 in
theorem wm_isIn (Γ : zG) (l : Launch) (a0 : Int32) (a1 : Int32) (a2 : Int32) : mRg Γ l yX7_isIn cX7_isIn 3 (some .boolean) 0 0 (m_isIn a0 a1 a2) (zAt0 3 0 (lv_args 0 [.int a0, .int a1, .int a2]) []) (zLz cX7_isIn) := by
  intro p e R s m args below meth c Q A S H locs x S' g C hG hI hf kk
  obtain ⟨ls, rfl, hl⟩ := hI
  obtain ⟨⟨hx, hb, hml, hown, hts⟩, hr, hlk, hK, hR1, hR2⟩ := id C
  have C : zCx Γ p R s m args meth c cX7_isIn 3 RX7 (some .boolean) 0 0 := C
  have hl : lv_has ls 3 [(0, .int a0), (1, .int a1), (2, .int a2)] := hl
  refine lv_iload_n hx hb dX7_isIn_0 rfl (lv_at hl 0 rfl) ?_
  refine lv_iload_n hx hb dX7_isIn_1 rfl (lv_at hl 1 rfl) ?_
  refine lv_icmp_lt (tgt := 14) hx hb dX7_isIn_2 (by decide) (fun c2 => ?_) (fun c2 => ?_)
  · have hf := z_t c2 hf
    refine lv_iconst (v := zi 0) hx hb dX7_isIn_14 rfl ?_
    obtain ⟨rfl, rfl⟩ := z_p hf
    exact kk _ _ _ ⟨_, _, rfl, dX7_isIn_15, Or.inl rfl⟩ hG
  · have hf := z_f c2 hf
    refine lv_iload_n hx hb dX7_isIn_5 rfl (lv_at hl 0 rfl) ?_
    refine lv_iload_n hx hb dX7_isIn_6 rfl (lv_at hl 2 rfl) ?_
    refine lv_icmp_gt (tgt := 14) hx hb dX7_isIn_7 (by decide) (fun c7 => ?_) (fun c7 => ?_)
    · have hf := z_t c7 hf
      refine lv_iconst (v := zi 0) hx hb dX7_isIn_14 rfl ?_
      obtain ⟨rfl, rfl⟩ := z_p hf
      exact kk _ _ _ ⟨_, _, rfl, dX7_isIn_15, Or.inl rfl⟩ hG
    · have hf := z_f c7 hf
      refine lv_iconst (v := zi 1) hx hb dX7_isIn_10 rfl ?_
      refine lv_goto (tgt := 15) hx hb dX7_isIn_11 (by decide) ?_
      obtain ⟨rfl, rfl⟩ := z_p hf
      exact kk _ _ _ ⟨_, _, rfl, dX7_isIn_15, Or.inr rfl⟩ hG
theorem ctm_isIn (Γ : zG) (l : Launch) (a0 : Int32) (a1 : Int32) (a2 : Int32) : mCt Γ l yX7_isIn (ws_ yX7_isIn cX7_isIn 3 (some .boolean)) 0 0 [.int a0, .int a1, .int a2] (m_isIn a0 a1 a2) zoi := mCt.mkz (by decide +kernel) (Nat.le_of_ble_eq_true rfl) (wm_isIn Γ l a0 a1 a2)
theorem ytm_isIn : yX7_isIn.cls = RX7 ∧ yX7_isIn.cls ≠ "java/lang/invoke/MethodHandle" ∧ yX7_isIn.cls ≠ "java/lang/invoke/VarHandle" ∧ (parseMethodDescriptor yX7_isIn.desc).map (fun d => d.parameters.length) = some 3 := by decide +kernel
set_option maxHeartbeats 4000000 in
theorem wm_isHouse (Γ : zG) (l : Launch) (a1 : Int32) : mRg Γ l yX7_isHouse cX7_isHouse 2 (some .boolean) 1 22 (m_isHouse a1) (zAt0 2 0 (lv_args 0 [.ref (G_m Γ 0), .int a1]) []) (zLz cX7_isHouse) := by
  intro p e R s m args below meth c Q A S H locs x S' g C hG hI hf kk
  obtain ⟨ls, rfl, hl⟩ := hI
  obtain ⟨⟨hx, hb, hml, hown, hts⟩, hr, hlk, hK, hR1, hR2⟩ := id C
  have C : zCx Γ p R s m args meth c cX7_isHouse 2 RX7 (some .boolean) 1 22 := C
  have hl : lv_has ls 2 [(0, .ref (G_m Γ 0)), (1, .int a1)] := hl
  refine lv_iload_n hx hb dX7_isHouse_0 rfl (lv_at hl 1 rfl) ?_
  refine lv_iconst (v := zi 0) hx hb dX7_isHouse_1 rfl ?_
  refine lv_aload_n hx hb dX7_isHouse_2 rfl (lv_at hl 0 rfl) ?_
  refine zm_ga C hG 0 (Nat.le_of_ble_eq_true rfl) (by decide) q1443 dX7_isHouse_3 ?_
  refine lv_iconst (v := zi 0) hx hb dX7_isHouse_6 rfl ?_
  refine zm_al C hG 0 hf (Nat.le_of_ble_eq_true rfl) rfl dX7_isHouse_7 (fun v7 hf => ?_)
  refine lv_iconst (v := zi 1) hx hb dX7_isHouse_8 rfl ?_
  refine lv_isub hx hb dX7_isHouse_9 ?_
  refine zm_csi (As := [.int a1, .int (zi 0), .int (v7 - (zi 1))]) (rest := []) C hG hf (ctm_isIn Γ l a1 (zi 0) (v7 - (zi 1))) (lw_S q1612 q1613 q107 q1614) ytm_isIn rfl rfl (Nat.le_of_ble_eq_true rfl) (Nat.le_of_ble_eq_true rfl) hl.1 (Nat.le_of_ble_eq_true rfl) dX7_isHouse_10 (fun v10 S H locs hG hf => ?_)
  obtain ⟨hz, hf⟩ := z_c hf
  obtain ⟨rfl, rfl⟩ := z_p hf
  exact kk _ _ _ ⟨_, _, rfl, dX7_isHouse_13, hz⟩ hG
theorem ctm_isHouse (Γ : zG) (l : Launch) (a1 : Int32) : mCt Γ l yX7_isHouse (ws_ yX7_isHouse cX7_isHouse 2 (some .boolean)) 1 22 [.ref (G_m Γ 0), .int a1] (m_isHouse a1) zoi := mCt.mkz (by decide +kernel) (Nat.le_of_ble_eq_true rfl) (wm_isHouse Γ l a1)
theorem ytm_isHouse : yX7_isHouse.cls = RX7 ∧ yX7_isHouse.cls ≠ "java/lang/invoke/MethodHandle" ∧ yX7_isHouse.cls ≠ "java/lang/invoke/VarHandle" ∧ (parseMethodDescriptor yX7_isHouse.desc).map (fun d => d.parameters.length) = some 1 := by decide +kernel
set_option maxHeartbeats 4000000 in
theorem wm_houseAt (Γ : zG) (l : Launch) (a0 : Int32) : mRg Γ l yX7_houseAt cX7_houseAt 1 (some .int) 0 0 (m_houseAt a0) (zAt0 1 0 (lv_args 0 [.int a0]) []) (zLi cX7_houseAt) := by
  intro p e R s m args below meth c Q A S H locs x S' g C hG hI hf kk
  obtain ⟨ls, rfl, hl⟩ := hI
  obtain ⟨⟨hx, hb, hml, hown, hts⟩, hr, hlk, hK, hR1, hR2⟩ := id C
  have C : zCx Γ p R s m args meth c cX7_houseAt 1 RX7 (some .int) 0 0 := C
  have hl : lv_has ls 1 [(0, .int a0)] := hl
  refine lv_sipush (v := zi 1870) hx hb dX7_houseAt_0 (by decide +kernel) ?_
  refine lv_sipush (v := zi 160) hx hb dX7_houseAt_3 (by decide +kernel) ?_
  refine lv_iload_n hx hb dX7_houseAt_6 rfl (lv_at hl 0 rfl) ?_
  refine lv_imul hx hb dX7_houseAt_7 ?_
  refine lv_iadd hx hb dX7_houseAt_8 ?_
  obtain ⟨rfl, rfl⟩ := z_p hf
  exact kk _ _ _ ⟨_, _, rfl, dX7_houseAt_9⟩ hG
theorem ctm_houseAt (Γ : zG) (l : Launch) (a0 : Int32) : mCt Γ l yX7_houseAt (ws_ yX7_houseAt cX7_houseAt 1 (some .int)) 0 0 [.int a0] (m_houseAt a0) zoi := mCt.mki (by decide +kernel) (Nat.le_of_ble_eq_true rfl) (wm_houseAt Γ l a0)
theorem ytm_houseAt : yX7_houseAt.cls = RX7 ∧ yX7_houseAt.cls ≠ "java/lang/invoke/MethodHandle" ∧ yX7_houseAt.cls ≠ "java/lang/invoke/VarHandle" ∧ (parseMethodDescriptor yX7_houseAt.desc).map (fun d => d.parameters.length) = some 1 := by decide +kernel
set_option maxHeartbeats 4000000 in
theorem wm_byteAt (Γ : zG) (l : Launch) (a1 : Int32) : mRg Γ l yX7_byteAt cX7_byteAt 2 (some .int) 0 0 (m_byteAt a1) (zAt0 2 0 (lv_args 0 [.ref (G_m Γ 0), .int a1]) []) (zLi cX7_byteAt) := by
  intro p e R s m args below meth c Q A S H locs x S' g C hG hI hf kk
  obtain ⟨ls, rfl, hl⟩ := hI
  obtain ⟨⟨hx, hb, hml, hown, hts⟩, hr, hlk, hK, hR1, hR2⟩ := id C
  have C : zCx Γ p R s m args meth c cX7_byteAt 2 RX7 (some .int) 0 0 := C
  have hl : lv_has ls 2 [(0, .ref (G_m Γ 0)), (1, .int a1)] := hl
  refine lv_iload_n hx hb dX7_byteAt_0 rfl (lv_at hl 1 rfl) ?_
  refine lv_aload_n hx hb dX7_byteAt_1 rfl (lv_at hl 0 rfl) ?_
  refine zm_gf C hG 2 hf (Nat.le_of_ble_eq_true rfl) rfl q1445 dX7_byteAt_2 (fun v2 hf => ?_)
  refine lv_icmp_ge (tgt := 20) hx hb dX7_byteAt_5 (by decide) (fun c5 => ?_) (fun c5 => ?_)
  · have hf := z_t c5 hf
    refine lv_iconst (v := zi (-1)) hx hb dX7_byteAt_20 rfl ?_
    obtain ⟨rfl, rfl⟩ := z_p hf
    exact kk _ _ _ ⟨_, _, rfl, dX7_byteAt_21⟩ hG
  · have hf := z_f c5 hf
    refine lv_aload_n hx hb dX7_byteAt_8 rfl (lv_at hl 0 rfl) ?_
    refine zm_ga C hG 0 (Nat.le_of_ble_eq_true rfl) (by decide) q1443 dX7_byteAt_9 ?_
    refine lv_bipush (v := zi 70) hx hb dX7_byteAt_12 (by decide +kernel) ?_
    refine lv_iload_n hx hb dX7_byteAt_14 rfl (lv_at hl 1 rfl) ?_
    refine lv_iadd hx hb dX7_byteAt_15 ?_
    refine zm_al C hG 0 hf (Nat.le_of_ble_eq_true rfl) rfl dX7_byteAt_16 (fun v16 hf => ?_)
    refine lv_goto (tgt := 21) hx hb dX7_byteAt_17 (by decide) ?_
    obtain ⟨rfl, rfl⟩ := z_p hf
    exact kk _ _ _ ⟨_, _, rfl, dX7_byteAt_21⟩ hG
theorem ctm_byteAt (Γ : zG) (l : Launch) (a1 : Int32) : mCt Γ l yX7_byteAt (ws_ yX7_byteAt cX7_byteAt 2 (some .int)) 0 0 [.ref (G_m Γ 0), .int a1] (m_byteAt a1) zoi := mCt.mki (by decide +kernel) (Nat.le_of_ble_eq_true rfl) (wm_byteAt Γ l a1)
theorem ytm_byteAt : yX7_byteAt.cls = RX7 ∧ yX7_byteAt.cls ≠ "java/lang/invoke/MethodHandle" ∧ yX7_byteAt.cls ≠ "java/lang/invoke/VarHandle" ∧ (parseMethodDescriptor yX7_byteAt.desc).map (fun d => d.parameters.length) = some 1 := by decide +kernel
set_option maxHeartbeats 4000000 in
theorem wm_isLetter (Γ : zG) (l : Launch) (a0 : Int32) : mRg Γ l yX7_isLetter cX7_isLetter 1 (some .boolean) 0 0 (m_isLetter a0) (zAt0 1 0 (lv_args 0 [.int a0]) []) (zLz cX7_isLetter) := by
  intro p e R s m args below meth c Q A S H locs x S' g C hG hI hf kk
  obtain ⟨ls, rfl, hl⟩ := hI
  obtain ⟨⟨hx, hb, hml, hown, hts⟩, hr, hlk, hK, hR1, hR2⟩ := id C
  have C : zCx Γ p R s m args meth c cX7_isLetter 1 RX7 (some .boolean) 0 0 := C
  have hl : lv_has ls 1 [(0, .int a0)] := hl
  refine lv_iload_n hx hb dX7_isLetter_0 rfl (lv_at hl 0 rfl) ?_
  refine lv_bipush (v := zi 97) hx hb dX7_isLetter_1 (by decide +kernel) ?_
  refine lv_icmp_lt (tgt := 16) hx hb dX7_isLetter_3 (by decide) (fun c3 => ?_) (fun c3 => ?_)
  · have hf := z_t c3 hf
    refine lv_iconst (v := zi 0) hx hb dX7_isLetter_16 rfl ?_
    obtain ⟨rfl, rfl⟩ := z_p hf
    exact kk _ _ _ ⟨_, _, rfl, dX7_isLetter_17, Or.inl rfl⟩ hG
  · have hf := z_f c3 hf
    refine lv_iload_n hx hb dX7_isLetter_6 rfl (lv_at hl 0 rfl) ?_
    refine lv_bipush (v := zi 122) hx hb dX7_isLetter_7 (by decide +kernel) ?_
    refine lv_icmp_gt (tgt := 16) hx hb dX7_isLetter_9 (by decide) (fun c9 => ?_) (fun c9 => ?_)
    · have hf := z_t c9 hf
      refine lv_iconst (v := zi 0) hx hb dX7_isLetter_16 rfl ?_
      obtain ⟨rfl, rfl⟩ := z_p hf
      exact kk _ _ _ ⟨_, _, rfl, dX7_isLetter_17, Or.inl rfl⟩ hG
    · have hf := z_f c9 hf
      refine lv_iconst (v := zi 1) hx hb dX7_isLetter_12 rfl ?_
      refine lv_goto (tgt := 17) hx hb dX7_isLetter_13 (by decide) ?_
      obtain ⟨rfl, rfl⟩ := z_p hf
      exact kk _ _ _ ⟨_, _, rfl, dX7_isLetter_17, Or.inr rfl⟩ hG
theorem ctm_isLetter (Γ : zG) (l : Launch) (a0 : Int32) : mCt Γ l yX7_isLetter (ws_ yX7_isLetter cX7_isLetter 1 (some .boolean)) 0 0 [.int a0] (m_isLetter a0) zoi := mCt.mkz (by decide +kernel) (Nat.le_of_ble_eq_true rfl) (wm_isLetter Γ l a0)
theorem ytm_isLetter : yX7_isLetter.cls = RX7 ∧ yX7_isLetter.cls ≠ "java/lang/invoke/MethodHandle" ∧ yX7_isLetter.cls ≠ "java/lang/invoke/VarHandle" ∧ (parseMethodDescriptor yX7_isLetter.desc).map (fun d => d.parameters.length) = some 1 := by decide +kernel
set_option maxHeartbeats 4000000 in
theorem wm_three (Γ : zG) (l : Launch) (a0 : Int32) (a1 : Int32) (a2 : Int32) : mRg Γ l yX7_three cX7_three 3 (some .int) 0 0 (m_three a0 a1 a2) (zAt0 3 0 (lv_args 0 [.int a0, .int a1, .int a2]) []) (zLi cX7_three) := by
  intro p e R s m args below meth c Q A S H locs x S' g C hG hI hf kk
  obtain ⟨ls, rfl, hl⟩ := hI
  obtain ⟨⟨hx, hb, hml, hown, hts⟩, hr, hlk, hK, hR1, hR2⟩ := id C
  have C : zCx Γ p R s m args meth c cX7_three 3 RX7 (some .int) 0 0 := C
  have hl : lv_has ls 3 [(0, .int a0), (1, .int a1), (2, .int a2)] := hl
  refine lv_bipush (v := zi 32) hx hb dX7_three_0 (by decide +kernel) ?_
  refine lv_iload_n hx hb dX7_three_2 rfl (lv_at hl 0 rfl) ?_
  refine lv_bipush (v := zi 96) hx hb dX7_three_3 (by decide +kernel) ?_
  refine lv_isub hx hb dX7_three_5 ?_
  refine lv_imul hx hb dX7_three_6 ?_
  refine lv_iload_n hx hb dX7_three_7 rfl (lv_at hl 1 rfl) ?_
  refine lv_iadd hx hb dX7_three_8 ?_
  refine lv_bipush (v := zi 96) hx hb dX7_three_9 (by decide +kernel) ?_
  refine lv_isub hx hb dX7_three_11 ?_
  refine lv_bipush (v := zi 32) hx hb dX7_three_12 (by decide +kernel) ?_
  refine lv_imul hx hb dX7_three_14 ?_
  refine lv_iload_n hx hb dX7_three_15 rfl (lv_at hl 2 rfl) ?_
  refine lv_iadd hx hb dX7_three_16 ?_
  refine lv_bipush (v := zi 96) hx hb dX7_three_17 (by decide +kernel) ?_
  refine lv_isub hx hb dX7_three_19 ?_
  obtain ⟨rfl, rfl⟩ := z_p hf
  exact kk _ _ _ ⟨_, _, rfl, dX7_three_20⟩ hG
theorem ctm_three (Γ : zG) (l : Launch) (a0 : Int32) (a1 : Int32) (a2 : Int32) : mCt Γ l yX7_three (ws_ yX7_three cX7_three 3 (some .int)) 0 0 [.int a0, .int a1, .int a2] (m_three a0 a1 a2) zoi := mCt.mki (by decide +kernel) (Nat.le_of_ble_eq_true rfl) (wm_three Γ l a0 a1 a2)
theorem ytm_three : yX7_three.cls = RX7 ∧ yX7_three.cls ≠ "java/lang/invoke/MethodHandle" ∧ yX7_three.cls ≠ "java/lang/invoke/VarHandle" ∧ (parseMethodDescriptor yX7_three.desc).map (fun d => d.parameters.length) = some 3 := by decide +kernel
set_option maxHeartbeats 4000000 in
theorem wm_four (Γ : zG) (l : Launch) (a0 : Int32) (a1 : Int32) (a2 : Int32) (a3 : Int32) : mRg Γ l yX7_four cX7_four 4 (some .int) 1 22 (m_four a0 a1 a2 a3) (zAt0 4 0 (lv_args 0 [.int a0, .int a1, .int a2, .int a3]) []) (zLi cX7_four) := by
  intro p e R s m args below meth c Q A S H locs x S' g C hG hI hf kk
  obtain ⟨ls, rfl, hl⟩ := hI
  obtain ⟨⟨hx, hb, hml, hown, hts⟩, hr, hlk, hK, hR1, hR2⟩ := id C
  have C : zCx Γ p R s m args meth c cX7_four 4 RX7 (some .int) 1 22 := C
  have hl : lv_has ls 4 [(0, .int a0), (1, .int a1), (2, .int a2), (3, .int a3)] := hl
  refine lv_bipush (v := zi 32) hx hb dX7_four_0 (by decide +kernel) ?_
  refine lv_iload_n hx hb dX7_four_2 rfl (lv_at hl 0 rfl) ?_
  refine lv_iload_n hx hb dX7_four_3 rfl (lv_at hl 1 rfl) ?_
  refine lv_iload_n hx hb dX7_four_4 rfl (lv_at hl 2 rfl) ?_
  refine zm_csi (As := [.int a0, .int a1, .int a2]) (rest := [.int (zi 32)]) C hG hf (ctm_three Γ l a0 a1 a2) (lw_S q1636 q1637 q107 q1638) ytm_three rfl rfl (Nat.le_of_ble_eq_true rfl) (Nat.le_of_ble_eq_true rfl) hl.1 (Nat.le_of_ble_eq_true rfl) dX7_four_5 (fun v5 S H locs hG hf => ?_)
  refine lv_imul hx hb dX7_four_8 ?_
  refine lv_iload_n hx hb dX7_four_9 rfl (lv_at hl 3 rfl) ?_
  refine lv_iadd hx hb dX7_four_10 ?_
  refine lv_bipush (v := zi 96) hx hb dX7_four_11 (by decide +kernel) ?_
  refine lv_isub hx hb dX7_four_13 ?_
  obtain ⟨rfl, rfl⟩ := z_p hf
  exact kk _ _ _ ⟨_, _, rfl, dX7_four_14⟩ hG
theorem ctm_four (Γ : zG) (l : Launch) (a0 : Int32) (a1 : Int32) (a2 : Int32) (a3 : Int32) : mCt Γ l yX7_four (ws_ yX7_four cX7_four 4 (some .int)) 1 22 [.int a0, .int a1, .int a2, .int a3] (m_four a0 a1 a2 a3) zoi := mCt.mki (by decide +kernel) (Nat.le_of_ble_eq_true rfl) (wm_four Γ l a0 a1 a2 a3)
theorem ytm_four : yX7_four.cls = RX7 ∧ yX7_four.cls ≠ "java/lang/invoke/MethodHandle" ∧ yX7_four.cls ≠ "java/lang/invoke/VarHandle" ∧ (parseMethodDescriptor yX7_four.desc).map (fun d => d.parameters.length) = some 4 := by decide +kernel
set_option maxHeartbeats 4000000 in
theorem wm_two (Γ : zG) (l : Launch) (a0 : Int32) (a1 : Int32) : mRg Γ l yX7_two cX7_two 2 (some .int) 0 0 (m_two a0 a1) (zAt0 2 0 (lv_args 0 [.int a0, .int a1]) []) (zLi cX7_two) := by
  intro p e R s m args below meth c Q A S H locs x S' g C hG hI hf kk
  obtain ⟨ls, rfl, hl⟩ := hI
  obtain ⟨⟨hx, hb, hml, hown, hts⟩, hr, hlk, hK, hR1, hR2⟩ := id C
  have C : zCx Γ p R s m args meth c cX7_two 2 RX7 (some .int) 0 0 := C
  have hl : lv_has ls 2 [(0, .int a0), (1, .int a1)] := hl
  refine lv_bipush (v := zi 32) hx hb dX7_two_0 (by decide +kernel) ?_
  refine lv_iload_n hx hb dX7_two_2 rfl (lv_at hl 0 rfl) ?_
  refine lv_bipush (v := zi 96) hx hb dX7_two_3 (by decide +kernel) ?_
  refine lv_isub hx hb dX7_two_5 ?_
  refine lv_imul hx hb dX7_two_6 ?_
  refine lv_iload_n hx hb dX7_two_7 rfl (lv_at hl 1 rfl) ?_
  refine lv_iadd hx hb dX7_two_8 ?_
  refine lv_bipush (v := zi 96) hx hb dX7_two_9 (by decide +kernel) ?_
  refine lv_isub hx hb dX7_two_11 ?_
  obtain ⟨rfl, rfl⟩ := z_p hf
  exact kk _ _ _ ⟨_, _, rfl, dX7_two_12⟩ hG
theorem ctm_two (Γ : zG) (l : Launch) (a0 : Int32) (a1 : Int32) : mCt Γ l yX7_two (ws_ yX7_two cX7_two 2 (some .int)) 0 0 [.int a0, .int a1] (m_two a0 a1) zoi := mCt.mki (by decide +kernel) (Nat.le_of_ble_eq_true rfl) (wm_two Γ l a0 a1)
theorem ytm_two : yX7_two.cls = RX7 ∧ yX7_two.cls ≠ "java/lang/invoke/MethodHandle" ∧ yX7_two.cls ≠ "java/lang/invoke/VarHandle" ∧ (parseMethodDescriptor yX7_two.desc).map (fun d => d.parameters.length) = some 2 := by decide +kernel
set_option maxHeartbeats 4000000 in
theorem wm_wordOf (Γ : zG) (l : Launch) (a0 : Int32) : mRg Γ l yX7_wordOf cX7_wordOf 1 (some .int) 2 45 (m_wordOf a0) (zAt0 1 0 (lv_args 0 [.int a0]) []) (zLi cX7_wordOf) := by
  intro p e R s m args below meth c Q A S H locs x S' g C hG hI hf kk
  obtain ⟨ls, rfl, hl⟩ := hI
  obtain ⟨⟨hx, hb, hml, hown, hts⟩, hr, hlk, hK, hR1, hR2⟩ := id C
  have C : zCx Γ p R s m args meth c cX7_wordOf 1 RX7 (some .int) 2 45 := C
  have hl : lv_has ls 1 [(0, .int a0)] := hl
  refine lv_iload_n hx hb dX7_wordOf_0 rfl (lv_at hl 0 rfl) ?_
  refine lv_bipush (v := zi 98) hx hb dX7_wordOf_1 (by decide +kernel) ?_
  refine lv_bipush (v := zi 111) hx hb dX7_wordOf_3 (by decide +kernel) ?_
  refine lv_bipush (v := zi 120) hx hb dX7_wordOf_5 (by decide +kernel) ?_
  refine zm_csi (As := [.int (zi 98), .int (zi 111), .int (zi 120)]) (rest := [.int a0]) C hG hf (ctm_three Γ l (zi 98) (zi 111) (zi 120)) (lw_S q1636 q1637 q107 q1638) ytm_three rfl rfl (Nat.le_of_ble_eq_true rfl) (Nat.le_of_ble_eq_true rfl) hl.1 (Nat.le_of_ble_eq_true rfl) dX7_wordOf_7 (fun v7 S H locs hG hf => ?_)
  refine lv_icmp_ne (tgt := 15) hx hb dX7_wordOf_10 (by decide) (fun c10 => ?_) (fun c10 => ?_)
  · have hf := z_f c10 hf
    refine lv_iload_n hx hb dX7_wordOf_15 rfl (lv_at hl 0 rfl) ?_
    refine lv_bipush (v := zi 102) hx hb dX7_wordOf_16 (by decide +kernel) ?_
    refine lv_bipush (v := zi 111) hx hb dX7_wordOf_18 (by decide +kernel) ?_
    refine lv_bipush (v := zi 114) hx hb dX7_wordOf_20 (by decide +kernel) ?_
    refine lv_bipush (v := zi 109) hx hb dX7_wordOf_22 (by decide +kernel) ?_
    refine zm_csi (As := [.int (zi 102), .int (zi 111), .int (zi 114), .int (zi 109)]) (rest := [.int a0]) C hG hf (ctm_four Γ l (zi 102) (zi 111) (zi 114) (zi 109)) (lw_S q1639 q1640 q107 q1641) ytm_four rfl rfl (Nat.le_of_ble_eq_true rfl) (Nat.le_of_ble_eq_true rfl) hl.1 (Nat.le_of_ble_eq_true rfl) dX7_wordOf_24 (fun v24 S H locs hG hf => ?_)
    refine lv_icmp_ne (tgt := 32) hx hb dX7_wordOf_27 (by decide) (fun c27 => ?_) (fun c27 => ?_)
    · have hf := z_f c27 hf
      refine lv_iload_n hx hb dX7_wordOf_32 rfl (lv_at hl 0 rfl) ?_
      refine lv_bipush (v := zi 112) hx hb dX7_wordOf_33 (by decide +kernel) ?_
      refine lv_bipush (v := zi 97) hx hb dX7_wordOf_35 (by decide +kernel) ?_
      refine lv_bipush (v := zi 115) hx hb dX7_wordOf_37 (by decide +kernel) ?_
      refine lv_bipush (v := zi 115) hx hb dX7_wordOf_39 (by decide +kernel) ?_
      refine zm_csi (As := [.int (zi 112), .int (zi 97), .int (zi 115), .int (zi 115)]) (rest := [.int a0]) C hG hf (ctm_four Γ l (zi 112) (zi 97) (zi 115) (zi 115)) (lw_S q1639 q1640 q107 q1641) ytm_four rfl rfl (Nat.le_of_ble_eq_true rfl) (Nat.le_of_ble_eq_true rfl) hl.1 (Nat.le_of_ble_eq_true rfl) dX7_wordOf_41 (fun v41 S H locs hG hf => ?_)
      refine lv_icmp_ne (tgt := 49) hx hb dX7_wordOf_44 (by decide) (fun c44 => ?_) (fun c44 => ?_)
      · have hf := z_f c44 hf
        refine lv_iload_n hx hb dX7_wordOf_49 rfl (lv_at hl 0 rfl) ?_
        refine lv_bipush (v := zi 99) hx hb dX7_wordOf_50 (by decide +kernel) ?_
        refine lv_bipush (v := zi 97) hx hb dX7_wordOf_52 (by decide +kernel) ?_
        refine lv_bipush (v := zi 114) hx hb dX7_wordOf_54 (by decide +kernel) ?_
        refine lv_bipush (v := zi 100) hx hb dX7_wordOf_56 (by decide +kernel) ?_
        refine zm_csi (As := [.int (zi 99), .int (zi 97), .int (zi 114), .int (zi 100)]) (rest := [.int a0]) C hG hf (ctm_four Γ l (zi 99) (zi 97) (zi 114) (zi 100)) (lw_S q1639 q1640 q107 q1641) ytm_four rfl rfl (Nat.le_of_ble_eq_true rfl) (Nat.le_of_ble_eq_true rfl) hl.1 (Nat.le_of_ble_eq_true rfl) dX7_wordOf_58 (fun v58 S H locs hG hf => ?_)
        refine lv_icmp_ne (tgt := 66) hx hb dX7_wordOf_61 (by decide) (fun c61 => ?_) (fun c61 => ?_)
        · have hf := z_f c61 hf
          refine lv_iload_n hx hb dX7_wordOf_66 rfl (lv_at hl 0 rfl) ?_
          refine lv_bipush (v := zi 112) hx hb dX7_wordOf_67 (by decide +kernel) ?_
          refine lv_bipush (v := zi 105) hx hb dX7_wordOf_69 (by decide +kernel) ?_
          refine lv_bipush (v := zi 110) hx hb dX7_wordOf_71 (by decide +kernel) ?_
          refine zm_csi (As := [.int (zi 112), .int (zi 105), .int (zi 110)]) (rest := [.int a0]) C hG hf (ctm_three Γ l (zi 112) (zi 105) (zi 110)) (lw_S q1636 q1637 q107 q1638) ytm_three rfl rfl (Nat.le_of_ble_eq_true rfl) (Nat.le_of_ble_eq_true rfl) hl.1 (Nat.le_of_ble_eq_true rfl) dX7_wordOf_73 (fun v73 S H locs hG hf => ?_)
          refine lv_icmp_ne (tgt := 81) hx hb dX7_wordOf_76 (by decide) (fun c76 => ?_) (fun c76 => ?_)
          · have hf := z_f c76 hf
            refine lv_iload_n hx hb dX7_wordOf_81 rfl (lv_at hl 0 rfl) ?_
            refine lv_bipush (v := zi 108) hx hb dX7_wordOf_82 (by decide +kernel) ?_
            refine lv_bipush (v := zi 111) hx hb dX7_wordOf_84 (by decide +kernel) ?_
            refine lv_bipush (v := zi 103) hx hb dX7_wordOf_86 (by decide +kernel) ?_
            refine lv_bipush (v := zi 111) hx hb dX7_wordOf_88 (by decide +kernel) ?_
            refine zm_csi (As := [.int (zi 108), .int (zi 111), .int (zi 103), .int (zi 111)]) (rest := [.int a0]) C hG hf (ctm_four Γ l (zi 108) (zi 111) (zi 103) (zi 111)) (lw_S q1639 q1640 q107 q1641) ytm_four rfl rfl (Nat.le_of_ble_eq_true rfl) (Nat.le_of_ble_eq_true rfl) hl.1 (Nat.le_of_ble_eq_true rfl) dX7_wordOf_90 (fun v90 S H locs hG hf => ?_)
            refine lv_icmp_ne (tgt := 98) hx hb dX7_wordOf_93 (by decide) (fun c93 => ?_) (fun c93 => ?_)
            · have hf := z_f c93 hf
              refine lv_iload_n hx hb dX7_wordOf_98 rfl (lv_at hl 0 rfl) ?_
              refine lv_bipush (v := zi 116) hx hb dX7_wordOf_99 (by decide +kernel) ?_
              refine lv_bipush (v := zi 101) hx hb dX7_wordOf_101 (by decide +kernel) ?_
              refine lv_bipush (v := zi 120) hx hb dX7_wordOf_103 (by decide +kernel) ?_
              refine lv_bipush (v := zi 116) hx hb dX7_wordOf_105 (by decide +kernel) ?_
              refine zm_csi (As := [.int (zi 116), .int (zi 101), .int (zi 120), .int (zi 116)]) (rest := [.int a0]) C hG hf (ctm_four Γ l (zi 116) (zi 101) (zi 120) (zi 116)) (lw_S q1639 q1640 q107 q1641) ytm_four rfl rfl (Nat.le_of_ble_eq_true rfl) (Nat.le_of_ble_eq_true rfl) hl.1 (Nat.le_of_ble_eq_true rfl) dX7_wordOf_107 (fun v107 S H locs hG hf => ?_)
              refine lv_icmp_ne (tgt := 116) hx hb dX7_wordOf_110 (by decide) (fun c110 => ?_) (fun c110 => ?_)
              · have hf := z_f c110 hf
                refine lv_iload_n hx hb dX7_wordOf_116 rfl (lv_at hl 0 rfl) ?_
                refine lv_bipush (v := zi 108) hx hb dX7_wordOf_117 (by decide +kernel) ?_
                refine lv_bipush (v := zi 105) hx hb dX7_wordOf_119 (by decide +kernel) ?_
                refine lv_bipush (v := zi 110) hx hb dX7_wordOf_121 (by decide +kernel) ?_
                refine lv_bipush (v := zi 107) hx hb dX7_wordOf_123 (by decide +kernel) ?_
                refine zm_csi (As := [.int (zi 108), .int (zi 105), .int (zi 110), .int (zi 107)]) (rest := [.int a0]) C hG hf (ctm_four Γ l (zi 108) (zi 105) (zi 110) (zi 107)) (lw_S q1639 q1640 q107 q1641) ytm_four rfl rfl (Nat.le_of_ble_eq_true rfl) (Nat.le_of_ble_eq_true rfl) hl.1 (Nat.le_of_ble_eq_true rfl) dX7_wordOf_125 (fun v125 S H locs hG hf => ?_)
                refine lv_icmp_ne (tgt := 134) hx hb dX7_wordOf_128 (by decide) (fun c128 => ?_) (fun c128 => ?_)
                · have hf := z_f c128 hf
                  refine lv_iload_n hx hb dX7_wordOf_134 rfl (lv_at hl 0 rfl) ?_
                  refine lv_bipush (v := zi 108) hx hb dX7_wordOf_135 (by decide +kernel) ?_
                  refine lv_bipush (v := zi 97) hx hb dX7_wordOf_137 (by decide +kernel) ?_
                  refine lv_bipush (v := zi 110) hx hb dX7_wordOf_139 (by decide +kernel) ?_
                  refine lv_bipush (v := zi 100) hx hb dX7_wordOf_141 (by decide +kernel) ?_
                  refine zm_csi (As := [.int (zi 108), .int (zi 97), .int (zi 110), .int (zi 100)]) (rest := [.int a0]) C hG hf (ctm_four Γ l (zi 108) (zi 97) (zi 110) (zi 100)) (lw_S q1639 q1640 q107 q1641) ytm_four rfl rfl (Nat.le_of_ble_eq_true rfl) (Nat.le_of_ble_eq_true rfl) hl.1 (Nat.le_of_ble_eq_true rfl) dX7_wordOf_143 (fun v143 S H locs hG hf => ?_)
                  refine lv_icmp_ne (tgt := 152) hx hb dX7_wordOf_146 (by decide) (fun c146 => ?_) (fun c146 => ?_)
                  · have hf := z_f c146 hf
                    refine lv_iload_n hx hb dX7_wordOf_152 rfl (lv_at hl 0 rfl) ?_
                    refine lv_bipush (v := zi 100) hx hb dX7_wordOf_153 (by decide +kernel) ?_
                    refine lv_bipush (v := zi 97) hx hb dX7_wordOf_155 (by decide +kernel) ?_
                    refine lv_bipush (v := zi 121) hx hb dX7_wordOf_157 (by decide +kernel) ?_
                    refine zm_csi (As := [.int (zi 100), .int (zi 97), .int (zi 121)]) (rest := [.int a0]) C hG hf (ctm_three Γ l (zi 100) (zi 97) (zi 121)) (lw_S q1636 q1637 q107 q1638) ytm_three rfl rfl (Nat.le_of_ble_eq_true rfl) (Nat.le_of_ble_eq_true rfl) hl.1 (Nat.le_of_ble_eq_true rfl) dX7_wordOf_159 (fun v159 S H locs hG hf => ?_)
                    refine lv_icmp_ne (tgt := 168) hx hb dX7_wordOf_162 (by decide) (fun c162 => ?_) (fun c162 => ?_)
                    · have hf := z_f c162 hf
                      refine lv_iload_n hx hb dX7_wordOf_168 rfl (lv_at hl 0 rfl) ?_
                      refine lv_bipush (v := zi 114) hx hb dX7_wordOf_169 (by decide +kernel) ?_
                      refine lv_bipush (v := zi 101) hx hb dX7_wordOf_171 (by decide +kernel) ?_
                      refine lv_bipush (v := zi 97) hx hb dX7_wordOf_173 (by decide +kernel) ?_
                      refine lv_bipush (v := zi 100) hx hb dX7_wordOf_175 (by decide +kernel) ?_
                      refine zm_csi (As := [.int (zi 114), .int (zi 101), .int (zi 97), .int (zi 100)]) (rest := [.int a0]) C hG hf (ctm_four Γ l (zi 114) (zi 101) (zi 97) (zi 100)) (lw_S q1639 q1640 q107 q1641) ytm_four rfl rfl (Nat.le_of_ble_eq_true rfl) (Nat.le_of_ble_eq_true rfl) hl.1 (Nat.le_of_ble_eq_true rfl) dX7_wordOf_177 (fun v177 S H locs hG hf => ?_)
                      refine lv_icmp_ne (tgt := 186) hx hb dX7_wordOf_180 (by decide) (fun c180 => ?_) (fun c180 => ?_)
                      · have hf := z_f c180 hf
                        refine lv_iload_n hx hb dX7_wordOf_186 rfl (lv_at hl 0 rfl) ?_
                        refine lv_bipush (v := zi 116) hx hb dX7_wordOf_187 (by decide +kernel) ?_
                        refine lv_bipush (v := zi 111) hx hb dX7_wordOf_189 (by decide +kernel) ?_
                        refine zm_csi (As := [.int (zi 116), .int (zi 111)]) (rest := [.int a0]) C hG hf (ctm_two Γ l (zi 116) (zi 111)) (lw_S q1642 q1643 q107 q1644) ytm_two rfl rfl (Nat.le_of_ble_eq_true rfl) (Nat.le_of_ble_eq_true rfl) hl.1 (Nat.le_of_ble_eq_true rfl) dX7_wordOf_191 (fun v191 S H locs hG hf => ?_)
                        refine lv_icmp_ne (tgt := 200) hx hb dX7_wordOf_194 (by decide) (fun c194 => ?_) (fun c194 => ?_)
                        · have hf := z_f c194 hf
                          refine lv_iload_n hx hb dX7_wordOf_200 rfl (lv_at hl 0 rfl) ?_
                          refine lv_bipush (v := zi 109) hx hb dX7_wordOf_201 (by decide +kernel) ?_
                          refine lv_bipush (v := zi 105) hx hb dX7_wordOf_203 (by decide +kernel) ?_
                          refine lv_bipush (v := zi 120) hx hb dX7_wordOf_205 (by decide +kernel) ?_
                          refine zm_csi (As := [.int (zi 109), .int (zi 105), .int (zi 120)]) (rest := [.int a0]) C hG hf (ctm_three Γ l (zi 109) (zi 105) (zi 120)) (lw_S q1636 q1637 q107 q1638) ytm_three rfl rfl (Nat.le_of_ble_eq_true rfl) (Nat.le_of_ble_eq_true rfl) hl.1 (Nat.le_of_ble_eq_true rfl) dX7_wordOf_207 (fun v207 S H locs hG hf => ?_)
                          refine lv_icmp_ne (tgt := 216) hx hb dX7_wordOf_210 (by decide) (fun c210 => ?_) (fun c210 => ?_)
                          · have hf := z_f c210 hf
                            refine lv_iload_n hx hb dX7_wordOf_216 rfl (lv_at hl 0 rfl) ?_
                            refine lv_bipush (v := zi 112) hx hb dX7_wordOf_217 (by decide +kernel) ?_
                            refine lv_bipush (v := zi 117) hx hb dX7_wordOf_219 (by decide +kernel) ?_
                            refine lv_bipush (v := zi 116) hx hb dX7_wordOf_221 (by decide +kernel) ?_
                            refine zm_csi (As := [.int (zi 112), .int (zi 117), .int (zi 116)]) (rest := [.int a0]) C hG hf (ctm_three Γ l (zi 112) (zi 117) (zi 116)) (lw_S q1636 q1637 q107 q1638) ytm_three rfl rfl (Nat.le_of_ble_eq_true rfl) (Nat.le_of_ble_eq_true rfl) hl.1 (Nat.le_of_ble_eq_true rfl) dX7_wordOf_223 (fun v223 S H locs hG hf => ?_)
                            refine lv_icmp_ne (tgt := 232) hx hb dX7_wordOf_226 (by decide) (fun c226 => ?_) (fun c226 => ?_)
                            · have hf := z_f c226 hf
                              refine lv_iload_n hx hb dX7_wordOf_232 rfl (lv_at hl 0 rfl) ?_
                              refine lv_bipush (v := zi 115) hx hb dX7_wordOf_233 (by decide +kernel) ?_
                              refine lv_bipush (v := zi 101) hx hb dX7_wordOf_235 (by decide +kernel) ?_
                              refine lv_bipush (v := zi 110) hx hb dX7_wordOf_237 (by decide +kernel) ?_
                              refine lv_bipush (v := zi 100) hx hb dX7_wordOf_239 (by decide +kernel) ?_
                              refine zm_csi (As := [.int (zi 115), .int (zi 101), .int (zi 110), .int (zi 100)]) (rest := [.int a0]) C hG hf (ctm_four Γ l (zi 115) (zi 101) (zi 110) (zi 100)) (lw_S q1639 q1640 q107 q1641) ytm_four rfl rfl (Nat.le_of_ble_eq_true rfl) (Nat.le_of_ble_eq_true rfl) hl.1 (Nat.le_of_ble_eq_true rfl) dX7_wordOf_241 (fun v241 S H locs hG hf => ?_)
                              refine lv_icmp_ne (tgt := 250) hx hb dX7_wordOf_244 (by decide) (fun c244 => ?_) (fun c244 => ?_)
                              · have hf := z_f c244 hf
                                refine lv_iload_n hx hb dX7_wordOf_250 rfl (lv_at hl 0 rfl) ?_
                                refine lv_bipush (v := zi 105) hx hb dX7_wordOf_251 (by decide +kernel) ?_
                                refine lv_bipush (v := zi 102) hx hb dX7_wordOf_253 (by decide +kernel) ?_
                                refine zm_csi (As := [.int (zi 105), .int (zi 102)]) (rest := [.int a0]) C hG hf (ctm_two Γ l (zi 105) (zi 102)) (lw_S q1642 q1643 q107 q1644) ytm_two rfl rfl (Nat.le_of_ble_eq_true rfl) (Nat.le_of_ble_eq_true rfl) hl.1 (Nat.le_of_ble_eq_true rfl) dX7_wordOf_255 (fun v255 S H locs hG hf => ?_)
                                refine lv_icmp_ne (tgt := 264) hx hb dX7_wordOf_258 (by decide) (fun c258 => ?_) (fun c258 => ?_)
                                · have hf := z_f c258 hf
                                  refine lv_iload_n hx hb dX7_wordOf_264 rfl (lv_at hl 0 rfl) ?_
                                  refine lv_bipush (v := zi 103) hx hb dX7_wordOf_265 (by decide +kernel) ?_
                                  refine lv_bipush (v := zi 111) hx hb dX7_wordOf_267 (by decide +kernel) ?_
                                  refine zm_csi (As := [.int (zi 103), .int (zi 111)]) (rest := [.int a0]) C hG hf (ctm_two Γ l (zi 103) (zi 111)) (lw_S q1642 q1643 q107 q1644) ytm_two rfl rfl (Nat.le_of_ble_eq_true rfl) (Nat.le_of_ble_eq_true rfl) hl.1 (Nat.le_of_ble_eq_true rfl) dX7_wordOf_269 (fun v269 S H locs hG hf => ?_)
                                  refine lv_icmp_ne (tgt := 278) hx hb dX7_wordOf_272 (by decide) (fun c272 => ?_) (fun c272 => ?_)
                                  · have hf := z_f c272 hf
                                    refine lv_iload_n hx hb dX7_wordOf_278 rfl (lv_at hl 0 rfl) ?_
                                    refine lv_bipush (v := zi 115) hx hb dX7_wordOf_279 (by decide +kernel) ?_
                                    refine lv_bipush (v := zi 116) hx hb dX7_wordOf_281 (by decide +kernel) ?_
                                    refine lv_bipush (v := zi 111) hx hb dX7_wordOf_283 (by decide +kernel) ?_
                                    refine lv_bipush (v := zi 112) hx hb dX7_wordOf_285 (by decide +kernel) ?_
                                    refine zm_csi (As := [.int (zi 115), .int (zi 116), .int (zi 111), .int (zi 112)]) (rest := [.int a0]) C hG hf (ctm_four Γ l (zi 115) (zi 116) (zi 111) (zi 112)) (lw_S q1639 q1640 q107 q1641) ytm_four rfl rfl (Nat.le_of_ble_eq_true rfl) (Nat.le_of_ble_eq_true rfl) hl.1 (Nat.le_of_ble_eq_true rfl) dX7_wordOf_287 (fun v287 S H locs hG hf => ?_)
                                    refine lv_icmp_ne (tgt := 296) hx hb dX7_wordOf_290 (by decide) (fun c290 => ?_) (fun c290 => ?_)
                                    · have hf := z_f c290 hf
                                      refine lv_bipush (v := zi 99) hx hb dX7_wordOf_296 (by decide +kernel) ?_
                                      obtain ⟨rfl, rfl⟩ := z_p hf
                                      exact kk _ _ _ ⟨_, _, rfl, dX7_wordOf_298⟩ hG
                                    · have hf := z_t c290 hf
                                      refine lv_bipush (v := zi 17) hx hb dX7_wordOf_293 (by decide +kernel) ?_
                                      obtain ⟨rfl, rfl⟩ := z_p hf
                                      exact kk _ _ _ ⟨_, _, rfl, dX7_wordOf_295⟩ hG
                                  · have hf := z_t c272 hf
                                    refine lv_bipush (v := zi 16) hx hb dX7_wordOf_275 (by decide +kernel) ?_
                                    obtain ⟨rfl, rfl⟩ := z_p hf
                                    exact kk _ _ _ ⟨_, _, rfl, dX7_wordOf_277⟩ hG
                                · have hf := z_t c258 hf
                                  refine lv_bipush (v := zi 15) hx hb dX7_wordOf_261 (by decide +kernel) ?_
                                  obtain ⟨rfl, rfl⟩ := z_p hf
                                  exact kk _ _ _ ⟨_, _, rfl, dX7_wordOf_263⟩ hG
                              · have hf := z_t c244 hf
                                refine lv_bipush (v := zi 14) hx hb dX7_wordOf_247 (by decide +kernel) ?_
                                obtain ⟨rfl, rfl⟩ := z_p hf
                                exact kk _ _ _ ⟨_, _, rfl, dX7_wordOf_249⟩ hG
                            · have hf := z_t c226 hf
                              refine lv_bipush (v := zi 13) hx hb dX7_wordOf_229 (by decide +kernel) ?_
                              obtain ⟨rfl, rfl⟩ := z_p hf
                              exact kk _ _ _ ⟨_, _, rfl, dX7_wordOf_231⟩ hG
                          · have hf := z_t c210 hf
                            refine lv_bipush (v := zi 12) hx hb dX7_wordOf_213 (by decide +kernel) ?_
                            obtain ⟨rfl, rfl⟩ := z_p hf
                            exact kk _ _ _ ⟨_, _, rfl, dX7_wordOf_215⟩ hG
                        · have hf := z_t c194 hf
                          refine lv_bipush (v := zi 11) hx hb dX7_wordOf_197 (by decide +kernel) ?_
                          obtain ⟨rfl, rfl⟩ := z_p hf
                          exact kk _ _ _ ⟨_, _, rfl, dX7_wordOf_199⟩ hG
                      · have hf := z_t c180 hf
                        refine lv_bipush (v := zi 10) hx hb dX7_wordOf_183 (by decide +kernel) ?_
                        obtain ⟨rfl, rfl⟩ := z_p hf
                        exact kk _ _ _ ⟨_, _, rfl, dX7_wordOf_185⟩ hG
                    · have hf := z_t c162 hf
                      refine lv_bipush (v := zi 9) hx hb dX7_wordOf_165 (by decide +kernel) ?_
                      obtain ⟨rfl, rfl⟩ := z_p hf
                      exact kk _ _ _ ⟨_, _, rfl, dX7_wordOf_167⟩ hG
                  · have hf := z_t c146 hf
                    refine lv_bipush (v := zi 8) hx hb dX7_wordOf_149 (by decide +kernel) ?_
                    obtain ⟨rfl, rfl⟩ := z_p hf
                    exact kk _ _ _ ⟨_, _, rfl, dX7_wordOf_151⟩ hG
                · have hf := z_t c128 hf
                  refine lv_bipush (v := zi 7) hx hb dX7_wordOf_131 (by decide +kernel) ?_
                  obtain ⟨rfl, rfl⟩ := z_p hf
                  exact kk _ _ _ ⟨_, _, rfl, dX7_wordOf_133⟩ hG
              · have hf := z_t c110 hf
                refine lv_bipush (v := zi 6) hx hb dX7_wordOf_113 (by decide +kernel) ?_
                obtain ⟨rfl, rfl⟩ := z_p hf
                exact kk _ _ _ ⟨_, _, rfl, dX7_wordOf_115⟩ hG
            · have hf := z_t c93 hf
              refine lv_iconst (v := zi 5) hx hb dX7_wordOf_96 rfl ?_
              obtain ⟨rfl, rfl⟩ := z_p hf
              exact kk _ _ _ ⟨_, _, rfl, dX7_wordOf_97⟩ hG
          · have hf := z_t c76 hf
            refine lv_iconst (v := zi 4) hx hb dX7_wordOf_79 rfl ?_
            obtain ⟨rfl, rfl⟩ := z_p hf
            exact kk _ _ _ ⟨_, _, rfl, dX7_wordOf_80⟩ hG
        · have hf := z_t c61 hf
          refine lv_iconst (v := zi 3) hx hb dX7_wordOf_64 rfl ?_
          obtain ⟨rfl, rfl⟩ := z_p hf
          exact kk _ _ _ ⟨_, _, rfl, dX7_wordOf_65⟩ hG
      · have hf := z_t c44 hf
        refine lv_iconst (v := zi 2) hx hb dX7_wordOf_47 rfl ?_
        obtain ⟨rfl, rfl⟩ := z_p hf
        exact kk _ _ _ ⟨_, _, rfl, dX7_wordOf_48⟩ hG
    · have hf := z_t c27 hf
      refine lv_iconst (v := zi 1) hx hb dX7_wordOf_30 rfl ?_
      obtain ⟨rfl, rfl⟩ := z_p hf
      exact kk _ _ _ ⟨_, _, rfl, dX7_wordOf_31⟩ hG
  · have hf := z_t c10 hf
    refine lv_iconst (v := zi 0) hx hb dX7_wordOf_13 rfl ?_
    obtain ⟨rfl, rfl⟩ := z_p hf
    exact kk _ _ _ ⟨_, _, rfl, dX7_wordOf_14⟩ hG
theorem ctm_wordOf (Γ : zG) (l : Launch) (a0 : Int32) : mCt Γ l yX7_wordOf (ws_ yX7_wordOf cX7_wordOf 1 (some .int)) 2 45 [.int a0] (m_wordOf a0) zoi := mCt.mki (by decide +kernel) (Nat.le_of_ble_eq_true rfl) (wm_wordOf Γ l a0)
theorem ytm_wordOf : yX7_wordOf.cls = RX7 ∧ yX7_wordOf.cls ≠ "java/lang/invoke/MethodHandle" ∧ yX7_wordOf.cls ≠ "java/lang/invoke/VarHandle" ∧ (parseMethodDescriptor yX7_wordOf.desc).map (fun d => d.parameters.length) = some 1 := by decide +kernel
set_option maxHeartbeats 4000000 in
theorem wm_isDigit (Γ : zG) (l : Launch) (a0 : Int32) : mRg Γ l yX7_isDigit cX7_isDigit 1 (some .boolean) 0 0 (m_isDigit a0) (zAt0 1 0 (lv_args 0 [.int a0]) []) (zLz cX7_isDigit) := by
  intro p e R s m args below meth c Q A S H locs x S' g C hG hI hf kk
  obtain ⟨ls, rfl, hl⟩ := hI
  obtain ⟨⟨hx, hb, hml, hown, hts⟩, hr, hlk, hK, hR1, hR2⟩ := id C
  have C : zCx Γ p R s m args meth c cX7_isDigit 1 RX7 (some .boolean) 0 0 := C
  have hl : lv_has ls 1 [(0, .int a0)] := hl
  refine lv_iload_n hx hb dX7_isDigit_0 rfl (lv_at hl 0 rfl) ?_
  refine lv_bipush (v := zi 48) hx hb dX7_isDigit_1 (by decide +kernel) ?_
  refine lv_icmp_lt (tgt := 16) hx hb dX7_isDigit_3 (by decide) (fun c3 => ?_) (fun c3 => ?_)
  · have hf := z_t c3 hf
    refine lv_iconst (v := zi 0) hx hb dX7_isDigit_16 rfl ?_
    obtain ⟨rfl, rfl⟩ := z_p hf
    exact kk _ _ _ ⟨_, _, rfl, dX7_isDigit_17, Or.inl rfl⟩ hG
  · have hf := z_f c3 hf
    refine lv_iload_n hx hb dX7_isDigit_6 rfl (lv_at hl 0 rfl) ?_
    refine lv_bipush (v := zi 57) hx hb dX7_isDigit_7 (by decide +kernel) ?_
    refine lv_icmp_gt (tgt := 16) hx hb dX7_isDigit_9 (by decide) (fun c9 => ?_) (fun c9 => ?_)
    · have hf := z_t c9 hf
      refine lv_iconst (v := zi 0) hx hb dX7_isDigit_16 rfl ?_
      obtain ⟨rfl, rfl⟩ := z_p hf
      exact kk _ _ _ ⟨_, _, rfl, dX7_isDigit_17, Or.inl rfl⟩ hG
    · have hf := z_f c9 hf
      refine lv_iconst (v := zi 1) hx hb dX7_isDigit_12 rfl ?_
      refine lv_goto (tgt := 17) hx hb dX7_isDigit_13 (by decide) ?_
      obtain ⟨rfl, rfl⟩ := z_p hf
      exact kk _ _ _ ⟨_, _, rfl, dX7_isDigit_17, Or.inr rfl⟩ hG
theorem ctm_isDigit (Γ : zG) (l : Launch) (a0 : Int32) : mCt Γ l yX7_isDigit (ws_ yX7_isDigit cX7_isDigit 1 (some .boolean)) 0 0 [.int a0] (m_isDigit a0) zoi := mCt.mkz (by decide +kernel) (Nat.le_of_ble_eq_true rfl) (wm_isDigit Γ l a0)
theorem ytm_isDigit : yX7_isDigit.cls = RX7 ∧ yX7_isDigit.cls ≠ "java/lang/invoke/MethodHandle" ∧ yX7_isDigit.cls ≠ "java/lang/invoke/VarHandle" ∧ (parseMethodDescriptor yX7_isDigit.desc).map (fun d => d.parameters.length) = some 1 := by decide +kernel
def im_advance_l0 (Γ : zG) (m : MethodId) (s : Unit) (g : JFrame) : Prop := zAt0 3 0 [(0, .ref (G_m Γ 0))] [] m g
def em_advance_l0 (Γ : zG) (m : MethodId) (e : Unit) (g : JFrame) : Prop := zAt0 3 39 [(0, .ref (G_m Γ 0))] [] m g
set_option maxHeartbeats 4000000 in
theorem wm_advance_l0_j26 (Γ : zG) (l : Launch) : mRg Γ l yX7_advance cX7_advance 3 none 3 65 (m_advance_l0_j26) (zAt0 3 26 [(0, .ref (G_m Γ 0))] []) (zLE (im_advance_l0 Γ) (em_advance_l0 Γ)) := by
  intro p e R s m args below meth c Q A S H locs x S' g C hG hI hf kk
  obtain ⟨ls, rfl, hl⟩ := hI
  obtain ⟨⟨hx, hb, hml, hown, hts⟩, hr, hlk, hK, hR1, hR2⟩ := id C
  have C : zCx Γ p R s m args meth c cX7_advance 3 RX7 none 3 65 := C
  refine lv_aload_n hx hb dX7_advance_26 rfl (lv_at hl 0 rfl) ?_
  refine lv_dup hx hb dX7_advance_27 rfl ?_
  refine zm_gf C hG 3 hf (Nat.le_of_ble_eq_true rfl) rfl q1446 dX7_advance_28 (fun v28 hf => ?_)
  refine lv_iconst (v := zi 1) hx hb dX7_advance_31 rfl ?_
  refine lv_iadd hx hb dX7_advance_32 ?_
  refine zm_pf C hG 3 hf (Nat.le_of_ble_eq_true rfl) rfl rfl (by decide +kernel) q1446 dX7_advance_33 (fun S H locs hG hf => ?_)
  refine lv_goto (tgt := 0) hx hb dX7_advance_36 (by decide) ?_
  obtain ⟨rfl, rfl⟩ := z_p hf
  exact kk _ _ _ ⟨ls, rfl, lv_sub hl [0] rfl⟩ hG
set_option maxHeartbeats 4000000 in
theorem wm_advance_l0_b (Γ : zG) (l : Launch) : mRg Γ l yX7_advance cX7_advance 3 none 3 65 (m_advance_l0) (zAt0 3 0 [(0, .ref (G_m Γ 0))] []) (zLE (im_advance_l0 Γ) (em_advance_l0 Γ)) := by
  intro p e R s m args below meth c Q A S H locs x S' g C hG hI hf kk
  obtain ⟨ls, rfl, hl⟩ := hI
  obtain ⟨⟨hx, hb, hml, hown, hts⟩, hr, hlk, hK, hR1, hR2⟩ := id C
  have C : zCx Γ p R s m args meth c cX7_advance 3 RX7 none 3 65 := C
  refine lv_aload_n hx hb dX7_advance_0 rfl (lv_at hl 0 rfl) ?_
  refine lv_aload_n hx hb dX7_advance_1 rfl (lv_at hl 0 rfl) ?_
  refine zm_gf C hG 3 hf (Nat.le_of_ble_eq_true rfl) rfl q1446 dX7_advance_2 (fun v2 hf => ?_)
  refine zm_cvi (As := [.int v2]) (rest := []) C hG hf (ctm_byteAt Γ l v2) (lw_V q1626 q1628 qs45 q107 q1629) ytm_byteAt rfl rfl (Nat.le_of_ble_eq_true rfl) (Nat.le_of_ble_eq_true rfl) hl.1 (Nat.le_of_ble_eq_true rfl) dX7_advance_5 (fun v5 S H locs hG hf => ?_)
  refine lv_bipush (v := zi 10) hx hb dX7_advance_8 (by decide +kernel) ?_
  refine lv_icmp_eq (tgt := 26) hx hb dX7_advance_10 (by decide) (fun c10 => ?_) (fun c10 => ?_)
  · have hf := z_t c10 hf
    exact wm_advance_l0_j26 Γ l p e R s m args below meth c Q A _ _ _ _ _ _ C hG ⟨ls, rfl, lv_sub hl [0] rfl⟩ hf kk
  · have hf := z_f c10 hf
    refine lv_aload_n hx hb dX7_advance_13 rfl (lv_at hl 0 rfl) ?_
    refine lv_aload_n hx hb dX7_advance_14 rfl (lv_at hl 0 rfl) ?_
    refine zm_gf C hG 3 hf (Nat.le_of_ble_eq_true rfl) rfl q1446 dX7_advance_15 (fun v15 hf => ?_)
    refine zm_cvi (As := [.int v15]) (rest := []) C hG hf (ctm_byteAt Γ l v15) (lw_V q1626 q1628 qs45 q107 q1629) ytm_byteAt rfl rfl (Nat.le_of_ble_eq_true rfl) (Nat.le_of_ble_eq_true rfl) hl.1 (Nat.le_of_ble_eq_true rfl) dX7_advance_18 (fun v18 S H locs hG hf => ?_)
    refine lv_bipush (v := zi 32) hx hb dX7_advance_21 (by decide +kernel) ?_
    refine lv_icmp_ne (tgt := 39) hx hb dX7_advance_23 (by decide) (fun c23 => ?_) (fun c23 => ?_)
    · have hf := z_f c23 hf
      obtain ⟨rfl, rfl⟩ := z_p hf
      exact kk _ _ _ ⟨ls, rfl, lv_sub hl [0] rfl⟩ hG
    · have hf := z_t c23 hf
      exact wm_advance_l0_j26 Γ l p e R s m args below meth c Q A _ _ _ _ _ _ C hG ⟨ls, rfl, lv_sub hl [0] rfl⟩ hf kk
theorem wm_advance_l0 (Γ : zG) (l : Launch) : ∀ s : Unit, mRg Γ l yX7_advance cX7_advance 3 none 3 65 (m_advance_l0) (fun m => im_advance_l0 Γ m s) (zLE (im_advance_l0 Γ) (em_advance_l0 Γ)) := fun s => wm_advance_l0_b Γ l
set_option maxHeartbeats 4000000 in
theorem wm_advance_j326 (Γ : zG) (l : Launch) (t0 : Int32) : mRg Γ l yX7_advance cX7_advance 3 none 3 65 (m_advance_j326 t0) (zAt0 3 326 [(0, .ref (G_m Γ 0))] [.int t0, .ref (G_m Γ 0)]) (zLv cX7_advance) := by
  intro p e R s m args below meth c Q A S H locs x S' g C hG hI hf kk
  obtain ⟨ls, rfl, hl⟩ := hI
  obtain ⟨⟨hx, hb, hml, hown, hts⟩, hr, hlk, hK, hR1, hR2⟩ := id C
  have C : zCx Γ p R s m args meth c cX7_advance 3 RX7 none 3 65 := C
  refine zm_pf C hG 5 hf (Nat.le_of_ble_eq_true rfl) rfl rfl (by decide +kernel) q1448 dX7_advance_326 (fun S H locs hG hf => ?_)
  obtain ⟨rfl, rfl⟩ := z_p hf
  exact kk _ _ _ ⟨_, _, rfl, dX7_advance_329⟩ hG
set_option maxHeartbeats 4000000 in
theorem wm_advance_j321 (Γ : zG) (l : Launch) : mRg Γ l yX7_advance cX7_advance 3 none 3 65 (m_advance_j321) (zAt0 3 321 [(0, .ref (G_m Γ 0))] [.ref (G_m Γ 0)]) (zLv cX7_advance) := by
  intro p e R s m args below meth c Q A S H locs x S' g C hG hI hf kk
  obtain ⟨ls, rfl, hl⟩ := hI
  obtain ⟨⟨hx, hb, hml, hown, hts⟩, hr, hlk, hK, hR1, hR2⟩ := id C
  have C : zCx Γ p R s m args meth c cX7_advance 3 RX7 none 3 65 := C
  refine lv_iconst (v := zi 2) hx hb dX7_advance_321 rfl ?_
  refine lv_goto (tgt := 326) hx hb dX7_advance_322 (by decide) ?_
  exact wm_advance_j326 Γ l (zi 2) p e R s m args below meth c Q A _ _ _ _ _ _ C hG ⟨ls, rfl, lv_sub hl [0] rfl⟩ hf kk
def im_advance_l193 (Γ : zG) (m : MethodId) (s : Unit) (g : JFrame) : Prop := zAt0 3 193 [(0, .ref (G_m Γ 0))] [] m g
def em_advance_l193 (Γ : zG) (m : MethodId) (e : Unit) (g : JFrame) : Prop := zAt0 3 256 [(0, .ref (G_m Γ 0))] [] m g
set_option maxHeartbeats 4000000 in
theorem wm_advance_l193_j243 (Γ : zG) (l : Launch) : mRg Γ l yX7_advance cX7_advance 3 none 3 65 (m_advance_l193_j243) (zAt0 3 243 [(0, .ref (G_m Γ 0))] []) (zLE (im_advance_l193 Γ) (em_advance_l193 Γ)) := by
  intro p e R s m args below meth c Q A S H locs x S' g C hG hI hf kk
  obtain ⟨ls, rfl, hl⟩ := hI
  obtain ⟨⟨hx, hb, hml, hown, hts⟩, hr, hlk, hK, hR1, hR2⟩ := id C
  have C : zCx Γ p R s m args meth c cX7_advance 3 RX7 none 3 65 := C
  refine lv_aload_n hx hb dX7_advance_243 rfl (lv_at hl 0 rfl) ?_
  refine lv_dup hx hb dX7_advance_244 rfl ?_
  refine zm_gf C hG 3 hf (Nat.le_of_ble_eq_true rfl) rfl q1446 dX7_advance_245 (fun v245 hf => ?_)
  refine lv_iconst (v := zi 1) hx hb dX7_advance_248 rfl ?_
  refine lv_iadd hx hb dX7_advance_249 ?_
  refine zm_pf C hG 3 hf (Nat.le_of_ble_eq_true rfl) rfl rfl (by decide +kernel) q1446 dX7_advance_250 (fun S H locs hG hf => ?_)
  refine lv_goto (tgt := 193) hx hb dX7_advance_253 (by decide) ?_
  obtain ⟨rfl, rfl⟩ := z_p hf
  exact kk _ _ _ ⟨ls, rfl, lv_sub hl [0] rfl⟩ hG
set_option maxHeartbeats 4000000 in
theorem wm_advance_l193_b (Γ : zG) (l : Launch) : mRg Γ l yX7_advance cX7_advance 3 none 3 65 (m_advance_l193) (zAt0 3 193 [(0, .ref (G_m Γ 0))] []) (zLE (im_advance_l193 Γ) (em_advance_l193 Γ)) := by
  intro p e R s m args below meth c Q A S H locs x S' g C hG hI hf kk
  obtain ⟨ls, rfl, hl⟩ := hI
  obtain ⟨⟨hx, hb, hml, hown, hts⟩, hr, hlk, hK, hR1, hR2⟩ := id C
  have C : zCx Γ p R s m args meth c cX7_advance 3 RX7 none 3 65 := C
  refine lv_aload_n hx hb dX7_advance_193 rfl (lv_at hl 0 rfl) ?_
  refine lv_aload_n hx hb dX7_advance_194 rfl (lv_at hl 0 rfl) ?_
  refine zm_gf C hG 3 hf (Nat.le_of_ble_eq_true rfl) rfl q1446 dX7_advance_195 (fun v195 hf => ?_)
  refine zm_cvi (As := [.int v195]) (rest := []) C hG hf (ctm_byteAt Γ l v195) (lw_V q1626 q1628 qs45 q107 q1629) ytm_byteAt rfl rfl (Nat.le_of_ble_eq_true rfl) (Nat.le_of_ble_eq_true rfl) hl.1 (Nat.le_of_ble_eq_true rfl) dX7_advance_198 (fun v198 S H locs hG hf => ?_)
  refine zm_csi (As := [.int v198]) (rest := []) C hG hf (ctm_isDigit Γ l v198) (lw_S q1645 q1646 q107 q1647) ytm_isDigit rfl rfl (Nat.le_of_ble_eq_true rfl) (Nat.le_of_ble_eq_true rfl) hl.1 (Nat.le_of_ble_eq_true rfl) dX7_advance_201 (fun v201 S H locs hG hf => ?_)
  refine lv_if_eq (tgt := 256) hx hb dX7_advance_204 (by decide) (fun c204 => ?_) (fun c204 => ?_)
  · have hf := z_t c204 hf
    obtain ⟨rfl, rfl⟩ := z_p hf
    exact kk _ _ _ ⟨ls, rfl, lv_sub hl [0] rfl⟩ hG
  · have hf := z_f c204 hf
    refine lv_aload_n hx hb dX7_advance_207 rfl (lv_at hl 0 rfl) ?_
    refine zm_gf C hG 3 hf (Nat.le_of_ble_eq_true rfl) rfl q1446 dX7_advance_208 (fun v208 hf => ?_)
    refine lv_aload_n hx hb dX7_advance_211 rfl (lv_at hl 0 rfl) ?_
    refine zm_gf C hG 4 hf (Nat.le_of_ble_eq_true rfl) rfl q1447 dX7_advance_212 (fun v212 hf => ?_)
    refine lv_isub hx hb dX7_advance_215 ?_
    refine lv_iconst (v := zi 4) hx hb dX7_advance_216 rfl ?_
    refine lv_icmp_ge (tgt := 243) hx hb dX7_advance_217 (by decide) (fun c217 => ?_) (fun c217 => ?_)
    · have hf := z_t c217 hf
      exact wm_advance_l193_j243 Γ l p e R s m args below meth c Q A _ _ _ _ _ _ C hG ⟨ls, rfl, lv_sub hl [0] rfl⟩ hf kk
    · have hf := z_f c217 hf
      refine lv_aload_n hx hb dX7_advance_220 rfl (lv_at hl 0 rfl) ?_
      refine lv_bipush (v := zi 10) hx hb dX7_advance_221 (by decide +kernel) ?_
      refine lv_aload_n hx hb dX7_advance_223 rfl (lv_at hl 0 rfl) ?_
      refine zm_gf C hG 6 hf (Nat.le_of_ble_eq_true rfl) rfl q1449 dX7_advance_224 (fun v224 hf => ?_)
      refine lv_imul hx hb dX7_advance_227 ?_
      refine lv_aload_n hx hb dX7_advance_228 rfl (lv_at hl 0 rfl) ?_
      refine lv_aload_n hx hb dX7_advance_229 rfl (lv_at hl 0 rfl) ?_
      refine zm_gf C hG 3 hf (Nat.le_of_ble_eq_true rfl) rfl q1446 dX7_advance_230 (fun v230 hf => ?_)
      refine zm_cvi (As := [.int v230]) (rest := [.int ((zi 10) * v224), .ref (G_m Γ 0)]) C hG hf (ctm_byteAt Γ l v230) (lw_V q1626 q1628 qs45 q107 q1629) ytm_byteAt rfl rfl (Nat.le_of_ble_eq_true rfl) (Nat.le_of_ble_eq_true rfl) hl.1 (Nat.le_of_ble_eq_true rfl) dX7_advance_233 (fun v233 S H locs hG hf => ?_)
      refine lv_iadd hx hb dX7_advance_236 ?_
      refine lv_bipush (v := zi 48) hx hb dX7_advance_237 (by decide +kernel) ?_
      refine lv_isub hx hb dX7_advance_239 ?_
      refine zm_pf C hG 6 hf (Nat.le_of_ble_eq_true rfl) rfl rfl (by decide +kernel) q1449 dX7_advance_240 (fun S H locs hG hf => ?_)
      exact wm_advance_l193_j243 Γ l p e R s m args below meth c Q A _ _ _ _ _ _ C hG ⟨ls, rfl, lv_sub hl [0] rfl⟩ hf kk
theorem wm_advance_l193 (Γ : zG) (l : Launch) : ∀ s : Unit, mRg Γ l yX7_advance cX7_advance 3 none 3 65 (m_advance_l193) (fun m => im_advance_l193 Γ m s) (zLE (im_advance_l193 Γ) (em_advance_l193 Γ)) := fun s => wm_advance_l193_b Γ l
set_option maxHeartbeats 4000000 in
theorem wm_advance_j275 (Γ : zG) (l : Launch) (t0 : Int32) : mRg Γ l yX7_advance cX7_advance 3 none 3 65 (m_advance_j275 t0) (zAt0 3 275 [(0, .ref (G_m Γ 0))] [.int t0, .ref (G_m Γ 0)]) (zLv cX7_advance) := by
  intro p e R s m args below meth c Q A S H locs x S' g C hG hI hf kk
  obtain ⟨ls, rfl, hl⟩ := hI
  obtain ⟨⟨hx, hb, hml, hown, hts⟩, hr, hlk, hK, hR1, hR2⟩ := id C
  have C : zCx Γ p R s m args meth c cX7_advance 3 RX7 none 3 65 := C
  refine zm_pf C hG 5 hf (Nat.le_of_ble_eq_true rfl) rfl rfl (by decide +kernel) q1448 dX7_advance_275 (fun S H locs hG hf => ?_)
  refine lv_goto (tgt := 329) hx hb dX7_advance_278 (by decide) ?_
  obtain ⟨rfl, rfl⟩ := z_p hf
  exact kk _ _ _ ⟨_, _, rfl, dX7_advance_329⟩ hG
def im_advance_l77 (Γ : zG) (m : MethodId) (s : Int32) (g : JFrame) : Prop := zAt0 3 77 [(0, .ref (G_m Γ 0)), (2, .int s)] [] m g
def em_advance_l77 (Γ : zG) (m : MethodId) (e : Int32) (g : JFrame) : Prop := zAt0 3 134 [(0, .ref (G_m Γ 0)), (2, .int e)] [] m g
set_option maxHeartbeats 4000000 in
theorem wm_advance_l77_j121 (Γ : zG) (l : Launch) (b2 : Int32) : mRg Γ l yX7_advance cX7_advance 3 none 3 65 (m_advance_l77_j121 b2) (zAt0 3 121 [(0, .ref (G_m Γ 0)), (2, .int b2)] []) (zLE (im_advance_l77 Γ) (em_advance_l77 Γ)) := by
  intro p e R s m args below meth c Q A S H locs x S' g C hG hI hf kk
  obtain ⟨ls, rfl, hl⟩ := hI
  obtain ⟨⟨hx, hb, hml, hown, hts⟩, hr, hlk, hK, hR1, hR2⟩ := id C
  have C : zCx Γ p R s m args meth c cX7_advance 3 RX7 none 3 65 := C
  refine lv_aload_n hx hb dX7_advance_121 rfl (lv_at hl 0 rfl) ?_
  refine lv_dup hx hb dX7_advance_122 rfl ?_
  refine zm_gf C hG 3 hf (Nat.le_of_ble_eq_true rfl) rfl q1446 dX7_advance_123 (fun v123 hf => ?_)
  refine lv_iconst (v := zi 1) hx hb dX7_advance_126 rfl ?_
  refine lv_iadd hx hb dX7_advance_127 ?_
  refine zm_pf C hG 3 hf (Nat.le_of_ble_eq_true rfl) rfl rfl (by decide +kernel) q1446 dX7_advance_128 (fun S H locs hG hf => ?_)
  refine lv_goto (tgt := 77) hx hb dX7_advance_131 (by decide) ?_
  obtain ⟨rfl, rfl⟩ := z_p hf
  exact kk _ _ _ ⟨ls, rfl, lv_sub hl [0, 1] rfl⟩ hG
set_option maxHeartbeats 4000000 in
theorem wm_advance_l77_b (Γ : zG) (l : Launch) (s2 : Int32) : mRg Γ l yX7_advance cX7_advance 3 none 3 65 (m_advance_l77 s2) (zAt0 3 77 [(0, .ref (G_m Γ 0)), (2, .int s2)] []) (zLE (im_advance_l77 Γ) (em_advance_l77 Γ)) := by
  intro p e R s m args below meth c Q A S H locs x S' g C hG hI hf kk
  obtain ⟨ls, rfl, hl⟩ := hI
  obtain ⟨⟨hx, hb, hml, hown, hts⟩, hr, hlk, hK, hR1, hR2⟩ := id C
  have C : zCx Γ p R s m args meth c cX7_advance 3 RX7 none 3 65 := C
  refine lv_aload_n hx hb dX7_advance_77 rfl (lv_at hl 0 rfl) ?_
  refine lv_aload_n hx hb dX7_advance_78 rfl (lv_at hl 0 rfl) ?_
  refine zm_gf C hG 3 hf (Nat.le_of_ble_eq_true rfl) rfl q1446 dX7_advance_79 (fun v79 hf => ?_)
  refine zm_cvi (As := [.int v79]) (rest := []) C hG hf (ctm_byteAt Γ l v79) (lw_V q1626 q1628 qs45 q107 q1629) ytm_byteAt rfl rfl (Nat.le_of_ble_eq_true rfl) (Nat.le_of_ble_eq_true rfl) hl.1 (Nat.le_of_ble_eq_true rfl) dX7_advance_82 (fun v82 S H locs hG hf => ?_)
  refine zm_csi (As := [.int v82]) (rest := []) C hG hf (ctm_isLetter Γ l v82) (lw_S q1630 q1631 q107 q1632) ytm_isLetter rfl rfl (Nat.le_of_ble_eq_true rfl) (Nat.le_of_ble_eq_true rfl) hl.1 (Nat.le_of_ble_eq_true rfl) dX7_advance_85 (fun v85 S H locs hG hf => ?_)
  refine lv_if_eq (tgt := 134) hx hb dX7_advance_88 (by decide) (fun c88 => ?_) (fun c88 => ?_)
  · have hf := z_t c88 hf
    obtain ⟨rfl, rfl⟩ := z_p hf
    exact kk _ _ _ ⟨ls, rfl, lv_sub hl [0, 1] rfl⟩ hG
  · have hf := z_f c88 hf
    refine lv_aload_n hx hb dX7_advance_91 rfl (lv_at hl 0 rfl) ?_
    refine zm_gf C hG 3 hf (Nat.le_of_ble_eq_true rfl) rfl q1446 dX7_advance_92 (fun v92 hf => ?_)
    refine lv_aload_n hx hb dX7_advance_95 rfl (lv_at hl 0 rfl) ?_
    refine zm_gf C hG 4 hf (Nat.le_of_ble_eq_true rfl) rfl q1447 dX7_advance_96 (fun v96 hf => ?_)
    refine lv_isub hx hb dX7_advance_99 ?_
    refine lv_iconst (v := zi 5) hx hb dX7_advance_100 rfl ?_
    refine lv_icmp_ge (tgt := 121) hx hb dX7_advance_101 (by decide) (fun c101 => ?_) (fun c101 => ?_)
    · have hf := z_t c101 hf
      exact wm_advance_l77_j121 Γ l s2 p e R s m args below meth c Q A _ _ _ _ _ _ C hG ⟨ls, rfl, lv_sub hl [0, 1] rfl⟩ hf kk
    · have hf := z_f c101 hf
      refine lv_bipush (v := zi 32) hx hb dX7_advance_104 (by decide +kernel) ?_
      refine lv_iload_n hx hb dX7_advance_106 rfl (lv_at hl 1 rfl) ?_
      refine lv_imul hx hb dX7_advance_107 ?_
      refine lv_aload_n hx hb dX7_advance_108 rfl (lv_at hl 0 rfl) ?_
      refine lv_aload_n hx hb dX7_advance_109 rfl (lv_at hl 0 rfl) ?_
      refine zm_gf C hG 3 hf (Nat.le_of_ble_eq_true rfl) rfl q1446 dX7_advance_110 (fun v110 hf => ?_)
      refine zm_cvi (As := [.int v110]) (rest := [.int ((zi 32) * s2)]) C hG hf (ctm_byteAt Γ l v110) (lw_V q1626 q1628 qs45 q107 q1629) ytm_byteAt rfl rfl (Nat.le_of_ble_eq_true rfl) (Nat.le_of_ble_eq_true rfl) hl.1 (Nat.le_of_ble_eq_true rfl) dX7_advance_113 (fun v113 S H locs hG hf => ?_)
      refine lv_iadd hx hb dX7_advance_116 ?_
      refine lv_bipush (v := zi 96) hx hb dX7_advance_117 (by decide +kernel) ?_
      refine lv_isub hx hb dX7_advance_119 ?_
      refine z_top hf (fun n120 hf => ?_)
      refine lv_istore_n (lv' := [(2, .int n120), (0, .ref (G_m Γ 0))]) hx hb dX7_advance_120 rfl hl (Nat.le_of_ble_eq_true rfl) rfl (fun ls hl => ?_)
      exact wm_advance_l77_j121 Γ l n120 p e R s m args below meth c Q A _ _ _ _ _ _ C hG ⟨ls, rfl, lv_sub hl [1, 0] rfl⟩ hf kk
theorem wm_advance_l77 (Γ : zG) (l : Launch) : ∀ s : Int32, mRg Γ l yX7_advance cX7_advance 3 none 3 65 (m_advance_l77 s) (fun m => im_advance_l77 Γ m s) (zLE (im_advance_l77 Γ) (em_advance_l77 Γ)) := fun s => wm_advance_l77_b Γ l s
set_option maxHeartbeats 4000000 in
theorem wm_advance_j175 (Γ : zG) (l : Launch) (t0 : Int32) : mRg Γ l yX7_advance cX7_advance 3 none 3 65 (m_advance_j175 t0) (zAt0 3 175 [(0, .ref (G_m Γ 0))] [.int t0, .ref (G_m Γ 0)]) (zLv cX7_advance) := by
  intro p e R s m args below meth c Q A S H locs x S' g C hG hI hf kk
  obtain ⟨ls, rfl, hl⟩ := hI
  obtain ⟨⟨hx, hb, hml, hown, hts⟩, hr, hlk, hK, hR1, hR2⟩ := id C
  have C : zCx Γ p R s m args meth c cX7_advance 3 RX7 none 3 65 := C
  refine zm_pf C hG 5 hf (Nat.le_of_ble_eq_true rfl) rfl rfl (by decide +kernel) q1448 dX7_advance_175 (fun S H locs hG hf => ?_)
  refine lv_goto (tgt := 329) hx hb dX7_advance_178 (by decide) ?_
  obtain ⟨rfl, rfl⟩ := z_p hf
  exact kk _ _ _ ⟨_, _, rfl, dX7_advance_329⟩ hG
set_option maxHeartbeats 4000000 in
theorem wm_advance_j157 (Γ : zG) (l : Launch) (t0 : Int32) : mRg Γ l yX7_advance cX7_advance 3 none 3 65 (m_advance_j157 t0) (zAt0 3 157 [(0, .ref (G_m Γ 0))] [.int t0, .ref (G_m Γ 0)]) (zLv cX7_advance) := by
  intro p e R s m args below meth c Q A S H locs x S' g C hG hI hf kk
  obtain ⟨ls, rfl, hl⟩ := hI
  obtain ⟨⟨hx, hb, hml, hown, hts⟩, hr, hlk, hK, hR1, hR2⟩ := id C
  have C : zCx Γ p R s m args meth c cX7_advance 3 RX7 none 3 65 := C
  refine zm_pf C hG 8 hf (Nat.le_of_ble_eq_true rfl) rfl rfl (by decide +kernel) q1451 dX7_advance_157 (fun S H locs hG hf => ?_)
  refine lv_aload_n hx hb dX7_advance_160 rfl (lv_at hl 0 rfl) ?_
  refine lv_aload_n hx hb dX7_advance_161 rfl (lv_at hl 0 rfl) ?_
  refine zm_gf C hG 8 hf (Nat.le_of_ble_eq_true rfl) rfl q1451 dX7_advance_162 (fun v162 hf => ?_)
  refine lv_bipush (v := zi 99) hx hb dX7_advance_165 (by decide +kernel) ?_
  refine lv_icmp_ne (tgt := 174) hx hb dX7_advance_167 (by decide) (fun c167 => ?_) (fun c167 => ?_)
  · have hf := z_f c167 hf
    refine lv_iconst (v := zi 3) hx hb dX7_advance_174 rfl ?_
    exact wm_advance_j175 Γ l (zi 3) p e R s m args below meth c Q A _ _ _ _ _ _ C hG ⟨ls, rfl, lv_sub hl [0] rfl⟩ hf kk
  · have hf := z_t c167 hf
    refine lv_iconst (v := zi 4) hx hb dX7_advance_170 rfl ?_
    refine lv_goto (tgt := 175) hx hb dX7_advance_171 (by decide) ?_
    exact wm_advance_j175 Γ l (zi 4) p e R s m args below meth c Q A _ _ _ _ _ _ C hG ⟨ls, rfl, lv_sub hl [0] rfl⟩ hf kk
set_option maxHeartbeats 4000000 in
theorem wm_advance (Γ : zG) (l : Launch) : mRg Γ l yX7_advance cX7_advance 3 none 3 65 (m_advance) (zAt0 3 0 (lv_args 0 [.ref (G_m Γ 0)]) []) (zLv cX7_advance) := by
  intro p e R s m args below meth c Q A S H locs x S' g C hG hI hf kk
  obtain ⟨ls, rfl, hl⟩ := hI
  obtain ⟨⟨hx, hb, hml, hown, hts⟩, hr, hlk, hK, hR1, hR2⟩ := id C
  have C : zCx Γ p R s m args meth c cX7_advance 3 RX7 none 3 65 := C
  have hl : lv_has ls 3 [(0, .ref (G_m Γ 0))] := hl
  obtain ⟨e0, S, hlp, hf⟩ := nB_some hf
  refine mRg.loop (wm_advance_l0 Γ l) () p e R s m args below meth c Q A _ _ _ _ _ _ C hG ⟨ls, rfl, lv_sub hl [0] rfl⟩ hlp (fun H locs g hL hG => ?_)
  obtain ⟨ls, rfl, hl⟩ := hL
  have hl : lv_has ls 3 [(0, .ref (G_m Γ 0))] := hl
  refine lv_aload_n hx hb dX7_advance_39 rfl (lv_at hl 0 rfl) ?_
  refine lv_aload_n hx hb dX7_advance_40 rfl (lv_at hl 0 rfl) ?_
  refine zm_gf C hG 3 hf (Nat.le_of_ble_eq_true rfl) rfl q1446 dX7_advance_41 (fun v41 hf => ?_)
  refine zm_pf C hG 4 hf (Nat.le_of_ble_eq_true rfl) rfl rfl (by decide +kernel) q1447 dX7_advance_44 (fun S H locs hG hf => ?_)
  refine lv_aload_n hx hb dX7_advance_47 rfl (lv_at hl 0 rfl) ?_
  refine lv_aload_n hx hb dX7_advance_48 rfl (lv_at hl 0 rfl) ?_
  refine zm_gf C hG 3 hf (Nat.le_of_ble_eq_true rfl) rfl q1446 dX7_advance_49 (fun v49 hf => ?_)
  refine zm_cvi (As := [.int v49]) (rest := []) C hG hf (ctm_byteAt Γ l v49) (lw_V q1626 q1628 qs45 q107 q1629) ytm_byteAt rfl rfl (Nat.le_of_ble_eq_true rfl) (Nat.le_of_ble_eq_true rfl) hl.1 (Nat.le_of_ble_eq_true rfl) dX7_advance_52 (fun v52 S H locs hG hf => ?_)
  refine lv_istore_n (lv' := [(1, .int v52), (0, .ref (G_m Γ 0))]) hx hb dX7_advance_55 rfl hl (Nat.le_of_ble_eq_true rfl) rfl (fun ls hl => ?_)
  refine lv_iload_n hx hb dX7_advance_56 rfl (lv_at hl 0 rfl) ?_
  refine lv_if_ge (tgt := 68) hx hb dX7_advance_57 (by decide) (fun c57 => ?_) (fun c57 => ?_)
  · have hf := z_t c57 hf
    refine lv_iload_n hx hb dX7_advance_68 rfl (lv_at hl 0 rfl) ?_
    refine zm_csi (As := [.int v52]) (rest := []) C hG hf (ctm_isLetter Γ l v52) (lw_S q1630 q1631 q107 q1632) ytm_isLetter rfl rfl (Nat.le_of_ble_eq_true rfl) (Nat.le_of_ble_eq_true rfl) hl.1 (Nat.le_of_ble_eq_true rfl) dX7_advance_69 (fun v69 S H locs hG hf => ?_)
    refine lv_if_eq (tgt := 181) hx hb dX7_advance_72 (by decide) (fun c72 => ?_) (fun c72 => ?_)
    · have hf := z_t c72 hf
      refine lv_iload_n hx hb dX7_advance_181 rfl (lv_at hl 0 rfl) ?_
      refine zm_csi (As := [.int v52]) (rest := []) C hG hf (ctm_isDigit Γ l v52) (lw_S q1645 q1646 q107 q1647) ytm_isDigit rfl rfl (Nat.le_of_ble_eq_true rfl) (Nat.le_of_ble_eq_true rfl) hl.1 (Nat.le_of_ble_eq_true rfl) dX7_advance_182 (fun v182 S H locs hG hf => ?_)
      refine lv_if_eq (tgt := 281) hx hb dX7_advance_185 (by decide) (fun c185 => ?_) (fun c185 => ?_)
      · have hf := z_t c185 hf
        refine lv_aload_n hx hb dX7_advance_281 rfl (lv_at hl 1 rfl) ?_
        refine lv_dup hx hb dX7_advance_282 rfl ?_
        refine zm_gf C hG 3 hf (Nat.le_of_ble_eq_true rfl) rfl q1446 dX7_advance_283 (fun v283 hf => ?_)
        refine lv_iconst (v := zi 1) hx hb dX7_advance_286 rfl ?_
        refine lv_iadd hx hb dX7_advance_287 ?_
        refine zm_pf C hG 3 hf (Nat.le_of_ble_eq_true rfl) rfl rfl (by decide +kernel) q1446 dX7_advance_288 (fun S H locs hG hf => ?_)
        refine lv_aload_n hx hb dX7_advance_291 rfl (lv_at hl 1 rfl) ?_
        refine lv_iload_n hx hb dX7_advance_292 rfl (lv_at hl 0 rfl) ?_
        refine zm_pf C hG 7 hf (Nat.le_of_ble_eq_true rfl) rfl rfl (by decide +kernel) q1450 dX7_advance_293 (fun S H locs hG hf => ?_)
        refine lv_aload_n hx hb dX7_advance_296 rfl (lv_at hl 1 rfl) ?_
        refine lv_iload_n hx hb dX7_advance_297 rfl (lv_at hl 0 rfl) ?_
        refine lv_bipush (v := zi 40) hx hb dX7_advance_298 (by decide +kernel) ?_
        refine lv_icmp_eq (tgt := 321) hx hb dX7_advance_300 (by decide) (fun c300 => ?_) (fun c300 => ?_)
        · have hf := z_t c300 hf
          exact wm_advance_j321 Γ l p e R s m args below meth c Q A _ _ _ _ _ _ C hG ⟨ls, rfl, lv_sub hl [1] rfl⟩ hf kk
        · have hf := z_f c300 hf
          refine lv_iload_n hx hb dX7_advance_303 rfl (lv_at hl 0 rfl) ?_
          refine lv_bipush (v := zi 41) hx hb dX7_advance_304 (by decide +kernel) ?_
          refine lv_icmp_eq (tgt := 321) hx hb dX7_advance_306 (by decide) (fun c306 => ?_) (fun c306 => ?_)
          · have hf := z_t c306 hf
            exact wm_advance_j321 Γ l p e R s m args below meth c Q A _ _ _ _ _ _ C hG ⟨ls, rfl, lv_sub hl [1] rfl⟩ hf kk
          · have hf := z_f c306 hf
            refine lv_iload_n hx hb dX7_advance_309 rfl (lv_at hl 0 rfl) ?_
            refine lv_bipush (v := zi 59) hx hb dX7_advance_310 (by decide +kernel) ?_
            refine lv_icmp_eq (tgt := 321) hx hb dX7_advance_312 (by decide) (fun c312 => ?_) (fun c312 => ?_)
            · have hf := z_t c312 hf
              exact wm_advance_j321 Γ l p e R s m args below meth c Q A _ _ _ _ _ _ C hG ⟨ls, rfl, lv_sub hl [1] rfl⟩ hf kk
            · have hf := z_f c312 hf
              refine lv_iload_n hx hb dX7_advance_315 rfl (lv_at hl 0 rfl) ?_
              refine lv_bipush (v := zi 60) hx hb dX7_advance_316 (by decide +kernel) ?_
              refine lv_icmp_ne (tgt := 325) hx hb dX7_advance_318 (by decide) (fun c318 => ?_) (fun c318 => ?_)
              · have hf := z_f c318 hf
                refine lv_iconst (v := zi 4) hx hb dX7_advance_325 rfl ?_
                exact wm_advance_j326 Γ l (zi 4) p e R s m args below meth c Q A _ _ _ _ _ _ C hG ⟨ls, rfl, lv_sub hl [1] rfl⟩ hf kk
              · have hf := z_t c318 hf
                exact wm_advance_j321 Γ l p e R s m args below meth c Q A _ _ _ _ _ _ C hG ⟨ls, rfl, lv_sub hl [1] rfl⟩ hf kk
      · have hf := z_f c185 hf
        refine lv_aload_n hx hb dX7_advance_188 rfl (lv_at hl 1 rfl) ?_
        refine lv_iconst (v := zi 0) hx hb dX7_advance_189 rfl ?_
        refine zm_pf C hG 6 hf (Nat.le_of_ble_eq_true rfl) rfl rfl (by decide +kernel) q1449 dX7_advance_190 (fun S H locs hG hf => ?_)
        obtain ⟨e193, S, hlp, hf⟩ := nB_some hf
        refine mRg.loop (wm_advance_l193 Γ l) () p e R s m args below meth c Q A _ _ _ _ _ _ C hG ⟨ls, rfl, lv_sub hl [1] rfl⟩ hlp (fun H locs g hL hG => ?_)
        obtain ⟨ls, rfl, hl⟩ := hL
        have hl : lv_has ls 3 [(0, .ref (G_m Γ 0))] := hl
        refine lv_aload_n hx hb dX7_advance_256 rfl (lv_at hl 0 rfl) ?_
        refine lv_aload_n hx hb dX7_advance_257 rfl (lv_at hl 0 rfl) ?_
        refine zm_gf C hG 3 hf (Nat.le_of_ble_eq_true rfl) rfl q1446 dX7_advance_258 (fun v258 hf => ?_)
        refine lv_aload_n hx hb dX7_advance_261 rfl (lv_at hl 0 rfl) ?_
        refine zm_gf C hG 4 hf (Nat.le_of_ble_eq_true rfl) rfl q1447 dX7_advance_262 (fun v262 hf => ?_)
        refine lv_isub hx hb dX7_advance_265 ?_
        refine lv_iconst (v := zi 4) hx hb dX7_advance_266 rfl ?_
        refine lv_icmp_le (tgt := 274) hx hb dX7_advance_267 (by decide) (fun c267 => ?_) (fun c267 => ?_)
        · have hf := z_t c267 hf
          refine lv_iconst (v := zi 1) hx hb dX7_advance_274 rfl ?_
          exact wm_advance_j275 Γ l (zi 1) p e R s m args below meth c Q A _ _ _ _ _ _ C hG ⟨ls, rfl, lv_sub hl [0] rfl⟩ hf kk
        · have hf := z_f c267 hf
          refine lv_iconst (v := zi 4) hx hb dX7_advance_270 rfl ?_
          refine lv_goto (tgt := 275) hx hb dX7_advance_271 (by decide) ?_
          exact wm_advance_j275 Γ l (zi 4) p e R s m args below meth c Q A _ _ _ _ _ _ C hG ⟨ls, rfl, lv_sub hl [0] rfl⟩ hf kk
    · have hf := z_f c72 hf
      refine lv_iconst (v := zi 0) hx hb dX7_advance_75 rfl ?_
      refine lv_istore_n (lv' := [(2, .int (zi 0)), (1, .int v52), (0, .ref (G_m Γ 0))]) hx hb dX7_advance_76 rfl hl (Nat.le_of_ble_eq_true rfl) rfl (fun ls hl => ?_)
      obtain ⟨e77, S, hlp, hf⟩ := nB_some hf
      refine mRg.loop (wm_advance_l77 Γ l) (zi 0) p e R s m args below meth c Q A _ _ _ _ _ _ C hG ⟨ls, rfl, lv_sub hl [2, 0] rfl⟩ hlp (fun H locs g hL hG => ?_)
      obtain ⟨ls, rfl, hl⟩ := hL
      have hl : lv_has ls 3 [(0, .ref (G_m Γ 0)), (2, .int e77)] := hl
      refine lv_aload_n hx hb dX7_advance_134 rfl (lv_at hl 0 rfl) ?_
      refine lv_aload_n hx hb dX7_advance_135 rfl (lv_at hl 0 rfl) ?_
      refine zm_gf C hG 3 hf (Nat.le_of_ble_eq_true rfl) rfl q1446 dX7_advance_136 (fun v136 hf => ?_)
      refine lv_aload_n hx hb dX7_advance_139 rfl (lv_at hl 0 rfl) ?_
      refine zm_gf C hG 4 hf (Nat.le_of_ble_eq_true rfl) rfl q1447 dX7_advance_140 (fun v140 hf => ?_)
      refine lv_isub hx hb dX7_advance_143 ?_
      refine lv_iconst (v := zi 4) hx hb dX7_advance_144 rfl ?_
      refine lv_icmp_le (tgt := 153) hx hb dX7_advance_145 (by decide) (fun c145 => ?_) (fun c145 => ?_)
      · have hf := z_t c145 hf
        refine lv_iload_n hx hb dX7_advance_153 rfl (lv_at hl 1 rfl) ?_
        refine zm_csi (As := [.int e77]) (rest := [.ref (G_m Γ 0)]) C hG hf (ctm_wordOf Γ l e77) (lw_S q1633 q1634 q107 q1635) ytm_wordOf rfl rfl (Nat.le_of_ble_eq_true rfl) (Nat.le_of_ble_eq_true rfl) hl.1 (Nat.le_of_ble_eq_true rfl) dX7_advance_154 (fun v154 S H locs hG hf => ?_)
        exact wm_advance_j157 Γ l v154 p e R s m args below meth c Q A _ _ _ _ _ _ C hG ⟨ls, rfl, lv_sub hl [0] rfl⟩ hf kk
      · have hf := z_f c145 hf
        refine lv_bipush (v := zi 99) hx hb dX7_advance_148 (by decide +kernel) ?_
        refine lv_goto (tgt := 157) hx hb dX7_advance_150 (by decide) ?_
        exact wm_advance_j157 Γ l (zi 99) p e R s m args below meth c Q A _ _ _ _ _ _ C hG ⟨ls, rfl, lv_sub hl [0] rfl⟩ hf kk
  · have hf := z_f c57 hf
    refine lv_aload_n hx hb dX7_advance_60 rfl (lv_at hl 1 rfl) ?_
    refine lv_iconst (v := zi 0) hx hb dX7_advance_61 rfl ?_
    refine zm_pf C hG 5 hf (Nat.le_of_ble_eq_true rfl) rfl rfl (by decide +kernel) q1448 dX7_advance_62 (fun S H locs hG hf => ?_)
    refine lv_goto (tgt := 329) hx hb dX7_advance_65 (by decide) ?_
    obtain ⟨rfl, rfl⟩ := z_p hf
    exact kk _ _ _ ⟨_, _, rfl, dX7_advance_329⟩ hG
theorem ctm_advance (Γ : zG) (l : Launch) : mCt Γ l yX7_advance (ws_ yX7_advance cX7_advance 3 none) 3 65 [.ref (G_m Γ 0)] (m_advance) zov := mCt.mkv (by decide +kernel) (Nat.le_of_ble_eq_true rfl) (wm_advance Γ l)
theorem ytm_advance : yX7_advance.cls = RX7 ∧ yX7_advance.cls ≠ "java/lang/invoke/MethodHandle" ∧ yX7_advance.cls ≠ "java/lang/invoke/VarHandle" ∧ (parseMethodDescriptor yX7_advance.desc).map (fun d => d.parameters.length) = some 0 := by decide +kernel
set_option maxHeartbeats 4000000 in
theorem wm_ends (Γ : zG) (l : Launch) : mRg Γ l yX7_ends cX7_ends 1 none 0 0 (m_ends) (zAt0 1 0 (lv_args 0 [.ref (G_m Γ 0)]) []) (zLv cX7_ends) := by
  intro p e R s m args below meth c Q A S H locs x S' g C hG hI hf kk
  obtain ⟨ls, rfl, hl⟩ := hI
  obtain ⟨⟨hx, hb, hml, hown, hts⟩, hr, hlk, hK, hR1, hR2⟩ := id C
  have C : zCx Γ p R s m args meth c cX7_ends 1 RX7 none 0 0 := C
  have hl : lv_has ls 1 [(0, .ref (G_m Γ 0))] := hl
  refine lv_aload_n hx hb dX7_ends_0 rfl (lv_at hl 0 rfl) ?_
  refine zm_gf C hG 9 hf (Nat.le_of_ble_eq_true rfl) rfl q1452 dX7_ends_1 (fun v1 hf => ?_)
  refine lv_if_eq (tgt := 8) hx hb dX7_ends_4 (by decide) (fun c4 => ?_) (fun c4 => ?_)
  · have hf := z_t c4 hf
    refine lv_aload_n hx hb dX7_ends_8 rfl (lv_at hl 0 rfl) ?_
    refine lv_iconst (v := zi 1) hx hb dX7_ends_9 rfl ?_
    refine zm_pz C hG 9 hf (Nat.le_of_ble_eq_true rfl) rfl rfl (by decide +kernel) q1452 dX7_ends_10 (fun S H locs hG hf => ?_)
    refine lv_aload_n hx hb dX7_ends_13 rfl (lv_at hl 0 rfl) ?_
    refine zm_ga C hG 0 (Nat.le_of_ble_eq_true rfl) (by decide) q1443 dX7_ends_14 ?_
    refine lv_bipush (v := zi 7) hx hb dX7_ends_17 (by decide +kernel) ?_
    refine lv_iconst (v := zi 1) hx hb dX7_ends_19 rfl ?_
    refine zm_as C hG 0 hf (Nat.le_of_ble_eq_true rfl) rfl dX7_ends_20 (fun S H locs hG hf => ?_)
    refine lv_aload_n hx hb dX7_ends_21 rfl (lv_at hl 0 rfl) ?_
    refine zm_ga C hG 0 (Nat.le_of_ble_eq_true rfl) (by decide) q1443 dX7_ends_22 ?_
    refine lv_bipush (v := zi 8) hx hb dX7_ends_25 (by decide +kernel) ?_
    refine lv_aload_n hx hb dX7_ends_27 rfl (lv_at hl 0 rfl) ?_
    refine zm_gf C hG 4 hf (Nat.le_of_ble_eq_true rfl) rfl q1447 dX7_ends_28 (fun v28 hf => ?_)
    refine zm_as C hG 0 hf (Nat.le_of_ble_eq_true rfl) rfl dX7_ends_31 (fun S H locs hG hf => ?_)
    obtain ⟨rfl, rfl⟩ := z_p hf
    exact kk _ _ _ ⟨_, _, rfl, dX7_ends_32⟩ hG
  · have hf := z_f c4 hf
    obtain ⟨rfl, rfl⟩ := z_p hf
    exact kk _ _ _ ⟨_, _, rfl, dX7_ends_7⟩ hG
theorem ctm_ends (Γ : zG) (l : Launch) : mCt Γ l yX7_ends (ws_ yX7_ends cX7_ends 1 none) 0 0 [.ref (G_m Γ 0)] (m_ends) zov := mCt.mkv (by decide +kernel) (Nat.le_of_ble_eq_true rfl) (wm_ends Γ l)
theorem ytm_ends : yX7_ends.cls = RX7 ∧ yX7_ends.cls ≠ "java/lang/invoke/MethodHandle" ∧ yX7_ends.cls ≠ "java/lang/invoke/VarHandle" ∧ (parseMethodDescriptor yX7_ends.desc).map (fun d => d.parameters.length) = some 0 := by decide +kernel
set_option maxHeartbeats 4000000 in
theorem wm_also_j51 (Γ : zG) (l : Launch) (b1 : Int32) (b2 : Int32) : mRg Γ l yX7_also cX7_also 3 none 0 0 (m_also_j51 b1 b2) (zAt0 3 51 [(0, .ref (G_m Γ 0)), (1, .int b1), (2, .int b2)] []) (zLv cX7_also) := by
  intro p e R s m args below meth c Q A S H locs x S' g C hG hI hf kk
  obtain ⟨ls, rfl, hl⟩ := hI
  obtain ⟨⟨hx, hb, hml, hown, hts⟩, hr, hlk, hK, hR1, hR2⟩ := id C
  have C : zCx Γ p R s m args meth c cX7_also 3 RX7 none 0 0 := C
  refine lv_aload_n hx hb dX7_also_51 rfl (lv_at hl 0 rfl) ?_
  refine zm_ga C hG 0 (Nat.le_of_ble_eq_true rfl) (by decide) q1443 dX7_also_52 ?_
  refine lv_bipush (v := zi 7) hx hb dX7_also_55 (by decide +kernel) ?_
  refine lv_iload_n hx hb dX7_also_57 rfl (lv_at hl 1 rfl) ?_
  refine zm_as C hG 0 hf (Nat.le_of_ble_eq_true rfl) rfl dX7_also_58 (fun S H locs hG hf => ?_)
  refine lv_aload_n hx hb dX7_also_59 rfl (lv_at hl 0 rfl) ?_
  refine zm_ga C hG 0 (Nat.le_of_ble_eq_true rfl) (by decide) q1443 dX7_also_60 ?_
  refine lv_bipush (v := zi 8) hx hb dX7_also_63 (by decide +kernel) ?_
  refine lv_iload_n hx hb dX7_also_65 rfl (lv_at hl 2 rfl) ?_
  refine zm_as C hG 0 hf (Nat.le_of_ble_eq_true rfl) rfl dX7_also_66 (fun S H locs hG hf => ?_)
  obtain ⟨rfl, rfl⟩ := z_p hf
  exact kk _ _ _ ⟨_, _, rfl, dX7_also_67⟩ hG
set_option maxHeartbeats 4000000 in
theorem wm_also (Γ : zG) (l : Launch) (a1 : Int32) (a2 : Int32) : mRg Γ l yX7_also cX7_also 3 none 0 0 (m_also a1 a2) (zAt0 3 0 (lv_args 0 [.ref (G_m Γ 0), .int a1, .int a2]) []) (zLv cX7_also) := by
  intro p e R s m args below meth c Q A S H locs x S' g C hG hI hf kk
  obtain ⟨ls, rfl, hl⟩ := hI
  obtain ⟨⟨hx, hb, hml, hown, hts⟩, hr, hlk, hK, hR1, hR2⟩ := id C
  have C : zCx Γ p R s m args meth c cX7_also 3 RX7 none 0 0 := C
  have hl : lv_has ls 3 [(0, .ref (G_m Γ 0)), (1, .int a1), (2, .int a2)] := hl
  refine lv_aload_n hx hb dX7_also_0 rfl (lv_at hl 0 rfl) ?_
  refine zm_gf C hG 9 hf (Nat.le_of_ble_eq_true rfl) rfl q1452 dX7_also_1 (fun v1 hf => ?_)
  refine lv_if_ne (tgt := 50) hx hb dX7_also_4 (by decide) (fun c4 => ?_) (fun c4 => ?_)
  · have hf := z_f c4 hf
    obtain ⟨rfl, rfl⟩ := z_p hf
    exact kk _ _ _ ⟨_, _, rfl, dX7_also_50⟩ hG
  · have hf := z_t c4 hf
    refine lv_aload_n hx hb dX7_also_7 rfl (lv_at hl 0 rfl) ?_
    refine zm_ga C hG 0 (Nat.le_of_ble_eq_true rfl) (by decide) q1443 dX7_also_8 ?_
    refine lv_bipush (v := zi 7) hx hb dX7_also_11 (by decide +kernel) ?_
    refine zm_al C hG 0 hf (Nat.le_of_ble_eq_true rfl) rfl dX7_also_13 (fun v13 hf => ?_)
    refine lv_if_eq (tgt := 51) hx hb dX7_also_14 (by decide) (fun c14 => ?_) (fun c14 => ?_)
    · have hf := z_t c14 hf
      exact wm_also_j51 Γ l a1 a2 p e R s m args below meth c Q A _ _ _ _ _ _ C hG ⟨ls, rfl, lv_sub hl [0, 1, 2] rfl⟩ hf kk
    · have hf := z_f c14 hf
      refine lv_aload_n hx hb dX7_also_17 rfl (lv_at hl 0 rfl) ?_
      refine zm_ga C hG 0 (Nat.le_of_ble_eq_true rfl) (by decide) q1443 dX7_also_18 ?_
      refine lv_bipush (v := zi 8) hx hb dX7_also_21 (by decide +kernel) ?_
      refine zm_al C hG 0 hf (Nat.le_of_ble_eq_true rfl) rfl dX7_also_23 (fun v23 hf => ?_)
      refine lv_iload_n hx hb dX7_also_24 rfl (lv_at hl 2 rfl) ?_
      refine lv_icmp_lt (tgt := 50) hx hb dX7_also_25 (by decide) (fun c25 => ?_) (fun c25 => ?_)
      · have hf := z_t c25 hf
        obtain ⟨rfl, rfl⟩ := z_p hf
        exact kk _ _ _ ⟨_, _, rfl, dX7_also_50⟩ hG
      · have hf := z_f c25 hf
        refine lv_aload_n hx hb dX7_also_28 rfl (lv_at hl 0 rfl) ?_
        refine zm_ga C hG 0 (Nat.le_of_ble_eq_true rfl) (by decide) q1443 dX7_also_29 ?_
        refine lv_bipush (v := zi 8) hx hb dX7_also_32 (by decide +kernel) ?_
        refine zm_al C hG 0 hf (Nat.le_of_ble_eq_true rfl) rfl dX7_also_34 (fun v34 hf => ?_)
        refine lv_iload_n hx hb dX7_also_35 rfl (lv_at hl 2 rfl) ?_
        refine lv_icmp_ne (tgt := 51) hx hb dX7_also_36 (by decide) (fun c36 => ?_) (fun c36 => ?_)
        · have hf := z_f c36 hf
          exact wm_also_j51 Γ l a1 a2 p e R s m args below meth c Q A _ _ _ _ _ _ C hG ⟨ls, rfl, lv_sub hl [0, 1, 2] rfl⟩ hf kk
        · have hf := z_t c36 hf
          refine lv_aload_n hx hb dX7_also_39 rfl (lv_at hl 0 rfl) ?_
          refine zm_ga C hG 0 (Nat.le_of_ble_eq_true rfl) (by decide) q1443 dX7_also_40 ?_
          refine lv_bipush (v := zi 7) hx hb dX7_also_43 (by decide +kernel) ?_
          refine zm_al C hG 0 hf (Nat.le_of_ble_eq_true rfl) rfl dX7_also_45 (fun v45 hf => ?_)
          refine lv_iload_n hx hb dX7_also_46 rfl (lv_at hl 1 rfl) ?_
          refine lv_icmp_gt (tgt := 51) hx hb dX7_also_47 (by decide) (fun c47 => ?_) (fun c47 => ?_)
          · have hf := z_t c47 hf
            exact wm_also_j51 Γ l a1 a2 p e R s m args below meth c Q A _ _ _ _ _ _ C hG ⟨ls, rfl, lv_sub hl [0, 1, 2] rfl⟩ hf kk
          · have hf := z_f c47 hf
            obtain ⟨rfl, rfl⟩ := z_p hf
            exact kk _ _ _ ⟨_, _, rfl, dX7_also_50⟩ hG
theorem ctm_also (Γ : zG) (l : Launch) (a1 : Int32) (a2 : Int32) : mCt Γ l yX7_also (ws_ yX7_also cX7_also 3 none) 0 0 [.ref (G_m Γ 0), .int a1, .int a2] (m_also a1 a2) zov := mCt.mkv (by decide +kernel) (Nat.le_of_ble_eq_true rfl) (wm_also Γ l a1 a2)
theorem ytm_also : yX7_also.cls = RX7 ∧ yX7_also.cls ≠ "java/lang/invoke/MethodHandle" ∧ yX7_also.cls ≠ "java/lang/invoke/VarHandle" ∧ (parseMethodDescriptor yX7_also.desc).map (fun d => d.parameters.length) = some 2 := by decide +kernel
set_option maxHeartbeats 4000000 in
theorem wm_numbered_j15 (Γ : zG) (l : Launch) : mRg Γ l yX7_numbered cX7_numbered 3 (some .int) 4 87 (m_numbered_j15) (zAt0 3 15 [(0, .ref (G_m Γ 0))] []) (zLi cX7_numbered) := by
  intro p e R s m args below meth c Q A S H locs x S' g C hG hI hf kk
  obtain ⟨ls, rfl, hl⟩ := hI
  obtain ⟨⟨hx, hb, hml, hown, hts⟩, hr, hlk, hK, hR1, hR2⟩ := id C
  have C : zCx Γ p R s m args meth c cX7_numbered 3 RX7 (some .int) 4 87 := C
  refine lv_aload_n hx hb dX7_numbered_15 rfl (lv_at hl 0 rfl) ?_
  refine zm_cvv (As := []) (rest := []) C hG hf (ctm_ends Γ l) (lw_V q1652 q1654 qs47 q107 q1655) ytm_ends rfl rfl (Nat.le_of_ble_eq_true rfl) (Nat.le_of_ble_eq_true rfl) hl.1 (Nat.le_of_ble_eq_true rfl) dX7_numbered_16 (fun S H locs hG hf => ?_)
  refine lv_iconst (v := zi 0) hx hb dX7_numbered_19 rfl ?_
  obtain ⟨rfl, rfl⟩ := z_p hf
  exact kk _ _ _ ⟨_, _, rfl, dX7_numbered_20⟩ hG
set_option maxHeartbeats 4000000 in
theorem wm_numbered_j40 (Γ : zG) (l : Launch) (b2 : Int32) : mRg Γ l yX7_numbered cX7_numbered 3 (some .int) 4 87 (m_numbered_j40 b2) (zAt0 3 40 [(0, .ref (G_m Γ 0)), (2, .int b2)] []) (zLi cX7_numbered) := by
  intro p e R s m args below meth c Q A S H locs x S' g C hG hI hf kk
  obtain ⟨ls, rfl, hl⟩ := hI
  obtain ⟨⟨hx, hb, hml, hown, hts⟩, hr, hlk, hK, hR1, hR2⟩ := id C
  have C : zCx Γ p R s m args meth c cX7_numbered 3 RX7 (some .int) 4 87 := C
  refine lv_aload_n hx hb dX7_numbered_40 rfl (lv_at hl 0 rfl) ?_
  refine zm_cvv (As := []) (rest := []) C hG hf (ctm_advance Γ l) (lw_V q1622 q1624 qs44 q107 q1625) ytm_advance rfl rfl (Nat.le_of_ble_eq_true rfl) (Nat.le_of_ble_eq_true rfl) hl.1 (Nat.le_of_ble_eq_true rfl) dX7_numbered_41 (fun S H locs hG hf => ?_)
  refine lv_iload_n hx hb dX7_numbered_44 rfl (lv_at hl 1 rfl) ?_
  obtain ⟨rfl, rfl⟩ := z_p hf
  exact kk _ _ _ ⟨_, _, rfl, dX7_numbered_45⟩ hG
set_option maxHeartbeats 4000000 in
theorem wm_numbered (Γ : zG) (l : Launch) (a1 : Int32) : mRg Γ l yX7_numbered cX7_numbered 3 (some .int) 4 87 (m_numbered a1) (zAt0 3 0 (lv_args 0 [.ref (G_m Γ 0), .int a1]) []) (zLi cX7_numbered) := by
  intro p e R s m args below meth c Q A S H locs x S' g C hG hI hf kk
  obtain ⟨ls, rfl, hl⟩ := hI
  obtain ⟨⟨hx, hb, hml, hown, hts⟩, hr, hlk, hK, hR1, hR2⟩ := id C
  have C : zCx Γ p R s m args meth c cX7_numbered 3 RX7 (some .int) 4 87 := C
  have hl : lv_has ls 3 [(0, .ref (G_m Γ 0)), (1, .int a1)] := hl
  refine lv_aload_n hx hb dX7_numbered_0 rfl (lv_at hl 0 rfl) ?_
  refine zm_gf C hG 9 hf (Nat.le_of_ble_eq_true rfl) rfl q1452 dX7_numbered_1 (fun v1 hf => ?_)
  refine lv_if_ne (tgt := 15) hx hb dX7_numbered_4 (by decide) (fun c4 => ?_) (fun c4 => ?_)
  · have hf := z_f c4 hf
    exact wm_numbered_j15 Γ l p e R s m args below meth c Q A _ _ _ _ _ _ C hG ⟨ls, rfl, lv_sub hl [0] rfl⟩ hf kk
  · have hf := z_t c4 hf
    refine lv_aload_n hx hb dX7_numbered_7 rfl (lv_at hl 0 rfl) ?_
    refine zm_gf C hG 5 hf (Nat.le_of_ble_eq_true rfl) rfl q1448 dX7_numbered_8 (fun v8 hf => ?_)
    refine lv_iconst (v := zi 1) hx hb dX7_numbered_11 rfl ?_
    refine lv_icmp_eq (tgt := 21) hx hb dX7_numbered_12 (by decide) (fun c12 => ?_) (fun c12 => ?_)
    · have hf := z_t c12 hf
      refine lv_aload_n hx hb dX7_numbered_21 rfl (lv_at hl 0 rfl) ?_
      refine zm_gf C hG 6 hf (Nat.le_of_ble_eq_true rfl) rfl q1449 dX7_numbered_22 (fun v22 hf => ?_)
      refine lv_istore_n (lv' := [(2, .int v22), (0, .ref (G_m Γ 0)), (1, .int a1)]) hx hb dX7_numbered_25 rfl hl (Nat.le_of_ble_eq_true rfl) rfl (fun ls hl => ?_)
      refine lv_iload_n hx hb dX7_numbered_26 rfl (lv_at hl 0 rfl) ?_
      refine lv_iload_n hx hb dX7_numbered_27 rfl (lv_at hl 2 rfl) ?_
      refine lv_icmp_le (tgt := 40) hx hb dX7_numbered_28 (by decide) (fun c28 => ?_) (fun c28 => ?_)
      · have hf := z_t c28 hf
        exact wm_numbered_j40 Γ l v22 p e R s m args below meth c Q A _ _ _ _ _ _ C hG ⟨ls, rfl, lv_sub hl [1, 0] rfl⟩ hf kk
      · have hf := z_f c28 hf
        refine lv_aload_n hx hb dX7_numbered_31 rfl (lv_at hl 1 rfl) ?_
        refine lv_iconst (v := zi 2) hx hb dX7_numbered_32 rfl ?_
        refine lv_aload_n hx hb dX7_numbered_33 rfl (lv_at hl 1 rfl) ?_
        refine zm_gf C hG 4 hf (Nat.le_of_ble_eq_true rfl) rfl q1447 dX7_numbered_34 (fun v34 hf => ?_)
        refine zm_cvv (As := [.int (zi 2), .int v34]) (rest := []) C hG hf (ctm_also Γ l (zi 2) v34) (lw_V q1656 q1658 qs48 q107 q1659) ytm_also rfl rfl (Nat.le_of_ble_eq_true rfl) (Nat.le_of_ble_eq_true rfl) hl.1 (Nat.le_of_ble_eq_true rfl) dX7_numbered_37 (fun S H locs hG hf => ?_)
        exact wm_numbered_j40 Γ l v22 p e R s m args below meth c Q A _ _ _ _ _ _ C hG ⟨ls, rfl, lv_sub hl [1, 0] rfl⟩ hf kk
    · have hf := z_f c12 hf
      exact wm_numbered_j15 Γ l p e R s m args below meth c Q A _ _ _ _ _ _ C hG ⟨ls, rfl, lv_sub hl [0] rfl⟩ hf kk
theorem ctm_numbered (Γ : zG) (l : Launch) (a1 : Int32) : mCt Γ l yX7_numbered (ws_ yX7_numbered cX7_numbered 3 (some .int)) 4 87 [.ref (G_m Γ 0), .int a1] (m_numbered a1) zoi := mCt.mki (by decide +kernel) (Nat.le_of_ble_eq_true rfl) (wm_numbered Γ l a1)
theorem ytm_numbered : yX7_numbered.cls = RX7 ∧ yX7_numbered.cls ≠ "java/lang/invoke/MethodHandle" ∧ yX7_numbered.cls ≠ "java/lang/invoke/VarHandle" ∧ (parseMethodDescriptor yX7_numbered.desc).map (fun d => d.parameters.length) = some 1 := by decide +kernel
set_option maxHeartbeats 4000000 in
theorem wm_isWord (Γ : zG) (l : Launch) (a1 : Int32) : mRg Γ l yX7_isWord cX7_isWord 2 (some .boolean) 0 0 (m_isWord a1) (zAt0 2 0 (lv_args 0 [.ref (G_m Γ 0), .int a1]) []) (zLz cX7_isWord) := by
  intro p e R s m args below meth c Q A S H locs x S' g C hG hI hf kk
  obtain ⟨ls, rfl, hl⟩ := hI
  obtain ⟨⟨hx, hb, hml, hown, hts⟩, hr, hlk, hK, hR1, hR2⟩ := id C
  have C : zCx Γ p R s m args meth c cX7_isWord 2 RX7 (some .boolean) 0 0 := C
  have hl : lv_has ls 2 [(0, .ref (G_m Γ 0)), (1, .int a1)] := hl
  refine lv_aload_n hx hb dX7_isWord_0 rfl (lv_at hl 0 rfl) ?_
  refine zm_gf C hG 9 hf (Nat.le_of_ble_eq_true rfl) rfl q1452 dX7_isWord_1 (fun v1 hf => ?_)
  refine lv_if_ne (tgt := 27) hx hb dX7_isWord_4 (by decide) (fun c4 => ?_) (fun c4 => ?_)
  · have hf := z_f c4 hf
    refine lv_iconst (v := zi 0) hx hb dX7_isWord_27 rfl ?_
    obtain ⟨rfl, rfl⟩ := z_p hf
    exact kk _ _ _ ⟨_, _, rfl, dX7_isWord_28, Or.inl rfl⟩ hG
  · have hf := z_t c4 hf
    refine lv_aload_n hx hb dX7_isWord_7 rfl (lv_at hl 0 rfl) ?_
    refine zm_gf C hG 5 hf (Nat.le_of_ble_eq_true rfl) rfl q1448 dX7_isWord_8 (fun v8 hf => ?_)
    refine lv_iconst (v := zi 3) hx hb dX7_isWord_11 rfl ?_
    refine lv_icmp_ne (tgt := 27) hx hb dX7_isWord_12 (by decide) (fun c12 => ?_) (fun c12 => ?_)
    · have hf := z_f c12 hf
      refine lv_iconst (v := zi 0) hx hb dX7_isWord_27 rfl ?_
      obtain ⟨rfl, rfl⟩ := z_p hf
      exact kk _ _ _ ⟨_, _, rfl, dX7_isWord_28, Or.inl rfl⟩ hG
    · have hf := z_t c12 hf
      refine lv_aload_n hx hb dX7_isWord_15 rfl (lv_at hl 0 rfl) ?_
      refine zm_gf C hG 8 hf (Nat.le_of_ble_eq_true rfl) rfl q1451 dX7_isWord_16 (fun v16 hf => ?_)
      refine lv_iload_n hx hb dX7_isWord_19 rfl (lv_at hl 1 rfl) ?_
      refine lv_icmp_ne (tgt := 27) hx hb dX7_isWord_20 (by decide) (fun c20 => ?_) (fun c20 => ?_)
      · have hf := z_f c20 hf
        refine lv_iconst (v := zi 0) hx hb dX7_isWord_27 rfl ?_
        obtain ⟨rfl, rfl⟩ := z_p hf
        exact kk _ _ _ ⟨_, _, rfl, dX7_isWord_28, Or.inl rfl⟩ hG
      · have hf := z_t c20 hf
        refine lv_iconst (v := zi 1) hx hb dX7_isWord_23 rfl ?_
        refine lv_goto (tgt := 28) hx hb dX7_isWord_24 (by decide) ?_
        obtain ⟨rfl, rfl⟩ := z_p hf
        exact kk _ _ _ ⟨_, _, rfl, dX7_isWord_28, Or.inr rfl⟩ hG
theorem ctm_isWord (Γ : zG) (l : Launch) (a1 : Int32) : mCt Γ l yX7_isWord (ws_ yX7_isWord cX7_isWord 2 (some .boolean)) 0 0 [.ref (G_m Γ 0), .int a1] (m_isWord a1) zoi := mCt.mkz (by decide +kernel) (Nat.le_of_ble_eq_true rfl) (wm_isWord Γ l a1)
theorem ytm_isWord : yX7_isWord.cls = RX7 ∧ yX7_isWord.cls ≠ "java/lang/invoke/MethodHandle" ∧ yX7_isWord.cls ≠ "java/lang/invoke/VarHandle" ∧ (parseMethodDescriptor yX7_isWord.desc).map (fun d => d.parameters.length) = some 1 := by decide +kernel
set_option maxHeartbeats 4000000 in
theorem wm_isSign (Γ : zG) (l : Launch) (a1 : Int32) : mRg Γ l yX7_isSign cX7_isSign 2 (some .boolean) 0 0 (m_isSign a1) (zAt0 2 0 (lv_args 0 [.ref (G_m Γ 0), .int a1]) []) (zLz cX7_isSign) := by
  intro p e R s m args below meth c Q A S H locs x S' g C hG hI hf kk
  obtain ⟨ls, rfl, hl⟩ := hI
  obtain ⟨⟨hx, hb, hml, hown, hts⟩, hr, hlk, hK, hR1, hR2⟩ := id C
  have C : zCx Γ p R s m args meth c cX7_isSign 2 RX7 (some .boolean) 0 0 := C
  have hl : lv_has ls 2 [(0, .ref (G_m Γ 0)), (1, .int a1)] := hl
  refine lv_aload_n hx hb dX7_isSign_0 rfl (lv_at hl 0 rfl) ?_
  refine zm_gf C hG 9 hf (Nat.le_of_ble_eq_true rfl) rfl q1452 dX7_isSign_1 (fun v1 hf => ?_)
  refine lv_if_ne (tgt := 27) hx hb dX7_isSign_4 (by decide) (fun c4 => ?_) (fun c4 => ?_)
  · have hf := z_f c4 hf
    refine lv_iconst (v := zi 0) hx hb dX7_isSign_27 rfl ?_
    obtain ⟨rfl, rfl⟩ := z_p hf
    exact kk _ _ _ ⟨_, _, rfl, dX7_isSign_28, Or.inl rfl⟩ hG
  · have hf := z_t c4 hf
    refine lv_aload_n hx hb dX7_isSign_7 rfl (lv_at hl 0 rfl) ?_
    refine zm_gf C hG 5 hf (Nat.le_of_ble_eq_true rfl) rfl q1448 dX7_isSign_8 (fun v8 hf => ?_)
    refine lv_iconst (v := zi 2) hx hb dX7_isSign_11 rfl ?_
    refine lv_icmp_ne (tgt := 27) hx hb dX7_isSign_12 (by decide) (fun c12 => ?_) (fun c12 => ?_)
    · have hf := z_f c12 hf
      refine lv_iconst (v := zi 0) hx hb dX7_isSign_27 rfl ?_
      obtain ⟨rfl, rfl⟩ := z_p hf
      exact kk _ _ _ ⟨_, _, rfl, dX7_isSign_28, Or.inl rfl⟩ hG
    · have hf := z_t c12 hf
      refine lv_aload_n hx hb dX7_isSign_15 rfl (lv_at hl 0 rfl) ?_
      refine zm_gf C hG 7 hf (Nat.le_of_ble_eq_true rfl) rfl q1450 dX7_isSign_16 (fun v16 hf => ?_)
      refine lv_iload_n hx hb dX7_isSign_19 rfl (lv_at hl 1 rfl) ?_
      refine lv_icmp_ne (tgt := 27) hx hb dX7_isSign_20 (by decide) (fun c20 => ?_) (fun c20 => ?_)
      · have hf := z_f c20 hf
        refine lv_iconst (v := zi 0) hx hb dX7_isSign_27 rfl ?_
        obtain ⟨rfl, rfl⟩ := z_p hf
        exact kk _ _ _ ⟨_, _, rfl, dX7_isSign_28, Or.inl rfl⟩ hG
      · have hf := z_t c20 hf
        refine lv_iconst (v := zi 1) hx hb dX7_isSign_23 rfl ?_
        refine lv_goto (tgt := 28) hx hb dX7_isSign_24 (by decide) ?_
        obtain ⟨rfl, rfl⟩ := z_p hf
        exact kk _ _ _ ⟨_, _, rfl, dX7_isSign_28, Or.inr rfl⟩ hG
theorem ctm_isSign (Γ : zG) (l : Launch) (a1 : Int32) : mCt Γ l yX7_isSign (ws_ yX7_isSign cX7_isSign 2 (some .boolean)) 0 0 [.ref (G_m Γ 0), .int a1] (m_isSign a1) zoi := mCt.mkz (by decide +kernel) (Nat.le_of_ble_eq_true rfl) (wm_isSign Γ l a1)
theorem ytm_isSign : yX7_isSign.cls = RX7 ∧ yX7_isSign.cls ≠ "java/lang/invoke/MethodHandle" ∧ yX7_isSign.cls ≠ "java/lang/invoke/VarHandle" ∧ (parseMethodDescriptor yX7_isSign.desc).map (fun d => d.parameters.length) = some 1 := by decide +kernel
set_option maxHeartbeats 4000000 in
theorem wm_aBox_j24 (Γ : zG) (l : Launch) : mRg Γ l yX7_aBox cX7_aBox 3 none 5 109 (m_aBox_j24) (zAt0 3 24 [(0, .ref (G_m Γ 0))] []) (zLv cX7_aBox) := by
  intro p e R s m args below meth c Q A S H locs x S' g C hG hI hf kk
  obtain ⟨ls, rfl, hl⟩ := hI
  obtain ⟨⟨hx, hb, hml, hown, hts⟩, hr, hlk, hK, hR1, hR2⟩ := id C
  have C : zCx Γ p R s m args meth c cX7_aBox 3 RX7 none 5 109 := C
  refine lv_aload_n hx hb dX7_aBox_24 rfl (lv_at hl 0 rfl) ?_
  refine zm_cvv (As := []) (rest := []) C hG hf (ctm_ends Γ l) (lw_V q1652 q1654 qs47 q107 q1655) ytm_ends rfl rfl (Nat.le_of_ble_eq_true rfl) (Nat.le_of_ble_eq_true rfl) hl.1 (Nat.le_of_ble_eq_true rfl) dX7_aBox_25 (fun S H locs hG hf => ?_)
  obtain ⟨rfl, rfl⟩ := z_p hf
  exact kk _ _ _ ⟨_, _, rfl, dX7_aBox_28⟩ hG
def im_aBox_l320 (Γ : zG) (m : MethodId) (s : Unit) (g : JFrame) : Prop := zAt0 3 320 [(0, .ref (G_m Γ 0))] [] m g
def em_aBox_l320 (Γ : zG) (m : MethodId) (e : Unit) (g : JFrame) : Prop := zAt0 3 353 [(0, .ref (G_m Γ 0))] [] m g
set_option maxHeartbeats 4000000 in
theorem wm_aBox_l320_b (Γ : zG) (l : Launch) : mRg Γ l yX7_aBox cX7_aBox 3 none 5 109 (m_aBox_l320) (zAt0 3 320 [(0, .ref (G_m Γ 0))] []) (zLE (im_aBox_l320 Γ) (em_aBox_l320 Γ)) := by
  intro p e R s m args below meth c Q A S H locs x S' g C hG hI hf kk
  obtain ⟨ls, rfl, hl⟩ := hI
  obtain ⟨⟨hx, hb, hml, hown, hts⟩, hr, hlk, hK, hR1, hR2⟩ := id C
  have C : zCx Γ p R s m args meth c cX7_aBox 3 RX7 none 5 109 := C
  refine lv_aload_n hx hb dX7_aBox_320 rfl (lv_at hl 0 rfl) ?_
  refine zm_gf C hG 11 hf (Nat.le_of_ble_eq_true rfl) rfl q1454 dX7_aBox_321 (fun v321 hf => ?_)
  refine lv_if_le (tgt := 353) hx hb dX7_aBox_324 (by decide) (fun c324 => ?_) (fun c324 => ?_)
  · have hf := z_t c324 hf
    obtain ⟨rfl, rfl⟩ := z_p hf
    exact kk _ _ _ ⟨ls, rfl, lv_sub hl [0] rfl⟩ hG
  · have hf := z_f c324 hf
    refine lv_aload_n hx hb dX7_aBox_327 rfl (lv_at hl 0 rfl) ?_
    refine lv_bipush (v := zi 41) hx hb dX7_aBox_328 (by decide +kernel) ?_
    refine zm_cvi (As := [.int (zi 41)]) (rest := []) C hG hf (ctm_isSign Γ l (zi 41)) (lw_V q1668 q1670 qs51 q107 q1671) ytm_isSign rfl rfl (Nat.le_of_ble_eq_true rfl) (Nat.le_of_ble_eq_true rfl) hl.1 (Nat.le_of_ble_eq_true rfl) dX7_aBox_330 (fun v330 S H locs hG hf => ?_)
    refine lv_if_eq (tgt := 353) hx hb dX7_aBox_333 (by decide) (fun c333 => ?_) (fun c333 => ?_)
    · have hf := z_t c333 hf
      obtain ⟨rfl, rfl⟩ := z_p hf
      exact kk _ _ _ ⟨ls, rfl, lv_sub hl [0] rfl⟩ hG
    · have hf := z_f c333 hf
      refine lv_aload_n hx hb dX7_aBox_336 rfl (lv_at hl 0 rfl) ?_
      refine zm_cvv (As := []) (rest := []) C hG hf (ctm_advance Γ l) (lw_V q1622 q1624 qs44 q107 q1625) ytm_advance rfl rfl (Nat.le_of_ble_eq_true rfl) (Nat.le_of_ble_eq_true rfl) hl.1 (Nat.le_of_ble_eq_true rfl) dX7_aBox_337 (fun S H locs hG hf => ?_)
      refine lv_aload_n hx hb dX7_aBox_340 rfl (lv_at hl 0 rfl) ?_
      refine lv_dup hx hb dX7_aBox_341 rfl ?_
      refine zm_gf C hG 11 hf (Nat.le_of_ble_eq_true rfl) rfl q1454 dX7_aBox_342 (fun v342 hf => ?_)
      refine lv_iconst (v := zi 1) hx hb dX7_aBox_345 rfl ?_
      refine lv_isub hx hb dX7_aBox_346 ?_
      refine zm_pf C hG 11 hf (Nat.le_of_ble_eq_true rfl) rfl rfl (by decide +kernel) q1454 dX7_aBox_347 (fun S H locs hG hf => ?_)
      refine lv_goto (tgt := 320) hx hb dX7_aBox_350 (by decide) ?_
      obtain ⟨rfl, rfl⟩ := z_p hf
      exact kk _ _ _ ⟨ls, rfl, lv_sub hl [0] rfl⟩ hG
theorem wm_aBox_l320 (Γ : zG) (l : Launch) : ∀ s : Unit, mRg Γ l yX7_aBox cX7_aBox 3 none 5 109 (m_aBox_l320) (fun m => im_aBox_l320 Γ m s) (zLE (im_aBox_l320 Γ) (em_aBox_l320 Γ)) := fun s => wm_aBox_l320_b Γ l
set_option maxHeartbeats 4000000 in
theorem wm_aBox_j310 (Γ : zG) (l : Launch) : mRg Γ l yX7_aBox cX7_aBox 3 none 5 109 (m_aBox_j310) (zAt0 3 310 [(0, .ref (G_m Γ 0))] []) (zLv cX7_aBox) := by
  intro p e R s m args below meth c Q A S H locs x S' g C hG hI hf kk
  obtain ⟨ls, rfl, hl⟩ := hI
  obtain ⟨⟨hx, hb, hml, hown, hts⟩, hr, hlk, hK, hR1, hR2⟩ := id C
  have C : zCx Γ p R s m args meth c cX7_aBox 3 RX7 none 5 109 := C
  refine lv_aload_n hx hb dX7_aBox_310 rfl (lv_at hl 0 rfl) ?_
  refine lv_dup hx hb dX7_aBox_311 rfl ?_
  refine zm_gf C hG 10 hf (Nat.le_of_ble_eq_true rfl) rfl q1453 dX7_aBox_312 (fun v312 hf => ?_)
  refine lv_iconst (v := zi 1) hx hb dX7_aBox_315 rfl ?_
  refine lv_iadd hx hb dX7_aBox_316 ?_
  refine zm_pf C hG 10 hf (Nat.le_of_ble_eq_true rfl) rfl rfl (by decide +kernel) q1453 dX7_aBox_317 (fun S H locs hG hf => ?_)
  obtain ⟨e320, S, hlp, hf⟩ := nB_some hf
  refine mRg.loop (wm_aBox_l320 Γ l) () p e R s m args below meth c Q A _ _ _ _ _ _ C hG ⟨ls, rfl, lv_sub hl [0] rfl⟩ hlp (fun H locs g hL hG => ?_)
  obtain ⟨ls, rfl, hl⟩ := hL
  have hl : lv_has ls 3 [(0, .ref (G_m Γ 0))] := hl
  obtain ⟨rfl, rfl⟩ := z_p hf
  exact kk _ _ _ ⟨_, _, rfl, dX7_aBox_353⟩ hG
set_option maxHeartbeats 4000000 in
theorem wm_aBox_j300 (Γ : zG) (l : Launch) : mRg Γ l yX7_aBox cX7_aBox 3 none 5 109 (m_aBox_j300) (zAt0 3 300 [(0, .ref (G_m Γ 0))] []) (zLv cX7_aBox) := by
  intro p e R s m args below meth c Q A S H locs x S' g C hG hI hf kk
  obtain ⟨ls, rfl, hl⟩ := hI
  obtain ⟨⟨hx, hb, hml, hown, hts⟩, hr, hlk, hK, hR1, hR2⟩ := id C
  have C : zCx Γ p R s m args meth c cX7_aBox 3 RX7 none 5 109 := C
  refine lv_aload_n hx hb dX7_aBox_300 rfl (lv_at hl 0 rfl) ?_
  refine lv_dup hx hb dX7_aBox_301 rfl ?_
  refine zm_gf C hG 11 hf (Nat.le_of_ble_eq_true rfl) rfl q1454 dX7_aBox_302 (fun v302 hf => ?_)
  refine lv_iconst (v := zi 1) hx hb dX7_aBox_305 rfl ?_
  refine lv_iadd hx hb dX7_aBox_306 ?_
  refine zm_pf C hG 11 hf (Nat.le_of_ble_eq_true rfl) rfl rfl (by decide +kernel) q1454 dX7_aBox_307 (fun S H locs hG hf => ?_)
  exact wm_aBox_j310 Γ l p e R s m args below meth c Q A _ _ _ _ _ _ C hG ⟨ls, rfl, lv_sub hl [0] rfl⟩ hf kk
set_option maxHeartbeats 4000000 in
theorem wm_aBox_j270 (Γ : zG) (l : Launch) (b2 : Int32) : mRg Γ l yX7_aBox cX7_aBox 3 none 5 109 (m_aBox_j270 b2) (zAt0 3 270 [(0, .ref (G_m Γ 0)), (2, .int b2)] []) (zLv cX7_aBox) := by
  intro p e R s m args below meth c Q A S H locs x S' g C hG hI hf kk
  obtain ⟨ls, rfl, hl⟩ := hI
  obtain ⟨⟨hx, hb, hml, hown, hts⟩, hr, hlk, hK, hR1, hR2⟩ := id C
  have C : zCx Γ p R s m args meth c cX7_aBox 3 RX7 none 5 109 := C
  refine lv_aload_n hx hb dX7_aBox_270 rfl (lv_at hl 0 rfl) ?_
  refine zm_cvv (As := []) (rest := []) C hG hf (ctm_advance Γ l) (lw_V q1622 q1624 qs44 q107 q1625) ytm_advance rfl rfl (Nat.le_of_ble_eq_true rfl) (Nat.le_of_ble_eq_true rfl) hl.1 (Nat.le_of_ble_eq_true rfl) dX7_aBox_271 (fun S H locs hG hf => ?_)
  refine lv_iload_n hx hb dX7_aBox_274 rfl (lv_at hl 1 rfl) ?_
  refine lv_if_eq (tgt := 310) hx hb dX7_aBox_275 (by decide) (fun c275 => ?_) (fun c275 => ?_)
  · have hf := z_t c275 hf
    exact wm_aBox_j310 Γ l p e R s m args below meth c Q A _ _ _ _ _ _ C hG ⟨ls, rfl, lv_sub hl [0] rfl⟩ hf kk
  · have hf := z_f c275 hf
    refine lv_aload_n hx hb dX7_aBox_278 rfl (lv_at hl 0 rfl) ?_
    refine zm_gf C hG 11 hf (Nat.le_of_ble_eq_true rfl) rfl q1454 dX7_aBox_279 (fun v279 hf => ?_)
    refine lv_bipush (v := zi 7) hx hb dX7_aBox_282 (by decide +kernel) ?_
    refine lv_icmp_ge (tgt := 300) hx hb dX7_aBox_284 (by decide) (fun c284 => ?_) (fun c284 => ?_)
    · have hf := z_t c284 hf
      exact wm_aBox_j300 Γ l p e R s m args below meth c Q A _ _ _ _ _ _ C hG ⟨ls, rfl, lv_sub hl [0] rfl⟩ hf kk
    · have hf := z_f c284 hf
      refine lv_aload_n hx hb dX7_aBox_287 rfl (lv_at hl 0 rfl) ?_
      refine zm_ga C hG 12 (Nat.le_of_ble_eq_true rfl) (by decide) q1455 dX7_aBox_288 ?_
      refine lv_aload_n hx hb dX7_aBox_291 rfl (lv_at hl 0 rfl) ?_
      refine zm_gf C hG 11 hf (Nat.le_of_ble_eq_true rfl) rfl q1454 dX7_aBox_292 (fun v292 hf => ?_)
      refine lv_aload_n hx hb dX7_aBox_295 rfl (lv_at hl 0 rfl) ?_
      refine zm_gf C hG 10 hf (Nat.le_of_ble_eq_true rfl) rfl q1453 dX7_aBox_296 (fun v296 hf => ?_)
      refine zm_as C hG 12 hf (Nat.le_of_ble_eq_true rfl) rfl dX7_aBox_299 (fun S H locs hG hf => ?_)
      exact wm_aBox_j300 Γ l p e R s m args below meth c Q A _ _ _ _ _ _ C hG ⟨ls, rfl, lv_sub hl [0] rfl⟩ hf kk
set_option maxHeartbeats 4000000 in
theorem wm_aBox_j245 (Γ : zG) (l : Launch) : mRg Γ l yX7_aBox cX7_aBox 3 none 5 109 (m_aBox_j245) (zAt0 3 245 [(0, .ref (G_m Γ 0))] []) (zLv cX7_aBox) := by
  intro p e R s m args below meth c Q A S H locs x S' g C hG hI hf kk
  obtain ⟨ls, rfl, hl⟩ := hI
  obtain ⟨⟨hx, hb, hml, hown, hts⟩, hr, hlk, hK, hR1, hR2⟩ := id C
  have C : zCx Γ p R s m args meth c cX7_aBox 3 RX7 none 5 109 := C
  refine lv_aload_n hx hb dX7_aBox_245 rfl (lv_at hl 0 rfl) ?_
  refine lv_bipush (v := zi 40) hx hb dX7_aBox_246 (by decide +kernel) ?_
  refine zm_cvi (As := [.int (zi 40)]) (rest := []) C hG hf (ctm_isSign Γ l (zi 40)) (lw_V q1668 q1670 qs51 q107 q1671) ytm_isSign rfl rfl (Nat.le_of_ble_eq_true rfl) (Nat.le_of_ble_eq_true rfl) hl.1 (Nat.le_of_ble_eq_true rfl) dX7_aBox_248 (fun v248 S H locs hG hf => ?_)
  refine lv_istore_n (lv' := [(2, .int v248), (0, .ref (G_m Γ 0))]) hx hb dX7_aBox_251 rfl hl (Nat.le_of_ble_eq_true rfl) rfl (fun ls hl => ?_)
  refine lv_iload_n hx hb dX7_aBox_252 rfl (lv_at hl 0 rfl) ?_
  refine lv_if_ne (tgt := 270) hx hb dX7_aBox_253 (by decide) (fun c253 => ?_) (fun c253 => ?_)
  · have hf := z_f c253 hf
    exact wm_aBox_j270 Γ l v248 p e R s m args below meth c Q A _ _ _ _ _ _ C hG ⟨ls, rfl, lv_sub hl [1, 0] rfl⟩ hf kk
  · have hf := z_t c253 hf
    refine lv_aload_n hx hb dX7_aBox_256 rfl (lv_at hl 1 rfl) ?_
    refine lv_bipush (v := zi 59) hx hb dX7_aBox_257 (by decide +kernel) ?_
    refine zm_cvi (As := [.int (zi 59)]) (rest := []) C hG hf (ctm_isSign Γ l (zi 59)) (lw_V q1668 q1670 qs51 q107 q1671) ytm_isSign rfl rfl (Nat.le_of_ble_eq_true rfl) (Nat.le_of_ble_eq_true rfl) hl.1 (Nat.le_of_ble_eq_true rfl) dX7_aBox_259 (fun v259 S H locs hG hf => ?_)
    refine lv_if_ne (tgt := 270) hx hb dX7_aBox_262 (by decide) (fun c262 => ?_) (fun c262 => ?_)
    · have hf := z_f c262 hf
      exact wm_aBox_j270 Γ l v248 p e R s m args below meth c Q A _ _ _ _ _ _ C hG ⟨ls, rfl, lv_sub hl [1, 0] rfl⟩ hf kk
    · have hf := z_t c262 hf
      refine lv_aload_n hx hb dX7_aBox_265 rfl (lv_at hl 1 rfl) ?_
      refine zm_cvv (As := []) (rest := []) C hG hf (ctm_ends Γ l) (lw_V q1652 q1654 qs47 q107 q1655) ytm_ends rfl rfl (Nat.le_of_ble_eq_true rfl) (Nat.le_of_ble_eq_true rfl) hl.1 (Nat.le_of_ble_eq_true rfl) dX7_aBox_266 (fun S H locs hG hf => ?_)
      obtain ⟨rfl, rfl⟩ := z_p hf
      exact kk _ _ _ ⟨_, _, rfl, dX7_aBox_269⟩ hG
set_option maxHeartbeats 4000000 in
theorem wm_aBox_j218 (Γ : zG) (l : Launch) (b1 : Int32) : mRg Γ l yX7_aBox cX7_aBox 3 none 5 109 (m_aBox_j218 b1) (zAt0 3 218 [(0, .ref (G_m Γ 0)), (1, .int b1)] []) (zLv cX7_aBox) := by
  intro p e R s m args below meth c Q A S H locs x S' g C hG hI hf kk
  obtain ⟨ls, rfl, hl⟩ := hI
  obtain ⟨⟨hx, hb, hml, hown, hts⟩, hr, hlk, hK, hR1, hR2⟩ := id C
  have C : zCx Γ p R s m args meth c cX7_aBox 3 RX7 none 5 109 := C
  refine lv_aload_n hx hb dX7_aBox_218 rfl (lv_at hl 0 rfl) ?_
  refine lv_bipush (v := zi 9) hx hb dX7_aBox_219 (by decide +kernel) ?_
  refine zm_cvi (As := [.int (zi 9)]) (rest := []) C hG hf (ctm_isWord Γ l (zi 9)) (lw_V q1664 q1666 qs50 q107 q1667) ytm_isWord rfl rfl (Nat.le_of_ble_eq_true rfl) (Nat.le_of_ble_eq_true rfl) hl.1 (Nat.le_of_ble_eq_true rfl) dX7_aBox_221 (fun v221 S H locs hG hf => ?_)
  refine lv_if_eq (tgt := 245) hx hb dX7_aBox_224 (by decide) (fun c224 => ?_) (fun c224 => ?_)
  · have hf := z_t c224 hf
    exact wm_aBox_j245 Γ l p e R s m args below meth c Q A _ _ _ _ _ _ C hG ⟨ls, rfl, lv_sub hl [0] rfl⟩ hf kk
  · have hf := z_f c224 hf
    refine lv_aload_n hx hb dX7_aBox_227 rfl (lv_at hl 0 rfl) ?_
    refine zm_cvv (As := []) (rest := []) C hG hf (ctm_advance Γ l) (lw_V q1622 q1624 qs44 q107 q1625) ytm_advance rfl rfl (Nat.le_of_ble_eq_true rfl) (Nat.le_of_ble_eq_true rfl) hl.1 (Nat.le_of_ble_eq_true rfl) dX7_aBox_228 (fun S H locs hG hf => ?_)
    refine lv_aload_n hx hb dX7_aBox_231 rfl (lv_at hl 0 rfl) ?_
    refine zm_ga C hG 13 (Nat.le_of_ble_eq_true rfl) (by decide) q1456 dX7_aBox_232 ?_
    refine lv_iload_n hx hb dX7_aBox_235 rfl (lv_at hl 1 rfl) ?_
    refine lv_iconst (v := zi 4) hx hb dX7_aBox_236 rfl ?_
    refine lv_iadd hx hb dX7_aBox_237 ?_
    refine lv_aload_n hx hb dX7_aBox_238 rfl (lv_at hl 0 rfl) ?_
    refine lv_bipush (v := zi 99) hx hb dX7_aBox_239 (by decide +kernel) ?_
    refine zm_cvi (As := [.int (zi 99)]) (rest := [.int (b1 + (zi 4)), .ref (G_m Γ (13 + 1))]) C hG hf (ctm_numbered Γ l (zi 99)) (lw_V q1660 q1662 qs49 q107 q1663) ytm_numbered rfl rfl (Nat.le_of_ble_eq_true rfl) (Nat.le_of_ble_eq_true rfl) hl.1 (Nat.le_of_ble_eq_true rfl) dX7_aBox_241 (fun v241 S H locs hG hf => ?_)
    refine zm_as C hG 13 hf (Nat.le_of_ble_eq_true rfl) rfl dX7_aBox_244 (fun S H locs hG hf => ?_)
    exact wm_aBox_j245 Γ l p e R s m args below meth c Q A _ _ _ _ _ _ C hG ⟨ls, rfl, lv_sub hl [0] rfl⟩ hf kk
set_option maxHeartbeats 4000000 in
theorem wm_aBox_j173 (Γ : zG) (l : Launch) (b1 : Int32) (t0 : Int32) (t1 : Int32) : mRg Γ l yX7_aBox cX7_aBox 3 none 5 109 (m_aBox_j173 b1 t0 t1) (zAt0 3 173 [(0, .ref (G_m Γ 0)), (1, .int b1)] [.int t0, .int t1, .ref (G_m Γ (13 + 1))]) (zLv cX7_aBox) := by
  intro p e R s m args below meth c Q A S H locs x S' g C hG hI hf kk
  obtain ⟨ls, rfl, hl⟩ := hI
  obtain ⟨⟨hx, hb, hml, hown, hts⟩, hr, hlk, hK, hR1, hR2⟩ := id C
  have C : zCx Γ p R s m args meth c cX7_aBox 3 RX7 none 5 109 := C
  refine zm_as C hG 13 hf (Nat.le_of_ble_eq_true rfl) rfl dX7_aBox_173 (fun S H locs hG hf => ?_)
  refine lv_aload_n hx hb dX7_aBox_174 rfl (lv_at hl 0 rfl) ?_
  refine zm_ga C hG 13 (Nat.le_of_ble_eq_true rfl) (by decide) q1456 dX7_aBox_175 ?_
  refine lv_iload_n hx hb dX7_aBox_178 rfl (lv_at hl 1 rfl) ?_
  refine lv_iconst (v := zi 3) hx hb dX7_aBox_179 rfl ?_
  refine lv_iadd hx hb dX7_aBox_180 ?_
  refine lv_iconst (v := zi (-1)) hx hb dX7_aBox_181 rfl ?_
  refine zm_as C hG 13 hf (Nat.le_of_ble_eq_true rfl) rfl dX7_aBox_182 (fun S H locs hG hf => ?_)
  refine lv_aload_n hx hb dX7_aBox_183 rfl (lv_at hl 0 rfl) ?_
  refine zm_ga C hG 13 (Nat.le_of_ble_eq_true rfl) (by decide) q1456 dX7_aBox_184 ?_
  refine lv_iload_n hx hb dX7_aBox_187 rfl (lv_at hl 1 rfl) ?_
  refine lv_iconst (v := zi 4) hx hb dX7_aBox_188 rfl ?_
  refine lv_iadd hx hb dX7_aBox_189 ?_
  refine lv_iconst (v := zi 0) hx hb dX7_aBox_190 rfl ?_
  refine zm_as C hG 13 hf (Nat.le_of_ble_eq_true rfl) rfl dX7_aBox_191 (fun S H locs hG hf => ?_)
  refine lv_aload_n hx hb dX7_aBox_192 rfl (lv_at hl 0 rfl) ?_
  refine lv_bipush (v := zi 8) hx hb dX7_aBox_193 (by decide +kernel) ?_
  refine zm_cvi (As := [.int (zi 8)]) (rest := []) C hG hf (ctm_isWord Γ l (zi 8)) (lw_V q1664 q1666 qs50 q107 q1667) ytm_isWord rfl rfl (Nat.le_of_ble_eq_true rfl) (Nat.le_of_ble_eq_true rfl) hl.1 (Nat.le_of_ble_eq_true rfl) dX7_aBox_195 (fun v195 S H locs hG hf => ?_)
  refine lv_if_eq (tgt := 218) hx hb dX7_aBox_198 (by decide) (fun c198 => ?_) (fun c198 => ?_)
  · have hf := z_t c198 hf
    exact wm_aBox_j218 Γ l b1 p e R s m args below meth c Q A _ _ _ _ _ _ C hG ⟨ls, rfl, lv_sub hl [0, 1] rfl⟩ hf kk
  · have hf := z_f c198 hf
    refine lv_aload_n hx hb dX7_aBox_201 rfl (lv_at hl 0 rfl) ?_
    refine zm_cvv (As := []) (rest := []) C hG hf (ctm_advance Γ l) (lw_V q1622 q1624 qs44 q107 q1625) ytm_advance rfl rfl (Nat.le_of_ble_eq_true rfl) (Nat.le_of_ble_eq_true rfl) hl.1 (Nat.le_of_ble_eq_true rfl) dX7_aBox_202 (fun S H locs hG hf => ?_)
    refine lv_aload_n hx hb dX7_aBox_205 rfl (lv_at hl 0 rfl) ?_
    refine zm_ga C hG 13 (Nat.le_of_ble_eq_true rfl) (by decide) q1456 dX7_aBox_206 ?_
    refine lv_iload_n hx hb dX7_aBox_209 rfl (lv_at hl 1 rfl) ?_
    refine lv_iconst (v := zi 3) hx hb dX7_aBox_210 rfl ?_
    refine lv_iadd hx hb dX7_aBox_211 ?_
    refine lv_aload_n hx hb dX7_aBox_212 rfl (lv_at hl 0 rfl) ?_
    refine lv_iconst (v := zi 3) hx hb dX7_aBox_213 rfl ?_
    refine zm_cvi (As := [.int (zi 3)]) (rest := [.int (b1 + (zi 3)), .ref (G_m Γ (13 + 1))]) C hG hf (ctm_numbered Γ l (zi 3)) (lw_V q1660 q1662 qs49 q107 q1663) ytm_numbered rfl rfl (Nat.le_of_ble_eq_true rfl) (Nat.le_of_ble_eq_true rfl) hl.1 (Nat.le_of_ble_eq_true rfl) dX7_aBox_214 (fun v214 S H locs hG hf => ?_)
    refine zm_as C hG 13 hf (Nat.le_of_ble_eq_true rfl) rfl dX7_aBox_217 (fun S H locs hG hf => ?_)
    exact wm_aBox_j218 Γ l b1 p e R s m args below meth c Q A _ _ _ _ _ _ C hG ⟨ls, rfl, lv_sub hl [0, 1] rfl⟩ hf kk
set_option maxHeartbeats 4000000 in
theorem wm_aBox_j158 (Γ : zG) (l : Launch) (b1 : Int32) (t0 : Int32) : mRg Γ l yX7_aBox cX7_aBox 3 none 5 109 (m_aBox_j158 b1 t0) (zAt0 3 158 [(0, .ref (G_m Γ 0)), (1, .int b1)] [.int t0, .ref (G_m Γ (13 + 1))]) (zLv cX7_aBox) := by
  intro p e R s m args below meth c Q A S H locs x S' g C hG hI hf kk
  obtain ⟨ls, rfl, hl⟩ := hI
  obtain ⟨⟨hx, hb, hml, hown, hts⟩, hr, hlk, hK, hR1, hR2⟩ := id C
  have C : zCx Γ p R s m args meth c cX7_aBox 3 RX7 none 5 109 := C
  refine lv_iconst (v := zi (-1)) hx hb dX7_aBox_158 rfl ?_
  refine lv_goto (tgt := 173) hx hb dX7_aBox_159 (by decide) ?_
  exact wm_aBox_j173 Γ l b1 (zi (-1)) t0 p e R s m args below meth c Q A _ _ _ _ _ _ C hG ⟨ls, rfl, lv_sub hl [0, 1] rfl⟩ hf kk
set_option maxHeartbeats 4000000 in
theorem wm_aBox_j134 (Γ : zG) (l : Launch) (b1 : Int32) (t0 : Int32) (t1 : Int32) : mRg Γ l yX7_aBox cX7_aBox 3 none 5 109 (m_aBox_j134 b1 t0 t1) (zAt0 3 134 [(0, .ref (G_m Γ 0)), (1, .int b1)] [.int t0, .int t1, .ref (G_m Γ (13 + 1))]) (zLv cX7_aBox) := by
  intro p e R s m args below meth c Q A S H locs x S' g C hG hI hf kk
  obtain ⟨ls, rfl, hl⟩ := hI
  obtain ⟨⟨hx, hb, hml, hown, hts⟩, hr, hlk, hK, hR1, hR2⟩ := id C
  have C : zCx Γ p R s m args meth c cX7_aBox 3 RX7 none 5 109 := C
  refine zm_as C hG 13 hf (Nat.le_of_ble_eq_true rfl) rfl dX7_aBox_134 (fun S H locs hG hf => ?_)
  refine lv_aload_n hx hb dX7_aBox_135 rfl (lv_at hl 0 rfl) ?_
  refine zm_ga C hG 13 (Nat.le_of_ble_eq_true rfl) (by decide) q1456 dX7_aBox_136 ?_
  refine lv_iload_n hx hb dX7_aBox_139 rfl (lv_at hl 1 rfl) ?_
  refine lv_iconst (v := zi 2) hx hb dX7_aBox_140 rfl ?_
  refine lv_iadd hx hb dX7_aBox_141 ?_
  refine lv_aload_n hx hb dX7_aBox_142 rfl (lv_at hl 0 rfl) ?_
  refine zm_gf C hG 11 hf (Nat.le_of_ble_eq_true rfl) rfl q1454 dX7_aBox_143 (fun v143 hf => ?_)
  refine lv_if_eq (tgt := 158) hx hb dX7_aBox_146 (by decide) (fun c146 => ?_) (fun c146 => ?_)
  · have hf := z_t c146 hf
    exact wm_aBox_j158 Γ l b1 (b1 + (zi 2)) p e R s m args below meth c Q A _ _ _ _ _ _ C hG ⟨ls, rfl, lv_sub hl [0, 1] rfl⟩ hf kk
  · have hf := z_f c146 hf
    refine lv_aload_n hx hb dX7_aBox_149 rfl (lv_at hl 0 rfl) ?_
    refine zm_gf C hG 11 hf (Nat.le_of_ble_eq_true rfl) rfl q1454 dX7_aBox_150 (fun v150 hf => ?_)
    refine lv_bipush (v := zi 6) hx hb dX7_aBox_153 (by decide +kernel) ?_
    refine lv_icmp_le (tgt := 162) hx hb dX7_aBox_155 (by decide) (fun c155 => ?_) (fun c155 => ?_)
    · have hf := z_t c155 hf
      refine lv_aload_n hx hb dX7_aBox_162 rfl (lv_at hl 0 rfl) ?_
      refine zm_ga C hG 12 (Nat.le_of_ble_eq_true rfl) (by decide) q1455 dX7_aBox_163 ?_
      refine lv_aload_n hx hb dX7_aBox_166 rfl (lv_at hl 0 rfl) ?_
      refine zm_gf C hG 11 hf (Nat.le_of_ble_eq_true rfl) rfl q1454 dX7_aBox_167 (fun v167 hf => ?_)
      refine lv_iconst (v := zi 1) hx hb dX7_aBox_170 rfl ?_
      refine lv_isub hx hb dX7_aBox_171 ?_
      refine zm_al C hG 12 hf (Nat.le_of_ble_eq_true rfl) rfl dX7_aBox_172 (fun v172 hf => ?_)
      exact wm_aBox_j173 Γ l b1 v172 (b1 + (zi 2)) p e R s m args below meth c Q A _ _ _ _ _ _ C hG ⟨ls, rfl, lv_sub hl [0, 1] rfl⟩ hf kk
    · have hf := z_f c155 hf
      exact wm_aBox_j158 Γ l b1 (b1 + (zi 2)) p e R s m args below meth c Q A _ _ _ _ _ _ C hG ⟨ls, rfl, lv_sub hl [0, 1] rfl⟩ hf kk
set_option maxHeartbeats 4000000 in
theorem wm_aBox_j133 (Γ : zG) (l : Launch) (b1 : Int32) (t0 : Int32) : mRg Γ l yX7_aBox cX7_aBox 3 none 5 109 (m_aBox_j133 b1 t0) (zAt0 3 133 [(0, .ref (G_m Γ 0)), (1, .int b1)] [.int t0, .ref (G_m Γ (13 + 1))]) (zLv cX7_aBox) := by
  intro p e R s m args below meth c Q A S H locs x S' g C hG hI hf kk
  obtain ⟨ls, rfl, hl⟩ := hI
  obtain ⟨⟨hx, hb, hml, hown, hts⟩, hr, hlk, hK, hR1, hR2⟩ := id C
  have C : zCx Γ p R s m args meth c cX7_aBox 3 RX7 none 5 109 := C
  refine lv_iconst (v := zi 0) hx hb dX7_aBox_133 rfl ?_
  exact wm_aBox_j134 Γ l b1 (zi 0) t0 p e R s m args below meth c Q A _ _ _ _ _ _ C hG ⟨ls, rfl, lv_sub hl [0, 1] rfl⟩ hf kk
set_option maxHeartbeats 4000000 in
theorem wm_aBox_j85 (Γ : zG) (l : Launch) (t0 : Int32) (t1 : Int32) (t2 : Int32) : mRg Γ l yX7_aBox cX7_aBox 3 none 5 109 (m_aBox_j85 t0 t1 t2) (zAt0 3 85 [(0, .ref (G_m Γ 0))] [.int t0, .int t1, .int t2]) (zLv cX7_aBox) := by
  intro p e R s m args below meth c Q A S H locs x S' g C hG hI hf kk
  obtain ⟨ls, rfl, hl⟩ := hI
  obtain ⟨⟨hx, hb, hml, hown, hts⟩, hr, hlk, hK, hR1, hR2⟩ := id C
  have C : zCx Γ p R s m args meth c cX7_aBox 3 RX7 none 5 109 := C
  refine lv_imul hx hb dX7_aBox_85 ?_
  refine lv_iadd hx hb dX7_aBox_86 ?_
  refine z_top hf (fun n87 hf => ?_)
  refine lv_istore_n (lv' := [(1, .int n87), (0, .ref (G_m Γ 0))]) hx hb dX7_aBox_87 rfl hl (Nat.le_of_ble_eq_true rfl) rfl (fun ls hl => ?_)
  refine lv_aload_n hx hb dX7_aBox_88 rfl (lv_at hl 1 rfl) ?_
  refine zm_ga C hG 13 (Nat.le_of_ble_eq_true rfl) (by decide) q1456 dX7_aBox_89 ?_
  refine lv_iload_n hx hb dX7_aBox_92 rfl (lv_at hl 0 rfl) ?_
  refine lv_aload_n hx hb dX7_aBox_93 rfl (lv_at hl 1 rfl) ?_
  refine zm_gf C hG 8 hf (Nat.le_of_ble_eq_true rfl) rfl q1451 dX7_aBox_94 (fun v94 hf => ?_)
  refine zm_as C hG 13 hf (Nat.le_of_ble_eq_true rfl) rfl dX7_aBox_97 (fun S H locs hG hf => ?_)
  refine lv_aload_n hx hb dX7_aBox_98 rfl (lv_at hl 1 rfl) ?_
  refine zm_cvv (As := []) (rest := []) C hG hf (ctm_advance Γ l) (lw_V q1622 q1624 qs44 q107 q1625) ytm_advance rfl rfl (Nat.le_of_ble_eq_true rfl) (Nat.le_of_ble_eq_true rfl) hl.1 (Nat.le_of_ble_eq_true rfl) dX7_aBox_99 (fun S H locs hG hf => ?_)
  refine lv_aload_n hx hb dX7_aBox_102 rfl (lv_at hl 1 rfl) ?_
  refine zm_ga C hG 13 (Nat.le_of_ble_eq_true rfl) (by decide) q1456 dX7_aBox_103 ?_
  refine lv_iload_n hx hb dX7_aBox_106 rfl (lv_at hl 0 rfl) ?_
  refine lv_iconst (v := zi 1) hx hb dX7_aBox_107 rfl ?_
  refine lv_iadd hx hb dX7_aBox_108 ?_
  refine lv_aload_n hx hb dX7_aBox_109 rfl (lv_at hl 1 rfl) ?_
  refine zm_gf C hG 9 hf (Nat.le_of_ble_eq_true rfl) rfl q1452 dX7_aBox_110 (fun v110 hf => ?_)
  refine lv_if_ne (tgt := 133) hx hb dX7_aBox_113 (by decide) (fun c113 => ?_) (fun c113 => ?_)
  · have hf := z_f c113 hf
    exact wm_aBox_j133 Γ l n87 (n87 + (zi 1)) p e R s m args below meth c Q A _ _ _ _ _ _ C hG ⟨ls, rfl, lv_sub hl [1, 0] rfl⟩ hf kk
  · have hf := z_t c113 hf
    refine lv_aload_n hx hb dX7_aBox_116 rfl (lv_at hl 1 rfl) ?_
    refine zm_gf C hG 5 hf (Nat.le_of_ble_eq_true rfl) rfl q1448 dX7_aBox_117 (fun v117 hf => ?_)
    refine lv_iconst (v := zi 1) hx hb dX7_aBox_120 rfl ?_
    refine lv_icmp_ne (tgt := 133) hx hb dX7_aBox_121 (by decide) (fun c121 => ?_) (fun c121 => ?_)
    · have hf := z_f c121 hf
      exact wm_aBox_j133 Γ l n87 (n87 + (zi 1)) p e R s m args below meth c Q A _ _ _ _ _ _ C hG ⟨ls, rfl, lv_sub hl [1, 0] rfl⟩ hf kk
    · have hf := z_t c121 hf
      refine lv_aload_n hx hb dX7_aBox_124 rfl (lv_at hl 1 rfl) ?_
      refine lv_bipush (v := zi 9) hx hb dX7_aBox_125 (by decide +kernel) ?_
      refine zm_cvi (As := [.int (zi 9)]) (rest := [.int (n87 + (zi 1)), .ref (G_m Γ (13 + 1))]) C hG hf (ctm_numbered Γ l (zi 9)) (lw_V q1660 q1662 qs49 q107 q1663) ytm_numbered rfl rfl (Nat.le_of_ble_eq_true rfl) (Nat.le_of_ble_eq_true rfl) hl.1 (Nat.le_of_ble_eq_true rfl) dX7_aBox_127 (fun v127 S H locs hG hf => ?_)
      refine lv_goto (tgt := 134) hx hb dX7_aBox_130 (by decide) ?_
      exact wm_aBox_j134 Γ l n87 v127 (n87 + (zi 1)) p e R s m args below meth c Q A _ _ _ _ _ _ C hG ⟨ls, rfl, lv_sub hl [1, 0] rfl⟩ hf kk
set_option maxHeartbeats 4000000 in
theorem wm_aBox_j65 (Γ : zG) (l : Launch) : mRg Γ l yX7_aBox cX7_aBox 3 none 5 109 (m_aBox_j65) (zAt0 3 65 [(0, .ref (G_m Γ 0))] []) (zLv cX7_aBox) := by
  intro p e R s m args below meth c Q A S H locs x S' g C hG hI hf kk
  obtain ⟨ls, rfl, hl⟩ := hI
  obtain ⟨⟨hx, hb, hml, hown, hts⟩, hr, hlk, hK, hR1, hR2⟩ := id C
  have C : zCx Γ p R s m args meth c cX7_aBox 3 RX7 none 5 109 := C
  refine lv_iconst (v := zi 1) hx hb dX7_aBox_65 rfl ?_
  refine lv_iconst (v := zi 5) hx hb dX7_aBox_66 rfl ?_
  refine lv_aload_n hx hb dX7_aBox_67 rfl (lv_at hl 0 rfl) ?_
  refine zm_gf C hG 10 hf (Nat.le_of_ble_eq_true rfl) rfl q1453 dX7_aBox_68 (fun v68 hf => ?_)
  refine lv_bipush (v := zi 14) hx hb dX7_aBox_71 (by decide +kernel) ?_
  refine lv_icmp_ge (tgt := 83) hx hb dX7_aBox_73 (by decide) (fun c73 => ?_) (fun c73 => ?_)
  · have hf := z_t c73 hf
    refine lv_bipush (v := zi 13) hx hb dX7_aBox_83 (by decide +kernel) ?_
    exact wm_aBox_j85 Γ l (zi 13) (zi 5) (zi 1) p e R s m args below meth c Q A _ _ _ _ _ _ C hG ⟨ls, rfl, lv_sub hl [0] rfl⟩ hf kk
  · have hf := z_f c73 hf
    refine lv_aload_n hx hb dX7_aBox_76 rfl (lv_at hl 0 rfl) ?_
    refine zm_gf C hG 10 hf (Nat.le_of_ble_eq_true rfl) rfl q1453 dX7_aBox_77 (fun v77 hf => ?_)
    refine lv_goto (tgt := 85) hx hb dX7_aBox_80 (by decide) ?_
    exact wm_aBox_j85 Γ l v77 (zi 5) (zi 1) p e R s m args below meth c Q A _ _ _ _ _ _ C hG ⟨ls, rfl, lv_sub hl [0] rfl⟩ hf kk
set_option maxHeartbeats 4000000 in
theorem wm_aBox_j47 (Γ : zG) (l : Launch) : mRg Γ l yX7_aBox cX7_aBox 3 none 5 109 (m_aBox_j47) (zAt0 3 47 [(0, .ref (G_m Γ 0))] []) (zLv cX7_aBox) := by
  intro p e R s m args below meth c Q A S H locs x S' g C hG hI hf kk
  obtain ⟨ls, rfl, hl⟩ := hI
  obtain ⟨⟨hx, hb, hml, hown, hts⟩, hr, hlk, hK, hR1, hR2⟩ := id C
  have C : zCx Γ p R s m args meth c cX7_aBox 3 RX7 none 5 109 := C
  refine lv_aload_n hx hb dX7_aBox_47 rfl (lv_at hl 0 rfl) ?_
  refine zm_gf C hG 11 hf (Nat.le_of_ble_eq_true rfl) rfl q1454 dX7_aBox_48 (fun v48 hf => ?_)
  refine lv_bipush (v := zi 6) hx hb dX7_aBox_51 (by decide +kernel) ?_
  refine lv_icmp_ne (tgt := 65) hx hb dX7_aBox_53 (by decide) (fun c53 => ?_) (fun c53 => ?_)
  · have hf := z_f c53 hf
    exact wm_aBox_j65 Γ l p e R s m args below meth c Q A _ _ _ _ _ _ C hG ⟨ls, rfl, lv_sub hl [0] rfl⟩ hf kk
  · have hf := z_t c53 hf
    refine lv_aload_n hx hb dX7_aBox_56 rfl (lv_at hl 0 rfl) ?_
    refine lv_iconst (v := zi 4) hx hb dX7_aBox_57 rfl ?_
    refine lv_aload_n hx hb dX7_aBox_58 rfl (lv_at hl 0 rfl) ?_
    refine zm_gf C hG 4 hf (Nat.le_of_ble_eq_true rfl) rfl q1447 dX7_aBox_59 (fun v59 hf => ?_)
    refine zm_cvv (As := [.int (zi 4), .int v59]) (rest := []) C hG hf (ctm_also Γ l (zi 4) v59) (lw_V q1656 q1658 qs48 q107 q1659) ytm_also rfl rfl (Nat.le_of_ble_eq_true rfl) (Nat.le_of_ble_eq_true rfl) hl.1 (Nat.le_of_ble_eq_true rfl) dX7_aBox_62 (fun S H locs hG hf => ?_)
    exact wm_aBox_j65 Γ l p e R s m args below meth c Q A _ _ _ _ _ _ C hG ⟨ls, rfl, lv_sub hl [0] rfl⟩ hf kk
set_option maxHeartbeats 4000000 in
theorem wm_aBox (Γ : zG) (l : Launch) : mRg Γ l yX7_aBox cX7_aBox 3 none 5 109 (m_aBox) (zAt0 3 0 (lv_args 0 [.ref (G_m Γ 0)]) []) (zLv cX7_aBox) := by
  intro p e R s m args below meth c Q A S H locs x S' g C hG hI hf kk
  obtain ⟨ls, rfl, hl⟩ := hI
  obtain ⟨⟨hx, hb, hml, hown, hts⟩, hr, hlk, hK, hR1, hR2⟩ := id C
  have C : zCx Γ p R s m args meth c cX7_aBox 3 RX7 none 5 109 := C
  have hl : lv_has ls 3 [(0, .ref (G_m Γ 0))] := hl
  refine lv_aload_n hx hb dX7_aBox_0 rfl (lv_at hl 0 rfl) ?_
  refine zm_gf C hG 9 hf (Nat.le_of_ble_eq_true rfl) rfl q1452 dX7_aBox_1 (fun v1 hf => ?_)
  refine lv_if_ne (tgt := 24) hx hb dX7_aBox_4 (by decide) (fun c4 => ?_) (fun c4 => ?_)
  · have hf := z_f c4 hf
    exact wm_aBox_j24 Γ l p e R s m args below meth c Q A _ _ _ _ _ _ C hG ⟨ls, rfl, lv_sub hl [0] rfl⟩ hf kk
  · have hf := z_t c4 hf
    refine lv_aload_n hx hb dX7_aBox_7 rfl (lv_at hl 0 rfl) ?_
    refine zm_gf C hG 5 hf (Nat.le_of_ble_eq_true rfl) rfl q1448 dX7_aBox_8 (fun v8 hf => ?_)
    refine lv_iconst (v := zi 3) hx hb dX7_aBox_11 rfl ?_
    refine lv_icmp_ne (tgt := 24) hx hb dX7_aBox_12 (by decide) (fun c12 => ?_) (fun c12 => ?_)
    · have hf := z_f c12 hf
      exact wm_aBox_j24 Γ l p e R s m args below meth c Q A _ _ _ _ _ _ C hG ⟨ls, rfl, lv_sub hl [0] rfl⟩ hf kk
    · have hf := z_t c12 hf
      refine lv_aload_n hx hb dX7_aBox_15 rfl (lv_at hl 0 rfl) ?_
      refine zm_gf C hG 8 hf (Nat.le_of_ble_eq_true rfl) rfl q1451 dX7_aBox_16 (fun v16 hf => ?_)
      refine lv_bipush (v := zi 7) hx hb dX7_aBox_19 (by decide +kernel) ?_
      refine lv_icmp_le (tgt := 29) hx hb dX7_aBox_21 (by decide) (fun c21 => ?_) (fun c21 => ?_)
      · have hf := z_t c21 hf
        refine lv_aload_n hx hb dX7_aBox_29 rfl (lv_at hl 0 rfl) ?_
        refine zm_gf C hG 10 hf (Nat.le_of_ble_eq_true rfl) rfl q1453 dX7_aBox_30 (fun v30 hf => ?_)
        refine lv_bipush (v := zi 14) hx hb dX7_aBox_33 (by decide +kernel) ?_
        refine lv_icmp_ne (tgt := 47) hx hb dX7_aBox_35 (by decide) (fun c35 => ?_) (fun c35 => ?_)
        · have hf := z_f c35 hf
          exact wm_aBox_j47 Γ l p e R s m args below meth c Q A _ _ _ _ _ _ C hG ⟨ls, rfl, lv_sub hl [0] rfl⟩ hf kk
        · have hf := z_t c35 hf
          refine lv_aload_n hx hb dX7_aBox_38 rfl (lv_at hl 0 rfl) ?_
          refine lv_iconst (v := zi 3) hx hb dX7_aBox_39 rfl ?_
          refine lv_aload_n hx hb dX7_aBox_40 rfl (lv_at hl 0 rfl) ?_
          refine zm_gf C hG 4 hf (Nat.le_of_ble_eq_true rfl) rfl q1447 dX7_aBox_41 (fun v41 hf => ?_)
          refine zm_cvv (As := [.int (zi 3), .int v41]) (rest := []) C hG hf (ctm_also Γ l (zi 3) v41) (lw_V q1656 q1658 qs48 q107 q1659) ytm_also rfl rfl (Nat.le_of_ble_eq_true rfl) (Nat.le_of_ble_eq_true rfl) hl.1 (Nat.le_of_ble_eq_true rfl) dX7_aBox_44 (fun S H locs hG hf => ?_)
          exact wm_aBox_j47 Γ l p e R s m args below meth c Q A _ _ _ _ _ _ C hG ⟨ls, rfl, lv_sub hl [0] rfl⟩ hf kk
      · have hf := z_f c21 hf
        exact wm_aBox_j24 Γ l p e R s m args below meth c Q A _ _ _ _ _ _ C hG ⟨ls, rfl, lv_sub hl [0] rfl⟩ hf kk
theorem ctm_aBox (Γ : zG) (l : Launch) : mCt Γ l yX7_aBox (ws_ yX7_aBox cX7_aBox 3 none) 5 109 [.ref (G_m Γ 0)] (m_aBox) zov := mCt.mkv (by decide +kernel) (Nat.le_of_ble_eq_true rfl) (wm_aBox Γ l)
theorem ytm_aBox : yX7_aBox.cls = RX7 ∧ yX7_aBox.cls ≠ "java/lang/invoke/MethodHandle" ∧ yX7_aBox.cls ≠ "java/lang/invoke/VarHandle" ∧ (parseMethodDescriptor yX7_aBox.desc).map (fun d => d.parameters.length) = some 0 := by decide +kernel
def im_reads_l8 (Γ : zG) (m : MethodId) (s : Unit) (g : JFrame) : Prop := zAt0 1 8 [(0, .ref (G_m Γ 0))] [] m g
def em_reads_l8 (Γ : zG) (m : MethodId) (e : Unit) (g : JFrame) : Prop := zAt0 1 29 [(0, .ref (G_m Γ 0))] [] m g
set_option maxHeartbeats 4000000 in
theorem wm_reads_l8_b (Γ : zG) (l : Launch) : mRg Γ l yX7_reads cX7_reads 1 (some .boolean) 6 131 (m_reads_l8) (zAt0 1 8 [(0, .ref (G_m Γ 0))] []) (zLE (im_reads_l8 Γ) (em_reads_l8 Γ)) := by
  intro p e R s m args below meth c Q A S H locs x S' g C hG hI hf kk
  obtain ⟨ls, rfl, hl⟩ := hI
  obtain ⟨⟨hx, hb, hml, hown, hts⟩, hr, hlk, hK, hR1, hR2⟩ := id C
  have C : zCx Γ p R s m args meth c cX7_reads 1 RX7 (some .boolean) 6 131 := C
  refine lv_aload_n hx hb dX7_reads_8 rfl (lv_at hl 0 rfl) ?_
  refine zm_gf C hG 9 hf (Nat.le_of_ble_eq_true rfl) rfl q1452 dX7_reads_9 (fun v9 hf => ?_)
  refine lv_if_ne (tgt := 29) hx hb dX7_reads_12 (by decide) (fun c12 => ?_) (fun c12 => ?_)
  · have hf := z_f c12 hf
    obtain ⟨rfl, rfl⟩ := z_p hf
    exact kk _ _ _ ⟨ls, rfl, lv_sub hl [0] rfl⟩ hG
  · have hf := z_t c12 hf
    refine lv_aload_n hx hb dX7_reads_15 rfl (lv_at hl 0 rfl) ?_
    refine zm_gf C hG 11 hf (Nat.le_of_ble_eq_true rfl) rfl q1454 dX7_reads_16 (fun v16 hf => ?_)
    refine lv_if_le (tgt := 29) hx hb dX7_reads_19 (by decide) (fun c19 => ?_) (fun c19 => ?_)
    · have hf := z_t c19 hf
      obtain ⟨rfl, rfl⟩ := z_p hf
      exact kk _ _ _ ⟨ls, rfl, lv_sub hl [0] rfl⟩ hG
    · have hf := z_f c19 hf
      refine lv_aload_n hx hb dX7_reads_22 rfl (lv_at hl 0 rfl) ?_
      refine zm_cvv (As := []) (rest := []) C hG hf (ctm_aBox Γ l) (lw_V q1648 q1650 qs46 q107 q1651) ytm_aBox rfl rfl (Nat.le_of_ble_eq_true rfl) (Nat.le_of_ble_eq_true rfl) hl.1 (Nat.le_of_ble_eq_true rfl) dX7_reads_23 (fun S H locs hG hf => ?_)
      refine lv_goto (tgt := 8) hx hb dX7_reads_26 (by decide) ?_
      obtain ⟨rfl, rfl⟩ := z_p hf
      exact kk _ _ _ ⟨ls, rfl, lv_sub hl [0] rfl⟩ hG
theorem wm_reads_l8 (Γ : zG) (l : Launch) : ∀ s : Unit, mRg Γ l yX7_reads cX7_reads 1 (some .boolean) 6 131 (m_reads_l8) (fun m => im_reads_l8 Γ m s) (zLE (im_reads_l8 Γ) (em_reads_l8 Γ)) := fun s => wm_reads_l8_b Γ l
set_option maxHeartbeats 4000000 in
theorem wm_reads_j47 (Γ : zG) (l : Launch) : mRg Γ l yX7_reads cX7_reads 1 (some .boolean) 6 131 (m_reads_j47) (zAt0 1 47 [(0, .ref (G_m Γ 0))] []) (zLz cX7_reads) := by
  intro p e R s m args below meth c Q A S H locs x S' g C hG hI hf kk
  obtain ⟨ls, rfl, hl⟩ := hI
  obtain ⟨⟨hx, hb, hml, hown, hts⟩, hr, hlk, hK, hR1, hR2⟩ := id C
  have C : zCx Γ p R s m args meth c cX7_reads 1 RX7 (some .boolean) 6 131 := C
  refine lv_aload_n hx hb dX7_reads_47 rfl (lv_at hl 0 rfl) ?_
  refine zm_ga C hG 0 (Nat.le_of_ble_eq_true rfl) (by decide) q1443 dX7_reads_48 ?_
  refine lv_bipush (v := zi 7) hx hb dX7_reads_51 (by decide +kernel) ?_
  refine zm_al C hG 0 hf (Nat.le_of_ble_eq_true rfl) rfl dX7_reads_53 (fun v53 hf => ?_)
  refine lv_if_ne (tgt := 61) hx hb dX7_reads_54 (by decide) (fun c54 => ?_) (fun c54 => ?_)
  · have hf := z_f c54 hf
    refine lv_iconst (v := zi 0) hx hb dX7_reads_61 rfl ?_
    obtain ⟨rfl, rfl⟩ := z_p hf
    exact kk _ _ _ ⟨_, _, rfl, dX7_reads_62, Or.inl rfl⟩ hG
  · have hf := z_t c54 hf
    refine lv_iconst (v := zi 1) hx hb dX7_reads_57 rfl ?_
    refine lv_goto (tgt := 62) hx hb dX7_reads_58 (by decide) ?_
    obtain ⟨rfl, rfl⟩ := z_p hf
    exact kk _ _ _ ⟨_, _, rfl, dX7_reads_62, Or.inr rfl⟩ hG
set_option maxHeartbeats 4000000 in
theorem wm_reads (Γ : zG) (l : Launch) : mRg Γ l yX7_reads cX7_reads 1 (some .boolean) 6 131 (m_reads) (zAt0 1 0 (lv_args 0 [.ref (G_m Γ 0)]) []) (zLz cX7_reads) := by
  intro p e R s m args below meth c Q A S H locs x S' g C hG hI hf kk
  obtain ⟨ls, rfl, hl⟩ := hI
  obtain ⟨⟨hx, hb, hml, hown, hts⟩, hr, hlk, hK, hR1, hR2⟩ := id C
  have C : zCx Γ p R s m args meth c cX7_reads 1 RX7 (some .boolean) 6 131 := C
  have hl : lv_has ls 1 [(0, .ref (G_m Γ 0))] := hl
  refine lv_aload_n hx hb dX7_reads_0 rfl (lv_at hl 0 rfl) ?_
  refine zm_cvv (As := []) (rest := []) C hG hf (ctm_advance Γ l) (lw_V q1622 q1624 qs44 q107 q1625) ytm_advance rfl rfl (Nat.le_of_ble_eq_true rfl) (Nat.le_of_ble_eq_true rfl) hl.1 (Nat.le_of_ble_eq_true rfl) dX7_reads_1 (fun S H locs hG hf => ?_)
  refine lv_aload_n hx hb dX7_reads_4 rfl (lv_at hl 0 rfl) ?_
  refine zm_cvv (As := []) (rest := []) C hG hf (ctm_aBox Γ l) (lw_V q1648 q1650 qs46 q107 q1651) ytm_aBox rfl rfl (Nat.le_of_ble_eq_true rfl) (Nat.le_of_ble_eq_true rfl) hl.1 (Nat.le_of_ble_eq_true rfl) dX7_reads_5 (fun S H locs hG hf => ?_)
  obtain ⟨e8, S, hlp, hf⟩ := nB_some hf
  refine mRg.loop (wm_reads_l8 Γ l) () p e R s m args below meth c Q A _ _ _ _ _ _ C hG ⟨ls, rfl, lv_sub hl [0] rfl⟩ hlp (fun H locs g hL hG => ?_)
  obtain ⟨ls, rfl, hl⟩ := hL
  have hl : lv_has ls 1 [(0, .ref (G_m Γ 0))] := hl
  refine lv_aload_n hx hb dX7_reads_29 rfl (lv_at hl 0 rfl) ?_
  refine zm_gf C hG 9 hf (Nat.le_of_ble_eq_true rfl) rfl q1452 dX7_reads_30 (fun v30 hf => ?_)
  refine lv_if_ne (tgt := 47) hx hb dX7_reads_33 (by decide) (fun c33 => ?_) (fun c33 => ?_)
  · have hf := z_f c33 hf
    exact wm_reads_j47 Γ l p e R s m args below meth c Q A _ _ _ _ _ _ C hG ⟨ls, rfl, lv_sub hl [0] rfl⟩ hf kk
  · have hf := z_t c33 hf
    refine lv_aload_n hx hb dX7_reads_36 rfl (lv_at hl 0 rfl) ?_
    refine zm_gf C hG 5 hf (Nat.le_of_ble_eq_true rfl) rfl q1448 dX7_reads_37 (fun v37 hf => ?_)
    refine lv_if_eq (tgt := 47) hx hb dX7_reads_40 (by decide) (fun c40 => ?_) (fun c40 => ?_)
    · have hf := z_t c40 hf
      exact wm_reads_j47 Γ l p e R s m args below meth c Q A _ _ _ _ _ _ C hG ⟨ls, rfl, lv_sub hl [0] rfl⟩ hf kk
    · have hf := z_f c40 hf
      refine lv_aload_n hx hb dX7_reads_43 rfl (lv_at hl 0 rfl) ?_
      refine zm_cvv (As := []) (rest := []) C hG hf (ctm_ends Γ l) (lw_V q1652 q1654 qs47 q107 q1655) ytm_ends rfl rfl (Nat.le_of_ble_eq_true rfl) (Nat.le_of_ble_eq_true rfl) hl.1 (Nat.le_of_ble_eq_true rfl) dX7_reads_44 (fun S H locs hG hf => ?_)
      exact wm_reads_j47 Γ l p e R s m args below meth c Q A _ _ _ _ _ _ C hG ⟨ls, rfl, lv_sub hl [0] rfl⟩ hf kk
theorem ctm_reads (Γ : zG) (l : Launch) : mCt Γ l yX7_reads (ws_ yX7_reads cX7_reads 1 (some .boolean)) 6 131 [.ref (G_m Γ 0)] (m_reads) zoi := mCt.mkz (by decide +kernel) (Nat.le_of_ble_eq_true rfl) (wm_reads Γ l)
theorem ytm_reads : yX7_reads.cls = RX7 ∧ yX7_reads.cls ≠ "java/lang/invoke/MethodHandle" ∧ yX7_reads.cls ≠ "java/lang/invoke/VarHandle" ∧ (parseMethodDescriptor yX7_reads.desc).map (fun d => d.parameters.length) = some 0 := by decide +kernel
set_option maxHeartbeats 4000000 in
theorem wm_ownTree (Γ : zG) (l : Launch) (a0 : Int32) (a1 : Int32) : mRg Γ l yX7_ownTree cX7_ownTree 2 (some .int) 1 20 (m_ownTree a0 a1) (zAt0 2 0 (lv_args 0 [.int a0, .int a1]) []) (zLi cX7_ownTree) := by
  intro p e R s m args below meth c Q A S H locs x S' g C hG hI hf kk
  obtain ⟨ls, rfl, hl⟩ := hI
  obtain ⟨⟨hx, hb, hml, hown, hts⟩, hr, hlk, hK, hR1, hR2⟩ := id C
  have C : zCx Γ p R s m args meth c cX7_ownTree 2 RX7 (some .int) 1 20 := C
  have hl : lv_has ls 2 [(0, .int a0), (1, .int a1)] := hl
  refine lv_iload_n hx hb dX7_ownTree_0 rfl (lv_at hl 0 rfl) ?_
  refine zm_csi (As := [.int a0]) (rest := []) C hG hf (ctm_houseAt Γ l a0) (lw_S q1615 q1616 q107 q1617) ytm_houseAt rfl rfl (Nat.le_of_ble_eq_true rfl) (Nat.le_of_ble_eq_true rfl) hl.1 (Nat.le_of_ble_eq_true rfl) dX7_ownTree_1 (fun v1 S H locs hG hf => ?_)
  refine lv_bipush (v := zi 14) hx hb dX7_ownTree_4 (by decide +kernel) ?_
  refine lv_iadd hx hb dX7_ownTree_6 ?_
  refine lv_bipush (v := zi 72) hx hb dX7_ownTree_7 (by decide +kernel) ?_
  refine lv_iload_n hx hb dX7_ownTree_9 rfl (lv_at hl 1 rfl) ?_
  refine lv_imul hx hb dX7_ownTree_10 ?_
  refine lv_iadd hx hb dX7_ownTree_11 ?_
  obtain ⟨rfl, rfl⟩ := z_p hf
  exact kk _ _ _ ⟨_, _, rfl, dX7_ownTree_12⟩ hG
theorem ctm_ownTree (Γ : zG) (l : Launch) (a0 : Int32) (a1 : Int32) : mCt Γ l yX7_ownTree (ws_ yX7_ownTree cX7_ownTree 2 (some .int)) 1 20 [.int a0, .int a1] (m_ownTree a0 a1) zoi := mCt.mki (by decide +kernel) (Nat.le_of_ble_eq_true rfl) (wm_ownTree Γ l a0 a1)
theorem ytm_ownTree : yX7_ownTree.cls = RX7 ∧ yX7_ownTree.cls ≠ "java/lang/invoke/MethodHandle" ∧ yX7_ownTree.cls ≠ "java/lang/invoke/VarHandle" ∧ (parseMethodDescriptor yX7_ownTree.desc).map (fun d => d.parameters.length) = some 2 := by decide +kernel
def im_keeps_l12 (Γ : zG) (f1 : Int32) (m : MethodId) (s : Int32) (g : JFrame) : Prop := zAt0 3 12 [(0, .ref (G_m Γ 0)), (1, .int f1), (2, .int s)] [] m g
def em_keeps_l12 (Γ : zG) (f1 : Int32) (m : MethodId) (e : Unit) (g : JFrame) : Prop := zAt0 3 42 [(0, .ref (G_m Γ 0))] [] m g
set_option maxHeartbeats 4000000 in
theorem wm_keeps_l12_b (Γ : zG) (l : Launch) (f1 : Int32) (s2 : Int32) : mRg Γ l yX7_keeps cX7_keeps 3 none 0 0 (m_keeps_l12 f1 s2) (zAt0 3 12 [(0, .ref (G_m Γ 0)), (1, .int f1), (2, .int s2)] []) (zLE (im_keeps_l12 Γ f1) (em_keeps_l12 Γ f1)) := by
  intro p e R s m args below meth c Q A S H locs x S' g C hG hI hf kk
  obtain ⟨ls, rfl, hl⟩ := hI
  obtain ⟨⟨hx, hb, hml, hown, hts⟩, hr, hlk, hK, hR1, hR2⟩ := id C
  have C : zCx Γ p R s m args meth c cX7_keeps 3 RX7 none 0 0 := C
  refine lv_iload_n hx hb dX7_keeps_12 rfl (lv_at hl 2 rfl) ?_
  refine lv_iconst (v := zi 5) hx hb dX7_keeps_13 rfl ?_
  refine lv_aload_n hx hb dX7_keeps_14 rfl (lv_at hl 0 rfl) ?_
  refine zm_gf C hG 10 hf (Nat.le_of_ble_eq_true rfl) rfl q1453 dX7_keeps_15 (fun v15 hf => ?_)
  refine lv_imul hx hb dX7_keeps_18 ?_
  refine lv_icmp_gt (tgt := 42) hx hb dX7_keeps_19 (by decide) (fun c19 => ?_) (fun c19 => ?_)
  · have hf := z_t c19 hf
    obtain ⟨rfl, rfl⟩ := z_p hf
    exact kk _ _ _ ⟨ls, rfl, lv_sub hl [0] rfl⟩ hG
  · have hf := z_f c19 hf
    refine lv_aload_n hx hb dX7_keeps_22 rfl (lv_at hl 0 rfl) ?_
    refine zm_ga C hG 0 (Nat.le_of_ble_eq_true rfl) (by decide) q1443 dX7_keeps_23 ?_
    refine lv_iload_n hx hb dX7_keeps_26 rfl (lv_at hl 1 rfl) ?_
    refine lv_iload_n hx hb dX7_keeps_27 rfl (lv_at hl 2 rfl) ?_
    refine lv_iadd hx hb dX7_keeps_28 ?_
    refine lv_aload_n hx hb dX7_keeps_29 rfl (lv_at hl 0 rfl) ?_
    refine zm_ga C hG 13 (Nat.le_of_ble_eq_true rfl) (by decide) q1456 dX7_keeps_30 ?_
    refine lv_iload_n hx hb dX7_keeps_33 rfl (lv_at hl 2 rfl) ?_
    refine zm_al C hG 13 hf (Nat.le_of_ble_eq_true rfl) rfl dX7_keeps_34 (fun v34 hf => ?_)
    refine zm_as C hG 0 hf (Nat.le_of_ble_eq_true rfl) rfl dX7_keeps_35 (fun S H locs hG hf => ?_)
    refine z_iinc (fun v => [(2, .int v), (0, .ref (G_m Γ 0)), (1, .int f1)]) hx hb hf dX7_keeps_36 hl (k := 2) rfl (Nat.le_of_ble_eq_true rfl) (fun _ => rfl) (fun n36 ls hf hl => ?_)
    refine lv_goto (tgt := 12) hx hb dX7_keeps_39 (by decide) ?_
    obtain ⟨rfl, rfl⟩ := z_p hf
    exact kk _ _ _ ⟨ls, rfl, lv_sub hl [1, 2, 0] rfl⟩ hG
theorem wm_keeps_l12 (Γ : zG) (l : Launch) (f1 : Int32) : ∀ s : Int32, mRg Γ l yX7_keeps cX7_keeps 3 none 0 0 (m_keeps_l12 f1 s) (fun m => im_keeps_l12 Γ f1 m s) (zLE (im_keeps_l12 Γ f1) (em_keeps_l12 Γ f1)) := fun s => wm_keeps_l12_b Γ l f1 s
set_option maxHeartbeats 4000000 in
theorem wm_keeps (Γ : zG) (l : Launch) (a1 : Int32) : mRg Γ l yX7_keeps cX7_keeps 3 none 0 0 (m_keeps a1) (zAt0 3 0 (lv_args 0 [.ref (G_m Γ 0), .int a1]) []) (zLv cX7_keeps) := by
  intro p e R s m args below meth c Q A S H locs x S' g C hG hI hf kk
  obtain ⟨ls, rfl, hl⟩ := hI
  obtain ⟨⟨hx, hb, hml, hown, hts⟩, hr, hlk, hK, hR1, hR2⟩ := id C
  have C : zCx Γ p R s m args meth c cX7_keeps 3 RX7 none 0 0 := C
  have hl : lv_has ls 3 [(0, .ref (G_m Γ 0)), (1, .int a1)] := hl
  refine lv_aload_n hx hb dX7_keeps_0 rfl (lv_at hl 0 rfl) ?_
  refine zm_ga C hG 0 (Nat.le_of_ble_eq_true rfl) (by decide) q1443 dX7_keeps_1 ?_
  refine lv_iload_n hx hb dX7_keeps_4 rfl (lv_at hl 1 rfl) ?_
  refine lv_aload_n hx hb dX7_keeps_5 rfl (lv_at hl 0 rfl) ?_
  refine zm_gf C hG 10 hf (Nat.le_of_ble_eq_true rfl) rfl q1453 dX7_keeps_6 (fun v6 hf => ?_)
  refine zm_as C hG 0 hf (Nat.le_of_ble_eq_true rfl) rfl dX7_keeps_9 (fun S H locs hG hf => ?_)
  refine lv_iconst (v := zi 1) hx hb dX7_keeps_10 rfl ?_
  refine lv_istore_n (lv' := [(2, .int (zi 1)), (0, .ref (G_m Γ 0)), (1, .int a1)]) hx hb dX7_keeps_11 rfl hl (Nat.le_of_ble_eq_true rfl) rfl (fun ls hl => ?_)
  obtain ⟨e12, S, hlp, hf⟩ := nB_some hf
  refine mRg.loop (wm_keeps_l12 Γ l a1) (zi 1) p e R s m args below meth c Q A _ _ _ _ _ _ C hG ⟨ls, rfl, lv_sub hl [1, 2, 0] rfl⟩ hlp (fun H locs g hL hG => ?_)
  obtain ⟨ls, rfl, hl⟩ := hL
  have hl : lv_has ls 3 [(0, .ref (G_m Γ 0))] := hl
  obtain ⟨rfl, rfl⟩ := z_p hf
  exact kk _ _ _ ⟨_, _, rfl, dX7_keeps_42⟩ hG
theorem ctm_keeps (Γ : zG) (l : Launch) (a1 : Int32) : mCt Γ l yX7_keeps (ws_ yX7_keeps cX7_keeps 3 none) 0 0 [.ref (G_m Γ 0), .int a1] (m_keeps a1) zov := mCt.mkv (by decide +kernel) (Nat.le_of_ble_eq_true rfl) (wm_keeps Γ l a1)
theorem ytm_keeps : yX7_keeps.cls = RX7 ∧ yX7_keeps.cls ≠ "java/lang/invoke/MethodHandle" ∧ yX7_keeps.cls ≠ "java/lang/invoke/VarHandle" ∧ (parseMethodDescriptor yX7_keeps.desc).map (fun d => d.parameters.length) = some 1 := by decide +kernel
set_option maxHeartbeats 4000000 in
theorem wm_own (Γ : zG) (l : Launch) (a1 : Int32) : mRg Γ l yX7_own cX7_own 3 (some .int) 7 151 (m_own a1) (zAt0 3 0 (lv_args 0 [.ref (G_m Γ 0), .int a1]) []) (zLi cX7_own) := by
  intro p e R s m args below meth c Q A S H locs x S' g C hG hI hf kk
  obtain ⟨ls, rfl, hl⟩ := hI
  obtain ⟨⟨hx, hb, hml, hown, hts⟩, hr, hlk, hK, hR1, hR2⟩ := id C
  have C : zCx Γ p R s m args meth c cX7_own 3 RX7 (some .int) 7 151 := C
  have hl : lv_has ls 3 [(0, .ref (G_m Γ 0)), (1, .int a1)] := hl
  refine lv_aload_n hx hb dX7_own_0 rfl (lv_at hl 0 rfl) ?_
  refine zm_cvv (As := []) (rest := []) C hG hf (ctm_begins Γ l) (lw_V q1604 q1606 qs41 q107 q1607) ytm_begins rfl rfl (Nat.le_of_ble_eq_true rfl) (Nat.le_of_ble_eq_true rfl) hl.1 (Nat.le_of_ble_eq_true rfl) dX7_own_1 (fun S H locs hG hf => ?_)
  refine lv_aload_n hx hb dX7_own_4 rfl (lv_at hl 0 rfl) ?_
  refine lv_iload_n hx hb dX7_own_5 rfl (lv_at hl 1 rfl) ?_
  refine zm_cvi (As := [.int a1]) (rest := []) C hG hf (ctm_isHouse Γ l a1) (lw_V q1608 q1610 qs42 q107 q1611) ytm_isHouse rfl rfl (Nat.le_of_ble_eq_true rfl) (Nat.le_of_ble_eq_true rfl) hl.1 (Nat.le_of_ble_eq_true rfl) dX7_own_6 (fun v6 S H locs hG hf => ?_)
  refine lv_if_eq (tgt := 28) hx hb dX7_own_9 (by decide) (fun c9 => ?_) (fun c9 => ?_)
  · have hf := z_t c9 hf
    refine lv_bipush (v := zi (-2)) hx hb dX7_own_28 (by decide +kernel) ?_
    obtain ⟨rfl, rfl⟩ := z_p hf
    exact kk _ _ _ ⟨_, _, rfl, dX7_own_30⟩ hG
  · have hf := z_f c9 hf
    refine lv_aload_n hx hb dX7_own_12 rfl (lv_at hl 0 rfl) ?_
    refine zm_ga C hG 0 (Nat.le_of_ble_eq_true rfl) (by decide) q1443 dX7_own_13 ?_
    refine lv_iload_n hx hb dX7_own_16 rfl (lv_at hl 1 rfl) ?_
    refine zm_csi (As := [.int a1]) (rest := [.ref (G_m Γ (0 + 1))]) C hG hf (ctm_houseAt Γ l a1) (lw_S q1615 q1616 q107 q1617) ytm_houseAt rfl rfl (Nat.le_of_ble_eq_true rfl) (Nat.le_of_ble_eq_true rfl) hl.1 (Nat.le_of_ble_eq_true rfl) dX7_own_17 (fun v17 S H locs hG hf => ?_)
    refine lv_bipush (v := zi 13) hx hb dX7_own_20 (by decide +kernel) ?_
    refine lv_iadd hx hb dX7_own_22 ?_
    refine zm_al C hG 0 hf (Nat.le_of_ble_eq_true rfl) rfl dX7_own_23 (fun v23 hf => ?_)
    refine lv_iconst (v := zi 2) hx hb dX7_own_24 rfl ?_
    refine lv_icmp_ne (tgt := 31) hx hb dX7_own_25 (by decide) (fun c25 => ?_) (fun c25 => ?_)
    · have hf := z_f c25 hf
      refine lv_aload_n hx hb dX7_own_31 rfl (lv_at hl 0 rfl) ?_
      refine zm_cvi (As := []) (rest := []) C hG hf (ctm_reads Γ l) (lw_V q1618 q1620 qs43 q107 q1621) ytm_reads rfl rfl (Nat.le_of_ble_eq_true rfl) (Nat.le_of_ble_eq_true rfl) hl.1 (Nat.le_of_ble_eq_true rfl) dX7_own_32 (fun v32 S H locs hG hf => ?_)
      refine lv_if_ne (tgt := 40) hx hb dX7_own_35 (by decide) (fun c35 => ?_) (fun c35 => ?_)
      · have hf := z_f c35 hf
        refine lv_iload_n hx hb dX7_own_40 rfl (lv_at hl 1 rfl) ?_
        refine zm_csi (As := [.int a1]) (rest := []) C hG hf (ctm_houseAt Γ l a1) (lw_S q1615 q1616 q107 q1617) ytm_houseAt rfl rfl (Nat.le_of_ble_eq_true rfl) (Nat.le_of_ble_eq_true rfl) hl.1 (Nat.le_of_ble_eq_true rfl) dX7_own_41 (fun v41 S H locs hG hf => ?_)
        refine lv_bipush (v := zi 13) hx hb dX7_own_44 (by decide +kernel) ?_
        refine lv_iadd hx hb dX7_own_46 ?_
        refine z_top hf (fun n47 hf => ?_)
        refine lv_istore_n (lv' := [(2, .int n47), (0, .ref (G_m Γ 0)), (1, .int a1)]) hx hb dX7_own_47 rfl hl (Nat.le_of_ble_eq_true rfl) rfl (fun ls hl => ?_)
        refine lv_aload_n hx hb dX7_own_48 rfl (lv_at hl 1 rfl) ?_
        refine lv_iload_n hx hb dX7_own_49 rfl (lv_at hl 2 rfl) ?_
        refine lv_aload_n hx hb dX7_own_50 rfl (lv_at hl 1 rfl) ?_
        refine zm_ga C hG 0 (Nat.le_of_ble_eq_true rfl) (by decide) q1443 dX7_own_51 ?_
        refine lv_iload_n hx hb dX7_own_54 rfl (lv_at hl 0 rfl) ?_
        refine zm_al C hG 0 hf (Nat.le_of_ble_eq_true rfl) rfl dX7_own_55 (fun v55 hf => ?_)
        refine zm_csi (As := [.int a1, .int v55]) (rest := [.ref (G_m Γ 0)]) C hG hf (ctm_ownTree Γ l a1 v55) (lw_S q1672 q1673 q107 q1674) ytm_ownTree rfl rfl (Nat.le_of_ble_eq_true rfl) (Nat.le_of_ble_eq_true rfl) hl.1 (Nat.le_of_ble_eq_true rfl) dX7_own_56 (fun v56 S H locs hG hf => ?_)
        refine zm_cvv (As := [.int v56]) (rest := []) C hG hf (ctm_keeps Γ l v56) (lw_V q1675 q1677 qs52 q107 q1678) ytm_keeps rfl rfl (Nat.le_of_ble_eq_true rfl) (Nat.le_of_ble_eq_true rfl) hl.1 (Nat.le_of_ble_eq_true rfl) dX7_own_59 (fun S H locs hG hf => ?_)
        refine lv_aload_n hx hb dX7_own_62 rfl (lv_at hl 1 rfl) ?_
        refine zm_ga C hG 0 (Nat.le_of_ble_eq_true rfl) (by decide) q1443 dX7_own_63 ?_
        refine lv_iload_n hx hb dX7_own_66 rfl (lv_at hl 0 rfl) ?_
        refine lv_dup2_11 hx hb dX7_own_67 rfl rfl ?_
        refine zm_al C hG 0 hf (Nat.le_of_ble_eq_true rfl) rfl dX7_own_68 (fun v68 hf => ?_)
        refine lv_iconst (v := zi 1) hx hb dX7_own_69 rfl ?_
        refine lv_iadd hx hb dX7_own_70 ?_
        refine zm_as C hG 0 hf (Nat.le_of_ble_eq_true rfl) rfl dX7_own_71 (fun S H locs hG hf => ?_)
        refine lv_aload_n hx hb dX7_own_72 rfl (lv_at hl 1 rfl) ?_
        refine zm_ga C hG 0 (Nat.le_of_ble_eq_true rfl) (by decide) q1443 dX7_own_73 ?_
        refine lv_iload_n hx hb dX7_own_76 rfl (lv_at hl 0 rfl) ?_
        refine zm_al C hG 0 hf (Nat.le_of_ble_eq_true rfl) rfl dX7_own_77 (fun v77 hf => ?_)
        obtain ⟨rfl, rfl⟩ := z_p hf
        exact kk _ _ _ ⟨_, _, rfl, dX7_own_78⟩ hG
      · have hf := z_t c35 hf
        refine lv_iconst (v := zi (-1)) hx hb dX7_own_38 rfl ?_
        obtain ⟨rfl, rfl⟩ := z_p hf
        exact kk _ _ _ ⟨_, _, rfl, dX7_own_39⟩ hG
    · have hf := z_t c25 hf
      refine lv_bipush (v := zi (-2)) hx hb dX7_own_28 (by decide +kernel) ?_
      obtain ⟨rfl, rfl⟩ := z_p hf
      exact kk _ _ _ ⟨_, _, rfl, dX7_own_30⟩ hG
theorem ctm_own (Γ : zG) (l : Launch) (a1 : Int32) : mCt Γ l yX7_own (ws_ yX7_own cX7_own 3 (some .int)) 7 151 [.ref (G_m Γ 0), .int a1] (m_own a1) zoi := mCt.mki (by decide +kernel) (Nat.le_of_ble_eq_true rfl) (wm_own Γ l a1)
theorem ytm_own : yX7_own.cls = RX7 ∧ yX7_own.cls ≠ "java/lang/invoke/MethodHandle" ∧ yX7_own.cls ≠ "java/lang/invoke/VarHandle" ∧ (parseMethodDescriptor yX7_own.desc).map (fun d => d.parameters.length) = some 1 := by decide +kernel
set_option maxHeartbeats 4000000 in
theorem wm_pageAt (Γ : zG) (l : Launch) (a0 : Int32) : mRg Γ l yX7_pageAt cX7_pageAt 1 (some .int) 0 0 (m_pageAt a0) (zAt0 1 0 (lv_args 0 [.int a0]) []) (zLi cX7_pageAt) := by
  intro p e R s m args below meth c Q A S H locs x S' g C hG hI hf kk
  obtain ⟨ls, rfl, hl⟩ := hI
  obtain ⟨⟨hx, hb, hml, hown, hts⟩, hr, hlk, hK, hR1, hR2⟩ := id C
  have C : zCx Γ p R s m args meth c cX7_pageAt 1 RX7 (some .int) 0 0 := C
  have hl : lv_has ls 1 [(0, .int a0)] := hl
  refine lv_sipush (v := zi 2670) hx hb dX7_pageAt_0 (by decide +kernel) ?_
  refine lv_sipush (v := zi 210) hx hb dX7_pageAt_3 (by decide +kernel) ?_
  refine lv_iload_n hx hb dX7_pageAt_6 rfl (lv_at hl 0 rfl) ?_
  refine lv_imul hx hb dX7_pageAt_7 ?_
  refine lv_iadd hx hb dX7_pageAt_8 ?_
  obtain ⟨rfl, rfl⟩ := z_p hf
  exact kk _ _ _ ⟨_, _, rfl, dX7_pageAt_9⟩ hG
theorem ctm_pageAt (Γ : zG) (l : Launch) (a0 : Int32) : mCt Γ l yX7_pageAt (ws_ yX7_pageAt cX7_pageAt 1 (some .int)) 0 0 [.int a0] (m_pageAt a0) zoi := mCt.mki (by decide +kernel) (Nat.le_of_ble_eq_true rfl) (wm_pageAt Γ l a0)
theorem ytm_pageAt : yX7_pageAt.cls = RX7 ∧ yX7_pageAt.cls ≠ "java/lang/invoke/MethodHandle" ∧ yX7_pageAt.cls ≠ "java/lang/invoke/VarHandle" ∧ (parseMethodDescriptor yX7_pageAt.desc).map (fun d => d.parameters.length) = some 1 := by decide +kernel
def im_page_l39 (Γ : zG) (f1 : Int32) (m : MethodId) (s : Int32) (g : JFrame) : Prop := zAt0 3 39 [(0, .ref (G_m Γ 0)), (1, .int f1), (2, .int s)] [] m g
def em_page_l39 (Γ : zG) (f1 : Int32) (m : MethodId) (e : Unit) (g : JFrame) : Prop := zAt0 3 60 [(0, .ref (G_m Γ 0)), (1, .int f1)] [] m g
set_option maxHeartbeats 4000000 in
theorem wm_page_l39_b (Γ : zG) (l : Launch) (f1 : Int32) (s2 : Int32) : mRg Γ l yX7_page cX7_page 3 (some .int) 7 151 (m_page_l39 f1 s2) (zAt0 3 39 [(0, .ref (G_m Γ 0)), (1, .int f1), (2, .int s2)] []) (zLE (im_page_l39 Γ f1) (em_page_l39 Γ f1)) := by
  intro p e R s m args below meth c Q A S H locs x S' g C hG hI hf kk
  obtain ⟨ls, rfl, hl⟩ := hI
  obtain ⟨⟨hx, hb, hml, hown, hts⟩, hr, hlk, hK, hR1, hR2⟩ := id C
  have C : zCx Γ p R s m args meth c cX7_page 3 RX7 (some .int) 7 151 := C
  refine lv_iload_n hx hb dX7_page_39 rfl (lv_at hl 2 rfl) ?_
  refine lv_bipush (v := zi 42) hx hb dX7_page_40 (by decide +kernel) ?_
  refine lv_icmp_ge (tgt := 60) hx hb dX7_page_42 (by decide) (fun c42 => ?_) (fun c42 => ?_)
  · have hf := z_t c42 hf
    obtain ⟨rfl, rfl⟩ := z_p hf
    exact kk _ _ _ ⟨ls, rfl, lv_sub hl [0, 1] rfl⟩ hG
  · have hf := z_f c42 hf
    refine lv_aload_n hx hb dX7_page_45 rfl (lv_at hl 0 rfl) ?_
    refine zm_ga C hG 0 (Nat.le_of_ble_eq_true rfl) (by decide) q1443 dX7_page_46 ?_
    refine lv_iload_n hx hb dX7_page_49 rfl (lv_at hl 1 rfl) ?_
    refine lv_iload_n hx hb dX7_page_50 rfl (lv_at hl 2 rfl) ?_
    refine lv_iadd hx hb dX7_page_51 ?_
    refine lv_iconst (v := zi 0) hx hb dX7_page_52 rfl ?_
    refine zm_as C hG 0 hf (Nat.le_of_ble_eq_true rfl) rfl dX7_page_53 (fun S H locs hG hf => ?_)
    refine z_iinc (fun v => [(2, .int v), (0, .ref (G_m Γ 0)), (1, .int f1)]) hx hb hf dX7_page_54 hl (k := 2) rfl (Nat.le_of_ble_eq_true rfl) (fun _ => rfl) (fun n54 ls hf hl => ?_)
    refine lv_goto (tgt := 39) hx hb dX7_page_57 (by decide) ?_
    obtain ⟨rfl, rfl⟩ := z_p hf
    exact kk _ _ _ ⟨ls, rfl, lv_sub hl [1, 2, 0] rfl⟩ hG
theorem wm_page_l39 (Γ : zG) (l : Launch) (f1 : Int32) : ∀ s : Int32, mRg Γ l yX7_page cX7_page 3 (some .int) 7 151 (m_page_l39 f1 s) (fun m => im_page_l39 Γ f1 m s) (zLE (im_page_l39 Γ f1) (em_page_l39 Γ f1)) := fun s => wm_page_l39_b Γ l f1 s
set_option maxHeartbeats 4000000 in
theorem wm_page (Γ : zG) (l : Launch) : mRg Γ l yX7_page cX7_page 3 (some .int) 7 151 (m_page) (zAt0 3 0 (lv_args 0 [.ref (G_m Γ 0)]) []) (zLi cX7_page) := by
  intro p e R s m args below meth c Q A S H locs x S' g C hG hI hf kk
  obtain ⟨ls, rfl, hl⟩ := hI
  obtain ⟨⟨hx, hb, hml, hown, hts⟩, hr, hlk, hK, hR1, hR2⟩ := id C
  have C : zCx Γ p R s m args meth c cX7_page 3 RX7 (some .int) 7 151 := C
  have hl : lv_has ls 3 [(0, .ref (G_m Γ 0))] := hl
  refine lv_aload_n hx hb dX7_page_0 rfl (lv_at hl 0 rfl) ?_
  refine zm_cvv (As := []) (rest := []) C hG hf (ctm_begins Γ l) (lw_V q1604 q1606 qs41 q107 q1607) ytm_begins rfl rfl (Nat.le_of_ble_eq_true rfl) (Nat.le_of_ble_eq_true rfl) hl.1 (Nat.le_of_ble_eq_true rfl) dX7_page_1 (fun S H locs hG hf => ?_)
  refine lv_aload_n hx hb dX7_page_4 rfl (lv_at hl 0 rfl) ?_
  refine zm_ga C hG 0 (Nat.le_of_ble_eq_true rfl) (by decide) q1443 dX7_page_5 ?_
  refine lv_iconst (v := zi 1) hx hb dX7_page_8 rfl ?_
  refine zm_al C hG 0 hf (Nat.le_of_ble_eq_true rfl) rfl dX7_page_9 (fun v9 hf => ?_)
  refine lv_bipush (v := zi 10) hx hb dX7_page_10 (by decide +kernel) ?_
  refine lv_icmp_ne (tgt := 18) hx hb dX7_page_12 (by decide) (fun c12 => ?_) (fun c12 => ?_)
  · have hf := z_f c12 hf
    refine lv_aload_n hx hb dX7_page_18 rfl (lv_at hl 0 rfl) ?_
    refine zm_cvi (As := []) (rest := []) C hG hf (ctm_reads Γ l) (lw_V q1618 q1620 qs43 q107 q1621) ytm_reads rfl rfl (Nat.le_of_ble_eq_true rfl) (Nat.le_of_ble_eq_true rfl) hl.1 (Nat.le_of_ble_eq_true rfl) dX7_page_19 (fun v19 S H locs hG hf => ?_)
    refine lv_if_ne (tgt := 27) hx hb dX7_page_22 (by decide) (fun c22 => ?_) (fun c22 => ?_)
    · have hf := z_f c22 hf
      refine lv_aload_n hx hb dX7_page_27 rfl (lv_at hl 0 rfl) ?_
      refine zm_ga C hG 0 (Nat.le_of_ble_eq_true rfl) (by decide) q1443 dX7_page_28 ?_
      refine lv_iconst (v := zi 1) hx hb dX7_page_31 rfl ?_
      refine zm_al C hG 0 hf (Nat.le_of_ble_eq_true rfl) rfl dX7_page_32 (fun v32 hf => ?_)
      refine zm_csi (As := [.int v32]) (rest := []) C hG hf (ctm_pageAt Γ l v32) (lw_S q1683 q1684 q107 q1685) ytm_pageAt rfl rfl (Nat.le_of_ble_eq_true rfl) (Nat.le_of_ble_eq_true rfl) hl.1 (Nat.le_of_ble_eq_true rfl) dX7_page_33 (fun v33 S H locs hG hf => ?_)
      refine lv_istore_n (lv' := [(1, .int v33), (0, .ref (G_m Γ 0))]) hx hb dX7_page_36 rfl hl (Nat.le_of_ble_eq_true rfl) rfl (fun ls hl => ?_)
      refine lv_iconst (v := zi 0) hx hb dX7_page_37 rfl ?_
      refine lv_istore_n (lv' := [(2, .int (zi 0)), (1, .int v33), (0, .ref (G_m Γ 0))]) hx hb dX7_page_38 rfl hl (Nat.le_of_ble_eq_true rfl) rfl (fun ls hl => ?_)
      obtain ⟨e39, S, hlp, hf⟩ := nB_some hf
      refine mRg.loop (wm_page_l39 Γ l v33) (zi 0) p e R s m args below meth c Q A _ _ _ _ _ _ C hG ⟨ls, rfl, lv_sub hl [2, 1, 0] rfl⟩ hlp (fun H locs g hL hG => ?_)
      obtain ⟨ls, rfl, hl⟩ := hL
      have hl : lv_has ls 3 [(0, .ref (G_m Γ 0)), (1, .int v33)] := hl
      refine lv_aload_n hx hb dX7_page_60 rfl (lv_at hl 0 rfl) ?_
      refine zm_ga C hG 0 (Nat.le_of_ble_eq_true rfl) (by decide) q1443 dX7_page_61 ?_
      refine lv_iload_n hx hb dX7_page_64 rfl (lv_at hl 1 rfl) ?_
      refine lv_bipush (v := zi 120) hx hb dX7_page_65 (by decide +kernel) ?_
      refine lv_iadd hx hb dX7_page_67 ?_
      refine lv_iconst (v := zi 0) hx hb dX7_page_68 rfl ?_
      refine zm_as C hG 0 hf (Nat.le_of_ble_eq_true rfl) rfl dX7_page_69 (fun S H locs hG hf => ?_)
      refine lv_aload_n hx hb dX7_page_70 rfl (lv_at hl 0 rfl) ?_
      refine zm_ga C hG 0 (Nat.le_of_ble_eq_true rfl) (by decide) q1443 dX7_page_71 ?_
      refine lv_iload_n hx hb dX7_page_74 rfl (lv_at hl 1 rfl) ?_
      refine lv_sipush (v := zi 202) hx hb dX7_page_75 (by decide +kernel) ?_
      refine lv_iadd hx hb dX7_page_78 ?_
      refine lv_iconst (v := zi 0) hx hb dX7_page_79 rfl ?_
      refine zm_as C hG 0 hf (Nat.le_of_ble_eq_true rfl) rfl dX7_page_80 (fun S H locs hG hf => ?_)
      refine lv_aload_n hx hb dX7_page_81 rfl (lv_at hl 0 rfl) ?_
      refine lv_iload_n hx hb dX7_page_82 rfl (lv_at hl 1 rfl) ?_
      refine lv_bipush (v := zi 42) hx hb dX7_page_83 (by decide +kernel) ?_
      refine lv_iadd hx hb dX7_page_85 ?_
      refine zm_cvv (As := [.int (v33 + (zi 42))]) (rest := []) C hG hf (ctm_keeps Γ l (v33 + (zi 42))) (lw_V q1675 q1677 qs52 q107 q1678) ytm_keeps rfl rfl (Nat.le_of_ble_eq_true rfl) (Nat.le_of_ble_eq_true rfl) hl.1 (Nat.le_of_ble_eq_true rfl) dX7_page_86 (fun S H locs hG hf => ?_)
      refine lv_aload_n hx hb dX7_page_89 rfl (lv_at hl 0 rfl) ?_
      refine zm_ga C hG 0 (Nat.le_of_ble_eq_true rfl) (by decide) q1443 dX7_page_90 ?_
      refine lv_iconst (v := zi 1) hx hb dX7_page_93 rfl ?_
      refine lv_dup2_11 hx hb dX7_page_94 rfl rfl ?_
      refine zm_al C hG 0 hf (Nat.le_of_ble_eq_true rfl) rfl dX7_page_95 (fun v95 hf => ?_)
      refine lv_iconst (v := zi 1) hx hb dX7_page_96 rfl ?_
      refine lv_iadd hx hb dX7_page_97 ?_
      refine zm_as C hG 0 hf (Nat.le_of_ble_eq_true rfl) rfl dX7_page_98 (fun S H locs hG hf => ?_)
      refine lv_aload_n hx hb dX7_page_99 rfl (lv_at hl 0 rfl) ?_
      refine zm_ga C hG 0 (Nat.le_of_ble_eq_true rfl) (by decide) q1443 dX7_page_100 ?_
      refine lv_iconst (v := zi 1) hx hb dX7_page_103 rfl ?_
      refine zm_al C hG 0 hf (Nat.le_of_ble_eq_true rfl) rfl dX7_page_104 (fun v104 hf => ?_)
      refine lv_iconst (v := zi 1) hx hb dX7_page_105 rfl ?_
      refine lv_isub hx hb dX7_page_106 ?_
      obtain ⟨rfl, rfl⟩ := z_p hf
      exact kk _ _ _ ⟨_, _, rfl, dX7_page_107⟩ hG
    · have hf := z_t c22 hf
      refine lv_iconst (v := zi (-1)) hx hb dX7_page_25 rfl ?_
      obtain ⟨rfl, rfl⟩ := z_p hf
      exact kk _ _ _ ⟨_, _, rfl, dX7_page_26⟩ hG
  · have hf := z_t c12 hf
    refine lv_bipush (v := zi (-2)) hx hb dX7_page_15 (by decide +kernel) ?_
    obtain ⟨rfl, rfl⟩ := z_p hf
    exact kk _ _ _ ⟨_, _, rfl, dX7_page_17⟩ hG
theorem ctm_page (Γ : zG) (l : Launch) : mCt Γ l yX7_page (ws_ yX7_page cX7_page 3 (some .int)) 7 151 [.ref (G_m Γ 0)] (m_page) zoi := mCt.mki (by decide +kernel) (Nat.le_of_ble_eq_true rfl) (wm_page Γ l)
theorem ytm_page : yX7_page.cls = RX7 ∧ yX7_page.cls ≠ "java/lang/invoke/MethodHandle" ∧ yX7_page.cls ≠ "java/lang/invoke/VarHandle" ∧ (parseMethodDescriptor yX7_page.desc).map (fun d => d.parameters.length) = some 0 := by decide +kernel
set_option maxHeartbeats 4000000 in
theorem wm_signOf (Γ : zG) (l : Launch) (a0 : Int32) : mRg Γ l yX7_signOf cX7_signOf 1 (some .int) 1 20 (m_signOf a0) (zAt0 1 0 (lv_args 0 [.int a0]) []) (zLi cX7_signOf) := by
  intro p e R s m args below meth c Q A S H locs x S' g C hG hI hf kk
  obtain ⟨ls, rfl, hl⟩ := hI
  obtain ⟨⟨hx, hb, hml, hown, hts⟩, hr, hlk, hK, hR1, hR2⟩ := id C
  have C : zCx Γ p R s m args meth c cX7_signOf 1 RX7 (some .int) 1 20 := C
  have hl : lv_has ls 1 [(0, .int a0)] := hl
  refine lv_iload_n hx hb dX7_signOf_0 rfl (lv_at hl 0 rfl) ?_
  refine zm_csi (As := [.int a0]) (rest := []) C hG hf (ctm_isLetter Γ l a0) (lw_S q1630 q1631 q107 q1632) ytm_isLetter rfl rfl (Nat.le_of_ble_eq_true rfl) (Nat.le_of_ble_eq_true rfl) hl.1 (Nat.le_of_ble_eq_true rfl) dX7_signOf_1 (fun v1 S H locs hG hf => ?_)
  refine lv_if_eq (tgt := 14) hx hb dX7_signOf_4 (by decide) (fun c4 => ?_) (fun c4 => ?_)
  · have hf := z_t c4 hf
    refine lv_iload_n hx hb dX7_signOf_14 rfl (lv_at hl 0 rfl) ?_
    refine zm_csi (As := [.int a0]) (rest := []) C hG hf (ctm_isDigit Γ l a0) (lw_S q1645 q1646 q107 q1647) ytm_isDigit rfl rfl (Nat.le_of_ble_eq_true rfl) (Nat.le_of_ble_eq_true rfl) hl.1 (Nat.le_of_ble_eq_true rfl) dX7_signOf_15 (fun v15 S H locs hG hf => ?_)
    refine lv_if_eq (tgt := 31) hx hb dX7_signOf_18 (by decide) (fun c18 => ?_) (fun c18 => ?_)
    · have hf := z_t c18 hf
      refine lv_iconst (v := zi (-1)) hx hb dX7_signOf_31 rfl ?_
      obtain ⟨rfl, rfl⟩ := z_p hf
      exact kk _ _ _ ⟨_, _, rfl, dX7_signOf_32⟩ hG
    · have hf := z_f c18 hf
      refine lv_bipush (v := zi 26) hx hb dX7_signOf_21 (by decide +kernel) ?_
      refine lv_iload_n hx hb dX7_signOf_23 rfl (lv_at hl 0 rfl) ?_
      refine lv_iadd hx hb dX7_signOf_24 ?_
      refine lv_bipush (v := zi 48) hx hb dX7_signOf_25 (by decide +kernel) ?_
      refine lv_isub hx hb dX7_signOf_27 ?_
      refine lv_goto (tgt := 32) hx hb dX7_signOf_28 (by decide) ?_
      obtain ⟨rfl, rfl⟩ := z_p hf
      exact kk _ _ _ ⟨_, _, rfl, dX7_signOf_32⟩ hG
  · have hf := z_f c4 hf
    refine lv_iload_n hx hb dX7_signOf_7 rfl (lv_at hl 0 rfl) ?_
    refine lv_bipush (v := zi 97) hx hb dX7_signOf_8 (by decide +kernel) ?_
    refine lv_isub hx hb dX7_signOf_10 ?_
    refine lv_goto (tgt := 32) hx hb dX7_signOf_11 (by decide) ?_
    obtain ⟨rfl, rfl⟩ := z_p hf
    exact kk _ _ _ ⟨_, _, rfl, dX7_signOf_32⟩ hG
theorem ctm_signOf (Γ : zG) (l : Launch) (a0 : Int32) : mCt Γ l yX7_signOf (ws_ yX7_signOf cX7_signOf 1 (some .int)) 1 20 [.int a0] (m_signOf a0) zoi := mCt.mki (by decide +kernel) (Nat.le_of_ble_eq_true rfl) (wm_signOf Γ l a0)
theorem ytm_signOf : yX7_signOf.cls = RX7 ∧ yX7_signOf.cls ≠ "java/lang/invoke/MethodHandle" ∧ yX7_signOf.cls ≠ "java/lang/invoke/VarHandle" ∧ (parseMethodDescriptor yX7_signOf.desc).map (fun d => d.parameters.length) = some 1 := by decide +kernel
def im_named_l4 (Γ : zG) (f1 : Int32) (m : MethodId) (s : Int32 × Int32) (g : JFrame) : Prop := zAt0 4 4 [(0, .ref (G_m Γ 0)), (1, .int f1), (2, .int s.1), (3, .int s.2)] [] m g
def em_named_l4 (Γ : zG) (f1 : Int32) (m : MethodId) (e : Int32) (g : JFrame) : Prop := zAt0 4 35 [(0, .ref (G_m Γ 0)), (1, .int f1), (2, .int e)] [] m g
set_option maxHeartbeats 4000000 in
theorem wm_named_l4_b (Γ : zG) (l : Launch) (f1 : Int32) (s2 : Int32) (s3 : Int32) : mRg Γ l yX7_named cX7_named 4 (some .boolean) 2 40 (m_named_l4 f1 s2 s3) (zAt0 4 4 [(0, .ref (G_m Γ 0)), (1, .int f1), (2, .int s2), (3, .int s3)] []) (zLE (im_named_l4 Γ f1) (em_named_l4 Γ f1)) := by
  intro p e R s m args below meth c Q A S H locs x S' g C hG hI hf kk
  obtain ⟨ls, rfl, hl⟩ := hI
  obtain ⟨⟨hx, hb, hml, hown, hts⟩, hr, hlk, hK, hR1, hR2⟩ := id C
  have C : zCx Γ p R s m args meth c cX7_named 4 RX7 (some .boolean) 2 40 := C
  refine lv_iload_n hx hb dX7_named_4 rfl (lv_at hl 3 rfl) ?_
  refine lv_aload_n hx hb dX7_named_5 rfl (lv_at hl 0 rfl) ?_
  refine zm_gf C hG 2 hf (Nat.le_of_ble_eq_true rfl) rfl q1445 dX7_named_6 (fun v6 hf => ?_)
  refine lv_icmp_ge (tgt := 35) hx hb dX7_named_9 (by decide) (fun c9 => ?_) (fun c9 => ?_)
  · have hf := z_t c9 hf
    obtain ⟨rfl, rfl⟩ := z_p hf
    exact kk _ _ _ ⟨ls, rfl, lv_sub hl [0, 1, 2] rfl⟩ hG
  · have hf := z_f c9 hf
    refine lv_iload_n hx hb dX7_named_12 rfl (lv_at hl 2 rfl) ?_
    refine lv_if_ge (tgt := 35) hx hb dX7_named_13 (by decide) (fun c13 => ?_) (fun c13 => ?_)
    · have hf := z_t c13 hf
      obtain ⟨rfl, rfl⟩ := z_p hf
      exact kk _ _ _ ⟨ls, rfl, lv_sub hl [0, 1, 2] rfl⟩ hG
    · have hf := z_f c13 hf
      refine lv_aload_n hx hb dX7_named_16 rfl (lv_at hl 0 rfl) ?_
      refine lv_iload_n hx hb dX7_named_17 rfl (lv_at hl 3 rfl) ?_
      refine zm_cvi (As := [.int s3]) (rest := []) C hG hf (ctm_byteAt Γ l s3) (lw_V q1626 q1628 qs45 q107 q1629) ytm_byteAt rfl rfl (Nat.le_of_ble_eq_true rfl) (Nat.le_of_ble_eq_true rfl) hl.1 (Nat.le_of_ble_eq_true rfl) dX7_named_18 (fun v18 S H locs hG hf => ?_)
      refine zm_csi (As := [.int v18]) (rest := []) C hG hf (ctm_signOf Γ l v18) (lw_S q1694 q1695 q107 q1696) ytm_signOf rfl rfl (Nat.le_of_ble_eq_true rfl) (Nat.le_of_ble_eq_true rfl) hl.1 (Nat.le_of_ble_eq_true rfl) dX7_named_21 (fun v21 S H locs hG hf => ?_)
      refine lv_if_ge (tgt := 29) hx hb dX7_named_24 (by decide) (fun c24 => ?_) (fun c24 => ?_)
      · have hf := z_t c24 hf
        refine z_iinc (fun v => [(3, .int v), (0, .ref (G_m Γ 0)), (1, .int f1), (2, .int s2)]) hx hb hf dX7_named_29 hl (k := 3) rfl (Nat.le_of_ble_eq_true rfl) (fun _ => rfl) (fun n29 ls hf hl => ?_)
        refine lv_goto (tgt := 4) hx hb dX7_named_32 (by decide) ?_
        obtain ⟨rfl, rfl⟩ := z_p hf
        exact kk _ _ _ ⟨ls, rfl, lv_sub hl [1, 2, 3, 0] rfl⟩ hG
      · have hf := z_f c24 hf
        refine lv_iload_n hx hb dX7_named_27 rfl (lv_at hl 3 rfl) ?_
        refine lv_istore_n (lv' := [(2, .int s3), (0, .ref (G_m Γ 0)), (1, .int f1), (3, .int s3)]) hx hb dX7_named_28 rfl hl (Nat.le_of_ble_eq_true rfl) rfl (fun ls hl => ?_)
        refine z_iinc (fun v => [(3, .int v), (2, .int s3), (0, .ref (G_m Γ 0)), (1, .int f1)]) hx hb hf dX7_named_29 hl (k := 3) rfl (Nat.le_of_ble_eq_true rfl) (fun _ => rfl) (fun n29 ls hf hl => ?_)
        refine lv_goto (tgt := 4) hx hb dX7_named_32 (by decide) ?_
        obtain ⟨rfl, rfl⟩ := z_p hf
        exact kk _ _ _ ⟨ls, rfl, lv_sub hl [2, 3, 1, 0] rfl⟩ hG
theorem wm_named_l4 (Γ : zG) (l : Launch) (f1 : Int32) : ∀ s : Int32 × Int32, mRg Γ l yX7_named cX7_named 4 (some .boolean) 2 40 (m_named_l4 f1 s.1 s.2) (fun m => im_named_l4 Γ f1 m s) (zLE (im_named_l4 Γ f1) (em_named_l4 Γ f1)) := fun s => wm_named_l4_b Γ l f1 s.1 s.2
set_option maxHeartbeats 4000000 in
theorem wm_named_j146 (Γ : zG) (l : Launch) : mRg Γ l yX7_named cX7_named 4 (some .boolean) 2 40 (m_named_j146) (zAt0 4 146 [(0, .ref (G_m Γ 0))] []) (zLz cX7_named) := by
  intro p e R s m args below meth c Q A S H locs x S' g C hG hI hf kk
  obtain ⟨ls, rfl, hl⟩ := hI
  obtain ⟨⟨hx, hb, hml, hown, hts⟩, hr, hlk, hK, hR1, hR2⟩ := id C
  have C : zCx Γ p R s m args meth c cX7_named 4 RX7 (some .boolean) 2 40 := C
  refine lv_aload_n hx hb dX7_named_146 rfl (lv_at hl 0 rfl) ?_
  refine zm_ga C hG 0 (Nat.le_of_ble_eq_true rfl) (by decide) q1443 dX7_named_147 ?_
  refine lv_bipush (v := zi 7) hx hb dX7_named_150 (by decide +kernel) ?_
  refine zm_al C hG 0 hf (Nat.le_of_ble_eq_true rfl) rfl dX7_named_152 (fun v152 hf => ?_)
  refine lv_if_ne (tgt := 160) hx hb dX7_named_153 (by decide) (fun c153 => ?_) (fun c153 => ?_)
  · have hf := z_f c153 hf
    refine lv_iconst (v := zi 0) hx hb dX7_named_160 rfl ?_
    obtain ⟨rfl, rfl⟩ := z_p hf
    exact kk _ _ _ ⟨_, _, rfl, dX7_named_161, Or.inl rfl⟩ hG
  · have hf := z_t c153 hf
    refine lv_iconst (v := zi 1) hx hb dX7_named_156 rfl ?_
    refine lv_goto (tgt := 161) hx hb dX7_named_157 (by decide) ?_
    obtain ⟨rfl, rfl⟩ := z_p hf
    exact kk _ _ _ ⟨_, _, rfl, dX7_named_161, Or.inr rfl⟩ hG
set_option maxHeartbeats 4000000 in
theorem wm_named_j69 (Γ : zG) (l : Launch) (t0 : Int32) (t1 : Int32) : mRg Γ l yX7_named cX7_named 4 (some .boolean) 2 40 (m_named_j69 t0 t1) (zAt0 4 69 [(0, .ref (G_m Γ 0))] [.int t0, .int t1, .ref (G_m Γ (0 + 1))]) (zLz cX7_named) := by
  intro p e R s m args below meth c Q A S H locs x S' g C hG hI hf kk
  obtain ⟨ls, rfl, hl⟩ := hI
  obtain ⟨⟨hx, hb, hml, hown, hts⟩, hr, hlk, hK, hR1, hR2⟩ := id C
  have C : zCx Γ p R s m args meth c cX7_named 4 RX7 (some .boolean) 2 40 := C
  refine zm_as C hG 0 hf (Nat.le_of_ble_eq_true rfl) rfl dX7_named_69 (fun S H locs hG hf => ?_)
  refine lv_goto (tgt := 146) hx hb dX7_named_70 (by decide) ?_
  exact wm_named_j146 Γ l p e R s m args below meth c Q A _ _ _ _ _ _ C hG ⟨ls, rfl, lv_sub hl [0] rfl⟩ hf kk
set_option maxHeartbeats 4000000 in
theorem wm_named_j46 (Γ : zG) (l : Launch) (b2 : Int32) : mRg Γ l yX7_named cX7_named 4 (some .boolean) 2 40 (m_named_j46 b2) (zAt0 4 46 [(0, .ref (G_m Γ 0)), (2, .int b2)] []) (zLz cX7_named) := by
  intro p e R s m args below meth c Q A S H locs x S' g C hG hI hf kk
  obtain ⟨ls, rfl, hl⟩ := hI
  obtain ⟨⟨hx, hb, hml, hown, hts⟩, hr, hlk, hK, hR1, hR2⟩ := id C
  have C : zCx Γ p R s m args meth c cX7_named 4 RX7 (some .boolean) 2 40 := C
  refine lv_aload_n hx hb dX7_named_46 rfl (lv_at hl 0 rfl) ?_
  refine zm_ga C hG 0 (Nat.le_of_ble_eq_true rfl) (by decide) q1443 dX7_named_47 ?_
  refine lv_bipush (v := zi 7) hx hb dX7_named_50 (by decide +kernel) ?_
  refine lv_iconst (v := zi 1) hx hb dX7_named_52 rfl ?_
  refine zm_as C hG 0 hf (Nat.le_of_ble_eq_true rfl) rfl dX7_named_53 (fun S H locs hG hf => ?_)
  refine lv_aload_n hx hb dX7_named_54 rfl (lv_at hl 0 rfl) ?_
  refine zm_ga C hG 0 (Nat.le_of_ble_eq_true rfl) (by decide) q1443 dX7_named_55 ?_
  refine lv_bipush (v := zi 8) hx hb dX7_named_58 (by decide +kernel) ?_
  refine lv_iload_n hx hb dX7_named_60 rfl (lv_at hl 1 rfl) ?_
  refine lv_if_ge (tgt := 68) hx hb dX7_named_61 (by decide) (fun c61 => ?_) (fun c61 => ?_)
  · have hf := z_t c61 hf
    refine lv_iload_n hx hb dX7_named_68 rfl (lv_at hl 1 rfl) ?_
    exact wm_named_j69 Γ l b2 (zi 8) p e R s m args below meth c Q A _ _ _ _ _ _ C hG ⟨ls, rfl, lv_sub hl [0] rfl⟩ hf kk
  · have hf := z_f c61 hf
    refine lv_iconst (v := zi 0) hx hb dX7_named_64 rfl ?_
    refine lv_goto (tgt := 69) hx hb dX7_named_65 (by decide) ?_
    exact wm_named_j69 Γ l (zi 0) (zi 8) p e R s m args below meth c Q A _ _ _ _ _ _ C hG ⟨ls, rfl, lv_sub hl [0] rfl⟩ hf kk
def im_named_l114 (Γ : zG) (f1 : Int32) (m : MethodId) (s : Int32) (g : JFrame) : Prop := zAt0 4 114 [(0, .ref (G_m Γ 0)), (1, .int f1), (3, .int s)] [] m g
def em_named_l114 (Γ : zG) (f1 : Int32) (m : MethodId) (e : Unit) (g : JFrame) : Prop := zAt0 4 146 [(0, .ref (G_m Γ 0))] [] m g
set_option maxHeartbeats 4000000 in
theorem wm_named_l114_b (Γ : zG) (l : Launch) (f1 : Int32) (s3 : Int32) : mRg Γ l yX7_named cX7_named 4 (some .boolean) 2 40 (m_named_l114 f1 s3) (zAt0 4 114 [(0, .ref (G_m Γ 0)), (1, .int f1), (3, .int s3)] []) (zLE (im_named_l114 Γ f1) (em_named_l114 Γ f1)) := by
  intro p e R s m args below meth c Q A S H locs x S' g C hG hI hf kk
  obtain ⟨ls, rfl, hl⟩ := hI
  obtain ⟨⟨hx, hb, hml, hown, hts⟩, hr, hlk, hK, hR1, hR2⟩ := id C
  have C : zCx Γ p R s m args meth c cX7_named 4 RX7 (some .boolean) 2 40 := C
  refine lv_iload_n hx hb dX7_named_114 rfl (lv_at hl 2 rfl) ?_
  refine lv_aload_n hx hb dX7_named_115 rfl (lv_at hl 0 rfl) ?_
  refine zm_gf C hG 2 hf (Nat.le_of_ble_eq_true rfl) rfl q1445 dX7_named_116 (fun v116 hf => ?_)
  refine lv_icmp_ge (tgt := 146) hx hb dX7_named_119 (by decide) (fun c119 => ?_) (fun c119 => ?_)
  · have hf := z_t c119 hf
    obtain ⟨rfl, rfl⟩ := z_p hf
    exact kk _ _ _ ⟨ls, rfl, lv_sub hl [0] rfl⟩ hG
  · have hf := z_f c119 hf
    refine lv_aload_n hx hb dX7_named_122 rfl (lv_at hl 0 rfl) ?_
    refine zm_ga C hG 0 (Nat.le_of_ble_eq_true rfl) (by decide) q1443 dX7_named_123 ?_
    refine lv_iload_n hx hb dX7_named_126 rfl (lv_at hl 1 rfl) ?_
    refine lv_iconst (v := zi 1) hx hb dX7_named_127 rfl ?_
    refine lv_iadd hx hb dX7_named_128 ?_
    refine lv_iload_n hx hb dX7_named_129 rfl (lv_at hl 2 rfl) ?_
    refine lv_iadd hx hb dX7_named_130 ?_
    refine lv_aload_n hx hb dX7_named_131 rfl (lv_at hl 0 rfl) ?_
    refine lv_iload_n hx hb dX7_named_132 rfl (lv_at hl 2 rfl) ?_
    refine zm_cvi (As := [.int s3]) (rest := [.int ((f1 + (zi 1)) + s3), .ref (G_m Γ (0 + 1))]) C hG hf (ctm_byteAt Γ l s3) (lw_V q1626 q1628 qs45 q107 q1629) ytm_byteAt rfl rfl (Nat.le_of_ble_eq_true rfl) (Nat.le_of_ble_eq_true rfl) hl.1 (Nat.le_of_ble_eq_true rfl) dX7_named_133 (fun v133 S H locs hG hf => ?_)
    refine zm_csi (As := [.int v133]) (rest := [.int ((f1 + (zi 1)) + s3), .ref (G_m Γ (0 + 1))]) C hG hf (ctm_signOf Γ l v133) (lw_S q1694 q1695 q107 q1696) ytm_signOf rfl rfl (Nat.le_of_ble_eq_true rfl) (Nat.le_of_ble_eq_true rfl) hl.1 (Nat.le_of_ble_eq_true rfl) dX7_named_136 (fun v136 S H locs hG hf => ?_)
    refine zm_as C hG 0 hf (Nat.le_of_ble_eq_true rfl) rfl dX7_named_139 (fun S H locs hG hf => ?_)
    refine z_iinc (fun v => [(3, .int v), (0, .ref (G_m Γ 0)), (1, .int f1)]) hx hb hf dX7_named_140 hl (k := 2) rfl (Nat.le_of_ble_eq_true rfl) (fun _ => rfl) (fun n140 ls hf hl => ?_)
    refine lv_goto (tgt := 114) hx hb dX7_named_143 (by decide) ?_
    obtain ⟨rfl, rfl⟩ := z_p hf
    exact kk _ _ _ ⟨ls, rfl, lv_sub hl [1, 2, 0] rfl⟩ hG
theorem wm_named_l114 (Γ : zG) (l : Launch) (f1 : Int32) : ∀ s : Int32, mRg Γ l yX7_named cX7_named 4 (some .boolean) 2 40 (m_named_l114 f1 s) (fun m => im_named_l114 Γ f1 m s) (zLE (im_named_l114 Γ f1) (em_named_l114 Γ f1)) := fun s => wm_named_l114_b Γ l f1 s
set_option maxHeartbeats 4000000 in
theorem wm_named (Γ : zG) (l : Launch) (a1 : Int32) : mRg Γ l yX7_named cX7_named 4 (some .boolean) 2 40 (m_named a1) (zAt0 4 0 (lv_args 0 [.ref (G_m Γ 0), .int a1]) []) (zLz cX7_named) := by
  intro p e R s m args below meth c Q A S H locs x S' g C hG hI hf kk
  obtain ⟨ls, rfl, hl⟩ := hI
  obtain ⟨⟨hx, hb, hml, hown, hts⟩, hr, hlk, hK, hR1, hR2⟩ := id C
  have C : zCx Γ p R s m args meth c cX7_named 4 RX7 (some .boolean) 2 40 := C
  have hl : lv_has ls 4 [(0, .ref (G_m Γ 0)), (1, .int a1)] := hl
  refine lv_iconst (v := zi (-1)) hx hb dX7_named_0 rfl ?_
  refine lv_istore_n (lv' := [(2, .int (zi (-1))), (0, .ref (G_m Γ 0)), (1, .int a1)]) hx hb dX7_named_1 rfl hl (Nat.le_of_ble_eq_true rfl) rfl (fun ls hl => ?_)
  refine lv_iconst (v := zi 0) hx hb dX7_named_2 rfl ?_
  refine lv_istore_n (lv' := [(3, .int (zi 0)), (2, .int (zi (-1))), (0, .ref (G_m Γ 0)), (1, .int a1)]) hx hb dX7_named_3 rfl hl (Nat.le_of_ble_eq_true rfl) rfl (fun ls hl => ?_)
  obtain ⟨e4, S, hlp, hf⟩ := nB_some hf
  refine mRg.loop (wm_named_l4 Γ l a1) ((zi (-1)), (zi 0)) p e R s m args below meth c Q A _ _ _ _ _ _ C hG ⟨ls, rfl, lv_sub hl [2, 3, 1, 0] rfl⟩ hlp (fun H locs g hL hG => ?_)
  obtain ⟨ls, rfl, hl⟩ := hL
  have hl : lv_has ls 4 [(0, .ref (G_m Γ 0)), (1, .int a1), (2, .int e4)] := hl
  refine lv_iload_n hx hb dX7_named_35 rfl (lv_at hl 2 rfl) ?_
  refine lv_if_ge (tgt := 46) hx hb dX7_named_36 (by decide) (fun c36 => ?_) (fun c36 => ?_)
  · have hf := z_t c36 hf
    exact wm_named_j46 Γ l e4 p e R s m args below meth c Q A _ _ _ _ _ _ C hG ⟨ls, rfl, lv_sub hl [0, 2] rfl⟩ hf kk
  · have hf := z_f c36 hf
    refine lv_aload_n hx hb dX7_named_39 rfl (lv_at hl 0 rfl) ?_
    refine zm_gf C hG 2 hf (Nat.le_of_ble_eq_true rfl) rfl q1445 dX7_named_40 (fun v40 hf => ?_)
    refine lv_if_ne (tgt := 73) hx hb dX7_named_43 (by decide) (fun c43 => ?_) (fun c43 => ?_)
    · have hf := z_f c43 hf
      refine lv_aload_n hx hb dX7_named_73 rfl (lv_at hl 0 rfl) ?_
      refine zm_gf C hG 2 hf (Nat.le_of_ble_eq_true rfl) rfl q1445 dX7_named_74 (fun v74 hf => ?_)
      refine lv_bipush (v := zi 12) hx hb dX7_named_77 (by decide +kernel) ?_
      refine lv_icmp_le (tgt := 102) hx hb dX7_named_79 (by decide) (fun c79 => ?_) (fun c79 => ?_)
      · have hf := z_t c79 hf
        refine lv_aload_n hx hb dX7_named_102 rfl (lv_at hl 0 rfl) ?_
        refine zm_ga C hG 0 (Nat.le_of_ble_eq_true rfl) (by decide) q1443 dX7_named_103 ?_
        refine lv_iload_n hx hb dX7_named_106 rfl (lv_at hl 1 rfl) ?_
        refine lv_aload_n hx hb dX7_named_107 rfl (lv_at hl 0 rfl) ?_
        refine zm_gf C hG 2 hf (Nat.le_of_ble_eq_true rfl) rfl q1445 dX7_named_108 (fun v108 hf => ?_)
        refine zm_as C hG 0 hf (Nat.le_of_ble_eq_true rfl) rfl dX7_named_111 (fun S H locs hG hf => ?_)
        refine lv_iconst (v := zi 0) hx hb dX7_named_112 rfl ?_
        refine lv_istore_n (lv' := [(3, .int (zi 0)), (0, .ref (G_m Γ 0)), (1, .int a1), (2, .int e4)]) hx hb dX7_named_113 rfl hl (Nat.le_of_ble_eq_true rfl) rfl (fun ls hl => ?_)
        obtain ⟨e114, S, hlp, hf⟩ := nB_some hf
        refine mRg.loop (wm_named_l114 Γ l a1) (zi 0) p e R s m args below meth c Q A _ _ _ _ _ _ C hG ⟨ls, rfl, lv_sub hl [1, 2, 0] rfl⟩ hlp (fun H locs g hL hG => ?_)
        obtain ⟨ls, rfl, hl⟩ := hL
        have hl : lv_has ls 4 [(0, .ref (G_m Γ 0))] := hl
        exact wm_named_j146 Γ l p e R s m args below meth c Q A _ _ _ _ _ _ C hG ⟨ls, rfl, lv_sub hl [0] rfl⟩ hf kk
      · have hf := z_f c79 hf
        refine lv_aload_n hx hb dX7_named_82 rfl (lv_at hl 0 rfl) ?_
        refine zm_ga C hG 0 (Nat.le_of_ble_eq_true rfl) (by decide) q1443 dX7_named_83 ?_
        refine lv_bipush (v := zi 7) hx hb dX7_named_86 (by decide +kernel) ?_
        refine lv_iconst (v := zi 2) hx hb dX7_named_88 rfl ?_
        refine zm_as C hG 0 hf (Nat.le_of_ble_eq_true rfl) rfl dX7_named_89 (fun S H locs hG hf => ?_)
        refine lv_aload_n hx hb dX7_named_90 rfl (lv_at hl 0 rfl) ?_
        refine zm_ga C hG 0 (Nat.le_of_ble_eq_true rfl) (by decide) q1443 dX7_named_91 ?_
        refine lv_bipush (v := zi 8) hx hb dX7_named_94 (by decide +kernel) ?_
        refine lv_bipush (v := zi 12) hx hb dX7_named_96 (by decide +kernel) ?_
        refine zm_as C hG 0 hf (Nat.le_of_ble_eq_true rfl) rfl dX7_named_98 (fun S H locs hG hf => ?_)
        refine lv_goto (tgt := 146) hx hb dX7_named_99 (by decide) ?_
        exact wm_named_j146 Γ l p e R s m args below meth c Q A _ _ _ _ _ _ C hG ⟨ls, rfl, lv_sub hl [0] rfl⟩ hf kk
    · have hf := z_t c43 hf
      exact wm_named_j46 Γ l e4 p e R s m args below meth c Q A _ _ _ _ _ _ C hG ⟨ls, rfl, lv_sub hl [0, 2] rfl⟩ hf kk
theorem ctm_named (Γ : zG) (l : Launch) (a1 : Int32) : mCt Γ l yX7_named (ws_ yX7_named cX7_named 4 (some .boolean)) 2 40 [.ref (G_m Γ 0), .int a1] (m_named a1) zoi := mCt.mkz (by decide +kernel) (Nat.le_of_ble_eq_true rfl) (wm_named Γ l a1)
theorem ytm_named : yX7_named.cls = RX7 ∧ yX7_named.cls ≠ "java/lang/invoke/MethodHandle" ∧ yX7_named.cls ≠ "java/lang/invoke/VarHandle" ∧ (parseMethodDescriptor yX7_named.desc).map (fun d => d.parameters.length) = some 1 := by decide +kernel
set_option maxHeartbeats 4000000 in
theorem wm_house (Γ : zG) (l : Launch) : mRg Γ l yX7_house cX7_house 1 (some .int) 3 63 (m_house) (zAt0 1 0 (lv_args 0 [.ref (G_m Γ 0)]) []) (zLi cX7_house) := by
  intro p e R s m args below meth c Q A S H locs x S' g C hG hI hf kk
  obtain ⟨ls, rfl, hl⟩ := hI
  obtain ⟨⟨hx, hb, hml, hown, hts⟩, hr, hlk, hK, hR1, hR2⟩ := id C
  have C : zCx Γ p R s m args meth c cX7_house 1 RX7 (some .int) 3 63 := C
  have hl : lv_has ls 1 [(0, .ref (G_m Γ 0))] := hl
  refine lv_aload_n hx hb dX7_house_0 rfl (lv_at hl 0 rfl) ?_
  refine zm_cvv (As := []) (rest := []) C hG hf (ctm_begins Γ l) (lw_V q1604 q1606 qs41 q107 q1607) ytm_begins rfl rfl (Nat.le_of_ble_eq_true rfl) (Nat.le_of_ble_eq_true rfl) hl.1 (Nat.le_of_ble_eq_true rfl) dX7_house_1 (fun S H locs hG hf => ?_)
  refine lv_aload_n hx hb dX7_house_4 rfl (lv_at hl 0 rfl) ?_
  refine zm_ga C hG 0 (Nat.le_of_ble_eq_true rfl) (by decide) q1443 dX7_house_5 ?_
  refine lv_iconst (v := zi 0) hx hb dX7_house_8 rfl ?_
  refine zm_al C hG 0 hf (Nat.le_of_ble_eq_true rfl) rfl dX7_house_9 (fun v9 hf => ?_)
  refine lv_iconst (v := zi 5) hx hb dX7_house_10 rfl ?_
  refine lv_icmp_ne (tgt := 17) hx hb dX7_house_11 (by decide) (fun c11 => ?_) (fun c11 => ?_)
  · have hf := z_f c11 hf
    refine lv_aload_n hx hb dX7_house_17 rfl (lv_at hl 0 rfl) ?_
    refine lv_aload_n hx hb dX7_house_18 rfl (lv_at hl 0 rfl) ?_
    refine zm_ga C hG 0 (Nat.le_of_ble_eq_true rfl) (by decide) q1443 dX7_house_19 ?_
    refine lv_iconst (v := zi 0) hx hb dX7_house_22 rfl ?_
    refine zm_al C hG 0 hf (Nat.le_of_ble_eq_true rfl) rfl dX7_house_23 (fun v23 hf => ?_)
    refine zm_csi (As := [.int v23]) (rest := [.ref (G_m Γ 0)]) C hG hf (ctm_houseAt Γ l v23) (lw_S q1615 q1616 q107 q1617) ytm_houseAt rfl rfl (Nat.le_of_ble_eq_true rfl) (Nat.le_of_ble_eq_true rfl) hl.1 (Nat.le_of_ble_eq_true rfl) dX7_house_24 (fun v24 S H locs hG hf => ?_)
    refine zm_cvi (As := [.int v24]) (rest := []) C hG hf (ctm_named Γ l v24) (lw_V q1690 q1692 qs53 q107 q1693) ytm_named rfl rfl (Nat.le_of_ble_eq_true rfl) (Nat.le_of_ble_eq_true rfl) hl.1 (Nat.le_of_ble_eq_true rfl) dX7_house_27 (fun v27 S H locs hG hf => ?_)
    refine lv_if_ne (tgt := 35) hx hb dX7_house_30 (by decide) (fun c30 => ?_) (fun c30 => ?_)
    · have hf := z_f c30 hf
      refine lv_aload_n hx hb dX7_house_35 rfl (lv_at hl 0 rfl) ?_
      refine zm_ga C hG 0 (Nat.le_of_ble_eq_true rfl) (by decide) q1443 dX7_house_36 ?_
      refine lv_aload_n hx hb dX7_house_39 rfl (lv_at hl 0 rfl) ?_
      refine zm_ga C hG 0 (Nat.le_of_ble_eq_true rfl) (by decide) q1443 dX7_house_40 ?_
      refine lv_iconst (v := zi 0) hx hb dX7_house_43 rfl ?_
      refine zm_al C hG 0 hf (Nat.le_of_ble_eq_true rfl) rfl dX7_house_44 (fun v44 hf => ?_)
      refine zm_csi (As := [.int v44]) (rest := [.ref (G_m Γ (0 + 1))]) C hG hf (ctm_houseAt Γ l v44) (lw_S q1615 q1616 q107 q1617) ytm_houseAt rfl rfl (Nat.le_of_ble_eq_true rfl) (Nat.le_of_ble_eq_true rfl) hl.1 (Nat.le_of_ble_eq_true rfl) dX7_house_45 (fun v45 S H locs hG hf => ?_)
      refine lv_bipush (v := zi 13) hx hb dX7_house_48 (by decide +kernel) ?_
      refine lv_iadd hx hb dX7_house_50 ?_
      refine lv_iconst (v := zi 0) hx hb dX7_house_51 rfl ?_
      refine zm_as C hG 0 hf (Nat.le_of_ble_eq_true rfl) rfl dX7_house_52 (fun S H locs hG hf => ?_)
      refine lv_aload_n hx hb dX7_house_53 rfl (lv_at hl 0 rfl) ?_
      refine zm_ga C hG 0 (Nat.le_of_ble_eq_true rfl) (by decide) q1443 dX7_house_54 ?_
      refine lv_aload_n hx hb dX7_house_57 rfl (lv_at hl 0 rfl) ?_
      refine zm_ga C hG 0 (Nat.le_of_ble_eq_true rfl) (by decide) q1443 dX7_house_58 ?_
      refine lv_iconst (v := zi 0) hx hb dX7_house_61 rfl ?_
      refine zm_al C hG 0 hf (Nat.le_of_ble_eq_true rfl) rfl dX7_house_62 (fun v62 hf => ?_)
      refine zm_csi (As := [.int v62]) (rest := [.ref (G_m Γ (0 + 1))]) C hG hf (ctm_houseAt Γ l v62) (lw_S q1615 q1616 q107 q1617) ytm_houseAt rfl rfl (Nat.le_of_ble_eq_true rfl) (Nat.le_of_ble_eq_true rfl) hl.1 (Nat.le_of_ble_eq_true rfl) dX7_house_63 (fun v63 S H locs hG hf => ?_)
      refine lv_sipush (v := zi 159) hx hb dX7_house_66 (by decide +kernel) ?_
      refine lv_iadd hx hb dX7_house_69 ?_
      refine lv_iconst (v := zi 0) hx hb dX7_house_70 rfl ?_
      refine zm_as C hG 0 hf (Nat.le_of_ble_eq_true rfl) rfl dX7_house_71 (fun S H locs hG hf => ?_)
      refine lv_aload_n hx hb dX7_house_72 rfl (lv_at hl 0 rfl) ?_
      refine zm_ga C hG 0 (Nat.le_of_ble_eq_true rfl) (by decide) q1443 dX7_house_73 ?_
      refine lv_iconst (v := zi 0) hx hb dX7_house_76 rfl ?_
      refine lv_dup2_11 hx hb dX7_house_77 rfl rfl ?_
      refine zm_al C hG 0 hf (Nat.le_of_ble_eq_true rfl) rfl dX7_house_78 (fun v78 hf => ?_)
      refine lv_iconst (v := zi 1) hx hb dX7_house_79 rfl ?_
      refine lv_iadd hx hb dX7_house_80 ?_
      refine zm_as C hG 0 hf (Nat.le_of_ble_eq_true rfl) rfl dX7_house_81 (fun S H locs hG hf => ?_)
      refine lv_aload_n hx hb dX7_house_82 rfl (lv_at hl 0 rfl) ?_
      refine zm_ga C hG 0 (Nat.le_of_ble_eq_true rfl) (by decide) q1443 dX7_house_83 ?_
      refine lv_iconst (v := zi 0) hx hb dX7_house_86 rfl ?_
      refine zm_al C hG 0 hf (Nat.le_of_ble_eq_true rfl) rfl dX7_house_87 (fun v87 hf => ?_)
      refine lv_iconst (v := zi 1) hx hb dX7_house_88 rfl ?_
      refine lv_isub hx hb dX7_house_89 ?_
      obtain ⟨rfl, rfl⟩ := z_p hf
      exact kk _ _ _ ⟨_, _, rfl, dX7_house_90⟩ hG
    · have hf := z_t c30 hf
      refine lv_iconst (v := zi (-1)) hx hb dX7_house_33 rfl ?_
      obtain ⟨rfl, rfl⟩ := z_p hf
      exact kk _ _ _ ⟨_, _, rfl, dX7_house_34⟩ hG
  · have hf := z_t c11 hf
    refine lv_bipush (v := zi (-2)) hx hb dX7_house_14 (by decide +kernel) ?_
    obtain ⟨rfl, rfl⟩ := z_p hf
    exact kk _ _ _ ⟨_, _, rfl, dX7_house_16⟩ hG
theorem ctm_house (Γ : zG) (l : Launch) : mCt Γ l yX7_house (ws_ yX7_house cX7_house 1 (some .int)) 3 63 [.ref (G_m Γ 0)] (m_house) zoi := mCt.mki (by decide +kernel) (Nat.le_of_ble_eq_true rfl) (wm_house Γ l)
theorem ytm_house : yX7_house.cls = RX7 ∧ yX7_house.cls ≠ "java/lang/invoke/MethodHandle" ∧ yX7_house.cls ≠ "java/lang/invoke/VarHandle" ∧ (parseMethodDescriptor yX7_house.desc).map (fun d => d.parameters.length) = some 0 := by decide +kernel
set_option maxHeartbeats 4000000 in
theorem wm_isPage (Γ : zG) (l : Launch) (a1 : Int32) : mRg Γ l yX7_isPage cX7_isPage 2 (some .boolean) 1 22 (m_isPage a1) (zAt0 2 0 (lv_args 0 [.ref (G_m Γ 0), .int a1]) []) (zLz cX7_isPage) := by
  intro p e R s m args below meth c Q A S H locs x S' g C hG hI hf kk
  obtain ⟨ls, rfl, hl⟩ := hI
  obtain ⟨⟨hx, hb, hml, hown, hts⟩, hr, hlk, hK, hR1, hR2⟩ := id C
  have C : zCx Γ p R s m args meth c cX7_isPage 2 RX7 (some .boolean) 1 22 := C
  have hl : lv_has ls 2 [(0, .ref (G_m Γ 0)), (1, .int a1)] := hl
  refine lv_iload_n hx hb dX7_isPage_0 rfl (lv_at hl 1 rfl) ?_
  refine lv_iconst (v := zi 0) hx hb dX7_isPage_1 rfl ?_
  refine lv_aload_n hx hb dX7_isPage_2 rfl (lv_at hl 0 rfl) ?_
  refine zm_ga C hG 0 (Nat.le_of_ble_eq_true rfl) (by decide) q1443 dX7_isPage_3 ?_
  refine lv_iconst (v := zi 1) hx hb dX7_isPage_6 rfl ?_
  refine zm_al C hG 0 hf (Nat.le_of_ble_eq_true rfl) rfl dX7_isPage_7 (fun v7 hf => ?_)
  refine lv_iconst (v := zi 1) hx hb dX7_isPage_8 rfl ?_
  refine lv_isub hx hb dX7_isPage_9 ?_
  refine zm_csi (As := [.int a1, .int (zi 0), .int (v7 - (zi 1))]) (rest := []) C hG hf (ctm_isIn Γ l a1 (zi 0) (v7 - (zi 1))) (lw_S q1612 q1613 q107 q1614) ytm_isIn rfl rfl (Nat.le_of_ble_eq_true rfl) (Nat.le_of_ble_eq_true rfl) hl.1 (Nat.le_of_ble_eq_true rfl) dX7_isPage_10 (fun v10 S H locs hG hf => ?_)
  obtain ⟨hz, hf⟩ := z_c hf
  obtain ⟨rfl, rfl⟩ := z_p hf
  exact kk _ _ _ ⟨_, _, rfl, dX7_isPage_13, hz⟩ hG
theorem ctm_isPage (Γ : zG) (l : Launch) (a1 : Int32) : mCt Γ l yX7_isPage (ws_ yX7_isPage cX7_isPage 2 (some .boolean)) 1 22 [.ref (G_m Γ 0), .int a1] (m_isPage a1) zoi := mCt.mkz (by decide +kernel) (Nat.le_of_ble_eq_true rfl) (wm_isPage Γ l a1)
theorem ytm_isPage : yX7_isPage.cls = RX7 ∧ yX7_isPage.cls ≠ "java/lang/invoke/MethodHandle" ∧ yX7_isPage.cls ≠ "java/lang/invoke/VarHandle" ∧ (parseMethodDescriptor yX7_isPage.desc).map (fun d => d.parameters.length) = some 1 := by decide +kernel
set_option maxHeartbeats 4000000 in
theorem wm_name (Γ : zG) (l : Launch) (a1 : Int32) : mRg Γ l yX7_name cX7_name 2 (some .boolean) 3 63 (m_name a1) (zAt0 2 0 (lv_args 0 [.ref (G_m Γ 0), .int a1]) []) (zLz cX7_name) := by
  intro p e R s m args below meth c Q A S H locs x S' g C hG hI hf kk
  obtain ⟨ls, rfl, hl⟩ := hI
  obtain ⟨⟨hx, hb, hml, hown, hts⟩, hr, hlk, hK, hR1, hR2⟩ := id C
  have C : zCx Γ p R s m args meth c cX7_name 2 RX7 (some .boolean) 3 63 := C
  have hl : lv_has ls 2 [(0, .ref (G_m Γ 0)), (1, .int a1)] := hl
  refine lv_aload_n hx hb dX7_name_0 rfl (lv_at hl 0 rfl) ?_
  refine zm_cvv (As := []) (rest := []) C hG hf (ctm_begins Γ l) (lw_V q1604 q1606 qs41 q107 q1607) ytm_begins rfl rfl (Nat.le_of_ble_eq_true rfl) (Nat.le_of_ble_eq_true rfl) hl.1 (Nat.le_of_ble_eq_true rfl) dX7_name_1 (fun S H locs hG hf => ?_)
  refine lv_aload_n hx hb dX7_name_4 rfl (lv_at hl 0 rfl) ?_
  refine lv_iload_n hx hb dX7_name_5 rfl (lv_at hl 1 rfl) ?_
  refine zm_cvi (As := [.int a1]) (rest := []) C hG hf (ctm_isPage Γ l a1) (lw_V q1701 q1703 qs54 q107 q1704) ytm_isPage rfl rfl (Nat.le_of_ble_eq_true rfl) (Nat.le_of_ble_eq_true rfl) hl.1 (Nat.le_of_ble_eq_true rfl) dX7_name_6 (fun v6 S H locs hG hf => ?_)
  refine lv_if_eq (tgt := 27) hx hb dX7_name_9 (by decide) (fun c9 => ?_) (fun c9 => ?_)
  · have hf := z_t c9 hf
    refine lv_iconst (v := zi 0) hx hb dX7_name_27 rfl ?_
    obtain ⟨rfl, rfl⟩ := z_p hf
    exact kk _ _ _ ⟨_, _, rfl, dX7_name_28, Or.inl rfl⟩ hG
  · have hf := z_f c9 hf
    refine lv_aload_n hx hb dX7_name_12 rfl (lv_at hl 0 rfl) ?_
    refine lv_iload_n hx hb dX7_name_13 rfl (lv_at hl 1 rfl) ?_
    refine zm_csi (As := [.int a1]) (rest := [.ref (G_m Γ 0)]) C hG hf (ctm_pageAt Γ l a1) (lw_S q1683 q1684 q107 q1685) ytm_pageAt rfl rfl (Nat.le_of_ble_eq_true rfl) (Nat.le_of_ble_eq_true rfl) hl.1 (Nat.le_of_ble_eq_true rfl) dX7_name_14 (fun v14 S H locs hG hf => ?_)
    refine zm_cvi (As := [.int v14]) (rest := []) C hG hf (ctm_named Γ l v14) (lw_V q1690 q1692 qs53 q107 q1693) ytm_named rfl rfl (Nat.le_of_ble_eq_true rfl) (Nat.le_of_ble_eq_true rfl) hl.1 (Nat.le_of_ble_eq_true rfl) dX7_name_17 (fun v17 S H locs hG hf => ?_)
    refine lv_if_eq (tgt := 27) hx hb dX7_name_20 (by decide) (fun c20 => ?_) (fun c20 => ?_)
    · have hf := z_t c20 hf
      refine lv_iconst (v := zi 0) hx hb dX7_name_27 rfl ?_
      obtain ⟨rfl, rfl⟩ := z_p hf
      exact kk _ _ _ ⟨_, _, rfl, dX7_name_28, Or.inl rfl⟩ hG
    · have hf := z_f c20 hf
      refine lv_iconst (v := zi 1) hx hb dX7_name_23 rfl ?_
      refine lv_goto (tgt := 28) hx hb dX7_name_24 (by decide) ?_
      obtain ⟨rfl, rfl⟩ := z_p hf
      exact kk _ _ _ ⟨_, _, rfl, dX7_name_28, Or.inr rfl⟩ hG
theorem ctm_name (Γ : zG) (l : Launch) (a1 : Int32) : mCt Γ l yX7_name (ws_ yX7_name cX7_name 2 (some .boolean)) 3 63 [.ref (G_m Γ 0), .int a1] (m_name a1) zoi := mCt.mkz (by decide +kernel) (Nat.le_of_ble_eq_true rfl) (wm_name Γ l a1)
theorem ytm_name : yX7_name.cls = RX7 ∧ yX7_name.cls ≠ "java/lang/invoke/MethodHandle" ∧ yX7_name.cls ≠ "java/lang/invoke/VarHandle" ∧ (parseMethodDescriptor yX7_name.desc).map (fun d => d.parameters.length) = some 1 := by decide +kernel
set_option maxHeartbeats 4000000 in
theorem wm_fault (Γ : zG) (l : Launch) (a1 : Int32) : mRg Γ l yX7_fault cX7_fault 2 (some .int) 0 0 (m_fault a1) (zAt0 2 0 (lv_args 0 [.ref (G_m Γ 0), .int a1]) []) (zLi cX7_fault) := by
  intro p e R s m args below meth c Q A S H locs x S' g C hG hI hf kk
  obtain ⟨ls, rfl, hl⟩ := hI
  obtain ⟨⟨hx, hb, hml, hown, hts⟩, hr, hlk, hK, hR1, hR2⟩ := id C
  have C : zCx Γ p R s m args meth c cX7_fault 2 RX7 (some .int) 0 0 := C
  have hl : lv_has ls 2 [(0, .ref (G_m Γ 0)), (1, .int a1)] := hl
  refine lv_iload_n hx hb dX7_fault_0 rfl (lv_at hl 1 rfl) ?_
  refine lv_if_ne (tgt := 14) hx hb dX7_fault_1 (by decide) (fun c1 => ?_) (fun c1 => ?_)
  · have hf := z_f c1 hf
    refine lv_iload_n hx hb dX7_fault_14 rfl (lv_at hl 1 rfl) ?_
    refine lv_iconst (v := zi 1) hx hb dX7_fault_15 rfl ?_
    refine lv_icmp_ne (tgt := 29) hx hb dX7_fault_16 (by decide) (fun c16 => ?_) (fun c16 => ?_)
    · have hf := z_f c16 hf
      refine lv_iconst (v := zi (-1)) hx hb dX7_fault_29 rfl ?_
      obtain ⟨rfl, rfl⟩ := z_p hf
      exact kk _ _ _ ⟨_, _, rfl, dX7_fault_30⟩ hG
    · have hf := z_t c16 hf
      refine lv_aload_n hx hb dX7_fault_19 rfl (lv_at hl 0 rfl) ?_
      refine zm_ga C hG 0 (Nat.le_of_ble_eq_true rfl) (by decide) q1443 dX7_fault_20 ?_
      refine lv_bipush (v := zi 8) hx hb dX7_fault_23 (by decide +kernel) ?_
      refine zm_al C hG 0 hf (Nat.le_of_ble_eq_true rfl) rfl dX7_fault_25 (fun v25 hf => ?_)
      refine lv_goto (tgt := 30) hx hb dX7_fault_26 (by decide) ?_
      obtain ⟨rfl, rfl⟩ := z_p hf
      exact kk _ _ _ ⟨_, _, rfl, dX7_fault_30⟩ hG
  · have hf := z_t c1 hf
    refine lv_aload_n hx hb dX7_fault_4 rfl (lv_at hl 0 rfl) ?_
    refine zm_ga C hG 0 (Nat.le_of_ble_eq_true rfl) (by decide) q1443 dX7_fault_5 ?_
    refine lv_bipush (v := zi 7) hx hb dX7_fault_8 (by decide +kernel) ?_
    refine zm_al C hG 0 hf (Nat.le_of_ble_eq_true rfl) rfl dX7_fault_10 (fun v10 hf => ?_)
    refine lv_goto (tgt := 30) hx hb dX7_fault_11 (by decide) ?_
    obtain ⟨rfl, rfl⟩ := z_p hf
    exact kk _ _ _ ⟨_, _, rfl, dX7_fault_30⟩ hG
theorem ctm_fault (Γ : zG) (l : Launch) (a1 : Int32) : mCt Γ l yX7_fault (ws_ yX7_fault cX7_fault 2 (some .int)) 0 0 [.ref (G_m Γ 0), .int a1] (m_fault a1) zoi := mCt.mki (by decide +kernel) (Nat.le_of_ble_eq_true rfl) (wm_fault Γ l a1)
theorem ytm_fault : yX7_fault.cls = RX7 ∧ yX7_fault.cls ≠ "java/lang/invoke/MethodHandle" ∧ yX7_fault.cls ≠ "java/lang/invoke/VarHandle" ∧ (parseMethodDescriptor yX7_fault.desc).map (fun d => d.parameters.length) = some 1 := by decide +kernel
set_option maxHeartbeats 4000000 in
theorem wm_alike (Γ : zG) (l : Launch) (a1 : Int32) (a2 : Int32) (a3 : Int32) : mRg Γ l yX7_alike cX7_alike 4 (some .boolean) 2 40 (m_alike a1 a2 a3) (zAt0 4 0 (lv_args 0 [.ref (G_m Γ 0), .int a1, .int a2, .int a3]) []) (zLz cX7_alike) := by
  intro p e R s m args below meth c Q A S H locs x S' g C hG hI hf kk
  obtain ⟨ls, rfl, hl⟩ := hI
  obtain ⟨⟨hx, hb, hml, hown, hts⟩, hr, hlk, hK, hR1, hR2⟩ := id C
  have C : zCx Γ p R s m args meth c cX7_alike 4 RX7 (some .boolean) 2 40 := C
  have hl : lv_has ls 4 [(0, .ref (G_m Γ 0)), (1, .int a1), (2, .int a2), (3, .int a3)] := hl
  refine lv_iload_n hx hb dX7_alike_0 rfl (lv_at hl 1 rfl) ?_
  refine zm_csi (As := [.int a1]) (rest := []) C hG hf (ctm_signOf Γ l a1) (lw_S q1694 q1695 q107 q1696) ytm_signOf rfl rfl (Nat.le_of_ble_eq_true rfl) (Nat.le_of_ble_eq_true rfl) hl.1 (Nat.le_of_ble_eq_true rfl) dX7_alike_1 (fun v1 S H locs hG hf => ?_)
  refine lv_if_lt (tgt := 29) hx hb dX7_alike_4 (by decide) (fun c4 => ?_) (fun c4 => ?_)
  · have hf := z_t c4 hf
    refine lv_iconst (v := zi 0) hx hb dX7_alike_29 rfl ?_
    obtain ⟨rfl, rfl⟩ := z_p hf
    exact kk _ _ _ ⟨_, _, rfl, dX7_alike_30, Or.inl rfl⟩ hG
  · have hf := z_f c4 hf
    refine lv_iload_n hx hb dX7_alike_7 rfl (lv_at hl 2 rfl) ?_
    refine zm_csi (As := [.int a2]) (rest := []) C hG hf (ctm_signOf Γ l a2) (lw_S q1694 q1695 q107 q1696) ytm_signOf rfl rfl (Nat.le_of_ble_eq_true rfl) (Nat.le_of_ble_eq_true rfl) hl.1 (Nat.le_of_ble_eq_true rfl) dX7_alike_8 (fun v8 S H locs hG hf => ?_)
    refine lv_if_lt (tgt := 29) hx hb dX7_alike_11 (by decide) (fun c11 => ?_) (fun c11 => ?_)
    · have hf := z_t c11 hf
      refine lv_iconst (v := zi 0) hx hb dX7_alike_29 rfl ?_
      obtain ⟨rfl, rfl⟩ := z_p hf
      exact kk _ _ _ ⟨_, _, rfl, dX7_alike_30, Or.inl rfl⟩ hG
    · have hf := z_f c11 hf
      refine lv_iload_n hx hb dX7_alike_14 rfl (lv_at hl 1 rfl) ?_
      refine lv_iload_n hx hb dX7_alike_15 rfl (lv_at hl 2 rfl) ?_
      refine lv_icmp_eq (tgt := 29) hx hb dX7_alike_16 (by decide) (fun c16 => ?_) (fun c16 => ?_)
      · have hf := z_t c16 hf
        refine lv_iconst (v := zi 0) hx hb dX7_alike_29 rfl ?_
        obtain ⟨rfl, rfl⟩ := z_p hf
        exact kk _ _ _ ⟨_, _, rfl, dX7_alike_30, Or.inl rfl⟩ hG
      · have hf := z_f c16 hf
        refine lv_iload_n hx hb dX7_alike_19 rfl (lv_at hl 3 rfl) ?_
        refine lv_iconst (v := zi 1) hx hb dX7_alike_20 rfl ?_
        refine lv_bipush (v := zi 6) hx hb dX7_alike_21 (by decide +kernel) ?_
        refine zm_csi (As := [.int a3, .int (zi 1), .int (zi 6)]) (rest := []) C hG hf (ctm_isIn Γ l a3 (zi 1) (zi 6)) (lw_S q1612 q1613 q107 q1614) ytm_isIn rfl rfl (Nat.le_of_ble_eq_true rfl) (Nat.le_of_ble_eq_true rfl) hl.1 (Nat.le_of_ble_eq_true rfl) dX7_alike_23 (fun v23 S H locs hG hf => ?_)
        refine lv_if_ne (tgt := 31) hx hb dX7_alike_26 (by decide) (fun c26 => ?_) (fun c26 => ?_)
        · have hf := z_f c26 hf
          refine lv_aload_n hx hb dX7_alike_31 rfl (lv_at hl 0 rfl) ?_
          refine zm_ga C hG 0 (Nat.le_of_ble_eq_true rfl) (by decide) q1443 dX7_alike_32 ?_
          refine lv_sipush (v := zi 570) hx hb dX7_alike_35 (by decide +kernel) ?_
          refine lv_bipush (v := zi 36) hx hb dX7_alike_38 (by decide +kernel) ?_
          refine lv_iload_n hx hb dX7_alike_40 rfl (lv_at hl 1 rfl) ?_
          refine zm_csi (As := [.int a1]) (rest := [.int (zi 36), .int (zi 570), .ref (G_m Γ (0 + 1))]) C hG hf (ctm_signOf Γ l a1) (lw_S q1694 q1695 q107 q1696) ytm_signOf rfl rfl (Nat.le_of_ble_eq_true rfl) (Nat.le_of_ble_eq_true rfl) hl.1 (Nat.le_of_ble_eq_true rfl) dX7_alike_41 (fun v41 S H locs hG hf => ?_)
          refine lv_imul hx hb dX7_alike_44 ?_
          refine lv_iadd hx hb dX7_alike_45 ?_
          refine lv_iload_n hx hb dX7_alike_46 rfl (lv_at hl 2 rfl) ?_
          refine zm_csi (As := [.int a2]) (rest := [.int ((zi 570) + ((zi 36) * v41)), .ref (G_m Γ (0 + 1))]) C hG hf (ctm_signOf Γ l a2) (lw_S q1694 q1695 q107 q1696) ytm_signOf rfl rfl (Nat.le_of_ble_eq_true rfl) (Nat.le_of_ble_eq_true rfl) hl.1 (Nat.le_of_ble_eq_true rfl) dX7_alike_47 (fun v47 S H locs hG hf => ?_)
          refine lv_iadd hx hb dX7_alike_50 ?_
          refine lv_iload_n hx hb dX7_alike_51 rfl (lv_at hl 3 rfl) ?_
          refine zm_as C hG 0 hf (Nat.le_of_ble_eq_true rfl) rfl dX7_alike_52 (fun S H locs hG hf => ?_)
          refine lv_aload_n hx hb dX7_alike_53 rfl (lv_at hl 0 rfl) ?_
          refine zm_ga C hG 0 (Nat.le_of_ble_eq_true rfl) (by decide) q1443 dX7_alike_54 ?_
          refine lv_sipush (v := zi 570) hx hb dX7_alike_57 (by decide +kernel) ?_
          refine lv_bipush (v := zi 36) hx hb dX7_alike_60 (by decide +kernel) ?_
          refine lv_iload_n hx hb dX7_alike_62 rfl (lv_at hl 2 rfl) ?_
          refine zm_csi (As := [.int a2]) (rest := [.int (zi 36), .int (zi 570), .ref (G_m Γ (0 + 1))]) C hG hf (ctm_signOf Γ l a2) (lw_S q1694 q1695 q107 q1696) ytm_signOf rfl rfl (Nat.le_of_ble_eq_true rfl) (Nat.le_of_ble_eq_true rfl) hl.1 (Nat.le_of_ble_eq_true rfl) dX7_alike_63 (fun v63 S H locs hG hf => ?_)
          refine lv_imul hx hb dX7_alike_66 ?_
          refine lv_iadd hx hb dX7_alike_67 ?_
          refine lv_iload_n hx hb dX7_alike_68 rfl (lv_at hl 1 rfl) ?_
          refine zm_csi (As := [.int a1]) (rest := [.int ((zi 570) + ((zi 36) * v63)), .ref (G_m Γ (0 + 1))]) C hG hf (ctm_signOf Γ l a1) (lw_S q1694 q1695 q107 q1696) ytm_signOf rfl rfl (Nat.le_of_ble_eq_true rfl) (Nat.le_of_ble_eq_true rfl) hl.1 (Nat.le_of_ble_eq_true rfl) dX7_alike_69 (fun v69 S H locs hG hf => ?_)
          refine lv_iadd hx hb dX7_alike_72 ?_
          refine lv_iload_n hx hb dX7_alike_73 rfl (lv_at hl 3 rfl) ?_
          refine zm_as C hG 0 hf (Nat.le_of_ble_eq_true rfl) rfl dX7_alike_74 (fun S H locs hG hf => ?_)
          refine lv_iconst (v := zi 1) hx hb dX7_alike_75 rfl ?_
          obtain ⟨rfl, rfl⟩ := z_p hf
          exact kk _ _ _ ⟨_, _, rfl, dX7_alike_76, Or.inr rfl⟩ hG
        · have hf := z_t c26 hf
          refine lv_iconst (v := zi 0) hx hb dX7_alike_29 rfl ?_
          obtain ⟨rfl, rfl⟩ := z_p hf
          exact kk _ _ _ ⟨_, _, rfl, dX7_alike_30, Or.inl rfl⟩ hG
theorem ctm_alike (Γ : zG) (l : Launch) (a1 : Int32) (a2 : Int32) (a3 : Int32) : mCt Γ l yX7_alike (ws_ yX7_alike cX7_alike 4 (some .boolean)) 2 40 [.ref (G_m Γ 0), .int a1, .int a2, .int a3] (m_alike a1 a2 a3) zoi := mCt.mkz (by decide +kernel) (Nat.le_of_ble_eq_true rfl) (wm_alike Γ l a1 a2 a3)
theorem ytm_alike : yX7_alike.cls = RX7 ∧ yX7_alike.cls ≠ "java/lang/invoke/MethodHandle" ∧ yX7_alike.cls ≠ "java/lang/invoke/VarHandle" ∧ (parseMethodDescriptor yX7_alike.desc).map (fun d => d.parameters.length) = some 3 := by decide +kernel
set_option maxHeartbeats 4000000 in
theorem wm_lesser (Γ : zG) (l : Launch) (a0 : Int32) (a1 : Int32) : mRg Γ l yX7_lesser cX7_lesser 2 (some .int) 0 0 (m_lesser a0 a1) (zAt0 2 0 (lv_args 0 [.int a0, .int a1]) []) (zLi cX7_lesser) := by
  intro p e R s m args below meth c Q A S H locs x S' g C hG hI hf kk
  obtain ⟨ls, rfl, hl⟩ := hI
  obtain ⟨⟨hx, hb, hml, hown, hts⟩, hr, hlk, hK, hR1, hR2⟩ := id C
  have C : zCx Γ p R s m args meth c cX7_lesser 2 RX7 (some .int) 0 0 := C
  have hl : lv_has ls 2 [(0, .int a0), (1, .int a1)] := hl
  refine lv_iload_n hx hb dX7_lesser_0 rfl (lv_at hl 0 rfl) ?_
  refine lv_iload_n hx hb dX7_lesser_1 rfl (lv_at hl 1 rfl) ?_
  refine lv_icmp_ge (tgt := 9) hx hb dX7_lesser_2 (by decide) (fun c2 => ?_) (fun c2 => ?_)
  · have hf := z_t c2 hf
    refine lv_iload_n hx hb dX7_lesser_9 rfl (lv_at hl 1 rfl) ?_
    obtain ⟨rfl, rfl⟩ := z_p hf
    exact kk _ _ _ ⟨_, _, rfl, dX7_lesser_10⟩ hG
  · have hf := z_f c2 hf
    refine lv_iload_n hx hb dX7_lesser_5 rfl (lv_at hl 0 rfl) ?_
    refine lv_goto (tgt := 10) hx hb dX7_lesser_6 (by decide) ?_
    obtain ⟨rfl, rfl⟩ := z_p hf
    exact kk _ _ _ ⟨_, _, rfl, dX7_lesser_10⟩ hG
theorem ctm_lesser (Γ : zG) (l : Launch) (a0 : Int32) (a1 : Int32) : mCt Γ l yX7_lesser (ws_ yX7_lesser cX7_lesser 2 (some .int)) 0 0 [.int a0, .int a1] (m_lesser a0 a1) zoi := mCt.mki (by decide +kernel) (Nat.le_of_ble_eq_true rfl) (wm_lesser Γ l a0 a1)
theorem ytm_lesser : yX7_lesser.cls = RX7 ∧ yX7_lesser.cls ≠ "java/lang/invoke/MethodHandle" ∧ yX7_lesser.cls ≠ "java/lang/invoke/VarHandle" ∧ (parseMethodDescriptor yX7_lesser.desc).map (fun d => d.parameters.length) = some 2 := by decide +kernel
set_option maxHeartbeats 4000000 in
theorem wm_priceOf (Γ : zG) (l : Launch) (a1 : Int32) (a2 : Int32) : mRg Γ l yX7_priceOf cX7_priceOf 4 (some .int) 0 0 (m_priceOf a1 a2) (zAt0 4 0 (lv_args 0 [.ref (G_m Γ 0), .int a1, .int a2]) []) (zLi cX7_priceOf) := by
  intro p e R s m args below meth c Q A S H locs x S' g C hG hI hf kk
  obtain ⟨ls, rfl, hl⟩ := hI
  obtain ⟨⟨hx, hb, hml, hown, hts⟩, hr, hlk, hK, hR1, hR2⟩ := id C
  have C : zCx Γ p R s m args meth c cX7_priceOf 4 RX7 (some .int) 0 0 := C
  have hl : lv_has ls 4 [(0, .ref (G_m Γ 0)), (1, .int a1), (2, .int a2)] := hl
  refine lv_aload_n hx hb dX7_priceOf_0 rfl (lv_at hl 0 rfl) ?_
  refine zm_ga C hG 0 (Nat.le_of_ble_eq_true rfl) (by decide) q1443 dX7_priceOf_1 ?_
  refine lv_sipush (v := zi 570) hx hb dX7_priceOf_4 (by decide +kernel) ?_
  refine lv_bipush (v := zi 36) hx hb dX7_priceOf_7 (by decide +kernel) ?_
  refine lv_iload_n hx hb dX7_priceOf_9 rfl (lv_at hl 1 rfl) ?_
  refine lv_imul hx hb dX7_priceOf_10 ?_
  refine lv_iadd hx hb dX7_priceOf_11 ?_
  refine lv_iload_n hx hb dX7_priceOf_12 rfl (lv_at hl 2 rfl) ?_
  refine lv_iadd hx hb dX7_priceOf_13 ?_
  refine zm_al C hG 0 hf (Nat.le_of_ble_eq_true rfl) rfl dX7_priceOf_14 (fun v14 hf => ?_)
  refine lv_istore_n (lv' := [(3, .int v14), (0, .ref (G_m Γ 0)), (1, .int a1), (2, .int a2)]) hx hb dX7_priceOf_15 rfl hl (Nat.le_of_ble_eq_true rfl) rfl (fun ls hl => ?_)
  refine lv_iload_n hx hb dX7_priceOf_16 rfl (lv_at hl 2 rfl) ?_
  refine lv_iload_n hx hb dX7_priceOf_17 rfl (lv_at hl 3 rfl) ?_
  refine lv_icmp_ne (tgt := 25) hx hb dX7_priceOf_18 (by decide) (fun c18 => ?_) (fun c18 => ?_)
  · have hf := z_f c18 hf
    refine lv_iload_n hx hb dX7_priceOf_25 rfl (lv_at hl 0 rfl) ?_
    refine lv_if_ne (tgt := 34) hx hb dX7_priceOf_26 (by decide) (fun c26 => ?_) (fun c26 => ?_)
    · have hf := z_f c26 hf
      refine lv_iload_n hx hb dX7_priceOf_34 rfl (lv_at hl 0 rfl) ?_
      obtain ⟨rfl, rfl⟩ := z_p hf
      exact kk _ _ _ ⟨_, _, rfl, dX7_priceOf_35⟩ hG
    · have hf := z_t c26 hf
      refine lv_bipush (v := zi 6) hx hb dX7_priceOf_29 (by decide +kernel) ?_
      refine lv_goto (tgt := 35) hx hb dX7_priceOf_31 (by decide) ?_
      obtain ⟨rfl, rfl⟩ := z_p hf
      exact kk _ _ _ ⟨_, _, rfl, dX7_priceOf_35⟩ hG
  · have hf := z_t c18 hf
    refine lv_iconst (v := zi 0) hx hb dX7_priceOf_21 rfl ?_
    refine lv_goto (tgt := 35) hx hb dX7_priceOf_22 (by decide) ?_
    obtain ⟨rfl, rfl⟩ := z_p hf
    exact kk _ _ _ ⟨_, _, rfl, dX7_priceOf_35⟩ hG
theorem ctm_priceOf (Γ : zG) (l : Launch) (a1 : Int32) (a2 : Int32) : mCt Γ l yX7_priceOf (ws_ yX7_priceOf cX7_priceOf 4 (some .int)) 0 0 [.ref (G_m Γ 0), .int a1, .int a2] (m_priceOf a1 a2) zoi := mCt.mki (by decide +kernel) (Nat.le_of_ble_eq_true rfl) (wm_priceOf Γ l a1 a2)
theorem ytm_priceOf : yX7_priceOf.cls = RX7 ∧ yX7_priceOf.cls ≠ "java/lang/invoke/MethodHandle" ∧ yX7_priceOf.cls ≠ "java/lang/invoke/VarHandle" ∧ (parseMethodDescriptor yX7_priceOf.desc).map (fun d => d.parameters.length) = some 2 := by decide +kernel
def im_spells_l2 (Γ : zG) (f1 : Int32) (f2 : Int32) (m : MethodId) (s : Int32) (g : JFrame) : Prop := zAt0 6 2 [(0, .ref (G_m Γ 0)), (1, .int f1), (2, .int f2), (3, .int s)] [] m g
def em_spells_l2 (Γ : zG) (f1 : Int32) (f2 : Int32) (m : MethodId) (e : Unit) (g : JFrame) : Prop := zAt0 6 259 [(0, .ref (G_m Γ 0)), (1, .int f1), (2, .int f2)] [] m g
def im_spells_l15 (Γ : zG) (f1 : Int32) (f2 : Int32) (f3 : Int32) (m : MethodId) (s : Int32) (g : JFrame) : Prop := zAt0 6 15 [(0, .ref (G_m Γ 0)), (1, .int f1), (2, .int f2), (3, .int f3), (4, .int s)] [] m g
def em_spells_l15 (Γ : zG) (f1 : Int32) (f2 : Int32) (f3 : Int32) (m : MethodId) (e : Unit) (g : JFrame) : Prop := zAt0 6 253 [(0, .ref (G_m Γ 0)), (1, .int f1), (2, .int f2), (3, .int f3)] [] m g
set_option maxHeartbeats 4000000 in
theorem wm_spells_l15_j233 (Γ : zG) (l : Launch) (b1 : Int32) (b2 : Int32) (b3 : Int32) (b4 : Int32) (b5 : Int32) : mRg Γ l yX7_spells cX7_spells 6 (some .int) 1 23 (m_spells_l15_j233 b1 b2 b3 b4 b5) (zAt0 6 233 [(0, .ref (G_m Γ 0)), (1, .int b1), (2, .int b2), (3, .int b3), (4, .int b4), (5, .int b5)] []) (zLE (im_spells_l15 Γ b1 b2 b3) (em_spells_l15 Γ b1 b2 b3)) := by
  intro p e R s m args below meth c Q A S H locs x S' g C hG hI hf kk
  obtain ⟨ls, rfl, hl⟩ := hI
  obtain ⟨⟨hx, hb, hml, hown, hts⟩, hr, hlk, hK, hR1, hR2⟩ := id C
  have C : zCx Γ p R s m args meth c cX7_spells 6 RX7 (some .int) 1 23 := C
  refine lv_aload_n hx hb dX7_spells_233 rfl (lv_at hl 0 rfl) ?_
  refine zm_ga C hG 14 (Nat.le_of_ble_eq_true rfl) (by decide) q1457 dX7_spells_234 ?_
  refine lv_bipush (v := zi 13) hx hb dX7_spells_237 (by decide +kernel) ?_
  refine lv_iload_n hx hb dX7_spells_239 rfl (lv_at hl 3 rfl) ?_
  refine lv_imul hx hb dX7_spells_240 ?_
  refine lv_iload hx hb dX7_spells_241 (lv_at hl 4 rfl) ?_
  refine lv_iadd hx hb dX7_spells_243 ?_
  refine lv_iload hx hb dX7_spells_244 (lv_at hl 5 rfl) ?_
  refine zm_as C hG 14 hf (Nat.le_of_ble_eq_true rfl) rfl dX7_spells_246 (fun S H locs hG hf => ?_)
  refine z_iinc (fun v => [(4, .int v), (0, .ref (G_m Γ 0)), (1, .int b1), (2, .int b2), (3, .int b3), (5, .int b5)]) hx hb hf dX7_spells_247 hl (k := 4) rfl (Nat.le_of_ble_eq_true rfl) (fun _ => rfl) (fun n247 ls hf hl => ?_)
  refine lv_goto (tgt := 15) hx hb dX7_spells_250 (by decide) ?_
  obtain ⟨rfl, rfl⟩ := z_p hf
  exact kk _ _ _ ⟨ls, rfl, lv_sub hl [1, 2, 3, 4, 0] rfl⟩ hG
set_option maxHeartbeats 4000000 in
theorem wm_spells_l15_j153 (Γ : zG) (l : Launch) (b1 : Int32) (b2 : Int32) (b3 : Int32) (b4 : Int32) (b5 : Int32) : mRg Γ l yX7_spells cX7_spells 6 (some .int) 1 23 (m_spells_l15_j153 b1 b2 b3 b4 b5) (zAt0 6 153 [(0, .ref (G_m Γ 0)), (1, .int b1), (2, .int b2), (3, .int b3), (4, .int b4), (5, .int b5)] []) (zLE (im_spells_l15 Γ b1 b2 b3) (em_spells_l15 Γ b1 b2 b3)) := by
  intro p e R s m args below meth c Q A S H locs x S' g C hG hI hf kk
  obtain ⟨ls, rfl, hl⟩ := hI
  obtain ⟨⟨hx, hb, hml, hown, hts⟩, hr, hlk, hK, hR1, hR2⟩ := id C
  have C : zCx Γ p R s m args meth c cX7_spells 6 RX7 (some .int) 1 23 := C
  refine lv_iload_n hx hb dX7_spells_153 rfl (lv_at hl 3 rfl) ?_
  refine lv_iconst (v := zi 1) hx hb dX7_spells_154 rfl ?_
  refine lv_icmp_le (tgt := 233) hx hb dX7_spells_155 (by decide) (fun c155 => ?_) (fun c155 => ?_)
  · have hf := z_t c155 hf
    exact wm_spells_l15_j233 Γ l b1 b2 b3 b4 b5 p e R s m args below meth c Q A _ _ _ _ _ _ C hG ⟨ls, rfl, lv_sub hl [0, 1, 2, 3, 4, 5] rfl⟩ hf kk
  · have hf := z_f c155 hf
    refine lv_iload hx hb dX7_spells_158 (lv_at hl 4 rfl) ?_
    refine lv_iconst (v := zi 1) hx hb dX7_spells_160 rfl ?_
    refine lv_icmp_le (tgt := 233) hx hb dX7_spells_161 (by decide) (fun c161 => ?_) (fun c161 => ?_)
    · have hf := z_t c161 hf
      exact wm_spells_l15_j233 Γ l b1 b2 b3 b4 b5 p e R s m args below meth c Q A _ _ _ _ _ _ C hG ⟨ls, rfl, lv_sub hl [0, 1, 2, 3, 4, 5] rfl⟩ hf kk
    · have hf := z_f c161 hf
      refine lv_aload_n hx hb dX7_spells_164 rfl (lv_at hl 0 rfl) ?_
      refine zm_ga C hG 0 (Nat.le_of_ble_eq_true rfl) (by decide) q1443 dX7_spells_165 ?_
      refine lv_iload_n hx hb dX7_spells_168 rfl (lv_at hl 1 rfl) ?_
      refine lv_iload_n hx hb dX7_spells_169 rfl (lv_at hl 3 rfl) ?_
      refine lv_iadd hx hb dX7_spells_170 ?_
      refine zm_al C hG 0 hf (Nat.le_of_ble_eq_true rfl) rfl dX7_spells_171 (fun v171 hf => ?_)
      refine lv_aload_n hx hb dX7_spells_172 rfl (lv_at hl 0 rfl) ?_
      refine zm_ga C hG 0 (Nat.le_of_ble_eq_true rfl) (by decide) q1443 dX7_spells_173 ?_
      refine lv_iload_n hx hb dX7_spells_176 rfl (lv_at hl 2 rfl) ?_
      refine lv_iload hx hb dX7_spells_177 (lv_at hl 4 rfl) ?_
      refine lv_iadd hx hb dX7_spells_179 ?_
      refine lv_iconst (v := zi 1) hx hb dX7_spells_180 rfl ?_
      refine lv_isub hx hb dX7_spells_181 ?_
      refine zm_al C hG 0 hf (Nat.le_of_ble_eq_true rfl) rfl dX7_spells_182 (fun v182 hf => ?_)
      refine lv_icmp_ne (tgt := 233) hx hb dX7_spells_183 (by decide) (fun c183 => ?_) (fun c183 => ?_)
      · have hf := z_f c183 hf
        exact wm_spells_l15_j233 Γ l b1 b2 b3 b4 b5 p e R s m args below meth c Q A _ _ _ _ _ _ C hG ⟨ls, rfl, lv_sub hl [0, 1, 2, 3, 4, 5] rfl⟩ hf kk
      · have hf := z_t c183 hf
        refine lv_aload_n hx hb dX7_spells_186 rfl (lv_at hl 0 rfl) ?_
        refine zm_ga C hG 0 (Nat.le_of_ble_eq_true rfl) (by decide) q1443 dX7_spells_187 ?_
        refine lv_iload_n hx hb dX7_spells_190 rfl (lv_at hl 1 rfl) ?_
        refine lv_iload_n hx hb dX7_spells_191 rfl (lv_at hl 3 rfl) ?_
        refine lv_iadd hx hb dX7_spells_192 ?_
        refine lv_iconst (v := zi 1) hx hb dX7_spells_193 rfl ?_
        refine lv_isub hx hb dX7_spells_194 ?_
        refine zm_al C hG 0 hf (Nat.le_of_ble_eq_true rfl) rfl dX7_spells_195 (fun v195 hf => ?_)
        refine lv_aload_n hx hb dX7_spells_196 rfl (lv_at hl 0 rfl) ?_
        refine zm_ga C hG 0 (Nat.le_of_ble_eq_true rfl) (by decide) q1443 dX7_spells_197 ?_
        refine lv_iload_n hx hb dX7_spells_200 rfl (lv_at hl 2 rfl) ?_
        refine lv_iload hx hb dX7_spells_201 (lv_at hl 4 rfl) ?_
        refine lv_iadd hx hb dX7_spells_203 ?_
        refine zm_al C hG 0 hf (Nat.le_of_ble_eq_true rfl) rfl dX7_spells_204 (fun v204 hf => ?_)
        refine lv_icmp_ne (tgt := 233) hx hb dX7_spells_205 (by decide) (fun c205 => ?_) (fun c205 => ?_)
        · have hf := z_f c205 hf
          exact wm_spells_l15_j233 Γ l b1 b2 b3 b4 b5 p e R s m args below meth c Q A _ _ _ _ _ _ C hG ⟨ls, rfl, lv_sub hl [0, 1, 2, 3, 4, 5] rfl⟩ hf kk
        · have hf := z_t c205 hf
          refine lv_iload hx hb dX7_spells_208 (lv_at hl 5 rfl) ?_
          refine lv_aload_n hx hb dX7_spells_210 rfl (lv_at hl 0 rfl) ?_
          refine zm_ga C hG 14 (Nat.le_of_ble_eq_true rfl) (by decide) q1457 dX7_spells_211 ?_
          refine lv_bipush (v := zi 13) hx hb dX7_spells_214 (by decide +kernel) ?_
          refine lv_iload_n hx hb dX7_spells_216 rfl (lv_at hl 3 rfl) ?_
          refine lv_iconst (v := zi 2) hx hb dX7_spells_217 rfl ?_
          refine lv_isub hx hb dX7_spells_218 ?_
          refine lv_imul hx hb dX7_spells_219 ?_
          refine lv_iload hx hb dX7_spells_220 (lv_at hl 4 rfl) ?_
          refine lv_iadd hx hb dX7_spells_222 ?_
          refine lv_iconst (v := zi 2) hx hb dX7_spells_223 rfl ?_
          refine lv_isub hx hb dX7_spells_224 ?_
          refine zm_al C hG 14 hf (Nat.le_of_ble_eq_true rfl) rfl dX7_spells_225 (fun v225 hf => ?_)
          refine lv_iconst (v := zi 3) hx hb dX7_spells_226 rfl ?_
          refine lv_iadd hx hb dX7_spells_227 ?_
          refine zm_csi (As := [.int b5, .int (v225 + (zi 3))]) (rest := []) C hG hf (ctm_lesser Γ l b5 (v225 + (zi 3))) (lw_S q1721 q1722 q107 q1723) ytm_lesser rfl rfl (Nat.le_of_ble_eq_true rfl) (Nat.le_of_ble_eq_true rfl) hl.1 (Nat.le_of_ble_eq_true rfl) dX7_spells_228 (fun v228 S H locs hG hf => ?_)
          refine lv_istore (lv' := [(5, .int v228), (0, .ref (G_m Γ 0)), (1, .int b1), (2, .int b2), (3, .int b3), (4, .int b4)]) hx hb dX7_spells_231 hl (Nat.le_of_ble_eq_true rfl) rfl (fun ls hl => ?_)
          exact wm_spells_l15_j233 Γ l b1 b2 b3 b4 v228 p e R s m args below meth c Q A _ _ _ _ _ _ C hG ⟨ls, rfl, lv_sub hl [1, 2, 3, 4, 5, 0] rfl⟩ hf kk
set_option maxHeartbeats 4000000 in
theorem wm_spells_l15_j99 (Γ : zG) (l : Launch) (b1 : Int32) (b2 : Int32) (b3 : Int32) (b4 : Int32) (b5 : Int32) : mRg Γ l yX7_spells cX7_spells 6 (some .int) 1 23 (m_spells_l15_j99 b1 b2 b3 b4 b5) (zAt0 6 99 [(0, .ref (G_m Γ 0)), (1, .int b1), (2, .int b2), (3, .int b3), (4, .int b4), (5, .int b5)] []) (zLE (im_spells_l15 Γ b1 b2 b3) (em_spells_l15 Γ b1 b2 b3)) := by
  intro p e R s m args below meth c Q A S H locs x S' g C hG hI hf kk
  obtain ⟨ls, rfl, hl⟩ := hI
  obtain ⟨⟨hx, hb, hml, hown, hts⟩, hr, hlk, hK, hR1, hR2⟩ := id C
  have C : zCx Γ p R s m args meth c cX7_spells 6 RX7 (some .int) 1 23 := C
  refine lv_iload_n hx hb dX7_spells_99 rfl (lv_at hl 3 rfl) ?_
  refine lv_if_le (tgt := 153) hx hb dX7_spells_100 (by decide) (fun c100 => ?_) (fun c100 => ?_)
  · have hf := z_t c100 hf
    exact wm_spells_l15_j153 Γ l b1 b2 b3 b4 b5 p e R s m args below meth c Q A _ _ _ _ _ _ C hG ⟨ls, rfl, lv_sub hl [0, 1, 2, 3, 4, 5] rfl⟩ hf kk
  · have hf := z_f c100 hf
    refine lv_iload hx hb dX7_spells_103 (lv_at hl 4 rfl) ?_
    refine lv_if_le (tgt := 153) hx hb dX7_spells_105 (by decide) (fun c105 => ?_) (fun c105 => ?_)
    · have hf := z_t c105 hf
      exact wm_spells_l15_j153 Γ l b1 b2 b3 b4 b5 p e R s m args below meth c Q A _ _ _ _ _ _ C hG ⟨ls, rfl, lv_sub hl [0, 1, 2, 3, 4, 5] rfl⟩ hf kk
    · have hf := z_f c105 hf
      refine lv_iload hx hb dX7_spells_108 (lv_at hl 5 rfl) ?_
      refine lv_aload_n hx hb dX7_spells_110 rfl (lv_at hl 0 rfl) ?_
      refine zm_ga C hG 14 (Nat.le_of_ble_eq_true rfl) (by decide) q1457 dX7_spells_111 ?_
      refine lv_bipush (v := zi 13) hx hb dX7_spells_114 (by decide +kernel) ?_
      refine lv_iload_n hx hb dX7_spells_116 rfl (lv_at hl 3 rfl) ?_
      refine lv_iconst (v := zi 1) hx hb dX7_spells_117 rfl ?_
      refine lv_isub hx hb dX7_spells_118 ?_
      refine lv_imul hx hb dX7_spells_119 ?_
      refine lv_iload hx hb dX7_spells_120 (lv_at hl 4 rfl) ?_
      refine lv_iadd hx hb dX7_spells_122 ?_
      refine lv_iconst (v := zi 1) hx hb dX7_spells_123 rfl ?_
      refine lv_isub hx hb dX7_spells_124 ?_
      refine zm_al C hG 14 hf (Nat.le_of_ble_eq_true rfl) rfl dX7_spells_125 (fun v125 hf => ?_)
      refine lv_aload_n hx hb dX7_spells_126 rfl (lv_at hl 0 rfl) ?_
      refine lv_aload_n hx hb dX7_spells_127 rfl (lv_at hl 0 rfl) ?_
      refine zm_ga C hG 0 (Nat.le_of_ble_eq_true rfl) (by decide) q1443 dX7_spells_128 ?_
      refine lv_iload_n hx hb dX7_spells_131 rfl (lv_at hl 1 rfl) ?_
      refine lv_iload_n hx hb dX7_spells_132 rfl (lv_at hl 3 rfl) ?_
      refine lv_iadd hx hb dX7_spells_133 ?_
      refine zm_al C hG 0 hf (Nat.le_of_ble_eq_true rfl) rfl dX7_spells_134 (fun v134 hf => ?_)
      refine lv_aload_n hx hb dX7_spells_135 rfl (lv_at hl 0 rfl) ?_
      refine zm_ga C hG 0 (Nat.le_of_ble_eq_true rfl) (by decide) q1443 dX7_spells_136 ?_
      refine lv_iload_n hx hb dX7_spells_139 rfl (lv_at hl 2 rfl) ?_
      refine lv_iload hx hb dX7_spells_140 (lv_at hl 4 rfl) ?_
      refine lv_iadd hx hb dX7_spells_142 ?_
      refine zm_al C hG 0 hf (Nat.le_of_ble_eq_true rfl) rfl dX7_spells_143 (fun v143 hf => ?_)
      refine zm_cvi (As := [.int v134, .int v143]) (rest := [.int v125, .int b5]) C hG hf (ctm_priceOf Γ l v134 v143) (lw_V q1724 q1726 qs56 q107 q1727) ytm_priceOf rfl rfl (Nat.le_of_ble_eq_true rfl) (Nat.le_of_ble_eq_true rfl) hl.1 (Nat.le_of_ble_eq_true rfl) dX7_spells_144 (fun v144 S H locs hG hf => ?_)
      refine lv_iadd hx hb dX7_spells_147 ?_
      refine zm_csi (As := [.int b5, .int (v125 + v144)]) (rest := []) C hG hf (ctm_lesser Γ l b5 (v125 + v144)) (lw_S q1721 q1722 q107 q1723) ytm_lesser rfl rfl (Nat.le_of_ble_eq_true rfl) (Nat.le_of_ble_eq_true rfl) hl.1 (Nat.le_of_ble_eq_true rfl) dX7_spells_148 (fun v148 S H locs hG hf => ?_)
      refine lv_istore (lv' := [(5, .int v148), (0, .ref (G_m Γ 0)), (1, .int b1), (2, .int b2), (3, .int b3), (4, .int b4)]) hx hb dX7_spells_151 hl (Nat.le_of_ble_eq_true rfl) rfl (fun ls hl => ?_)
      exact wm_spells_l15_j153 Γ l b1 b2 b3 b4 v148 p e R s m args below meth c Q A _ _ _ _ _ _ C hG ⟨ls, rfl, lv_sub hl [1, 2, 3, 4, 5, 0] rfl⟩ hf kk
set_option maxHeartbeats 4000000 in
theorem wm_spells_l15_j71 (Γ : zG) (l : Launch) (b1 : Int32) (b2 : Int32) (b3 : Int32) (b4 : Int32) (b5 : Int32) : mRg Γ l yX7_spells cX7_spells 6 (some .int) 1 23 (m_spells_l15_j71 b1 b2 b3 b4 b5) (zAt0 6 71 [(0, .ref (G_m Γ 0)), (1, .int b1), (2, .int b2), (3, .int b3), (4, .int b4), (5, .int b5)] []) (zLE (im_spells_l15 Γ b1 b2 b3) (em_spells_l15 Γ b1 b2 b3)) := by
  intro p e R s m args below meth c Q A S H locs x S' g C hG hI hf kk
  obtain ⟨ls, rfl, hl⟩ := hI
  obtain ⟨⟨hx, hb, hml, hown, hts⟩, hr, hlk, hK, hR1, hR2⟩ := id C
  have C : zCx Γ p R s m args meth c cX7_spells 6 RX7 (some .int) 1 23 := C
  refine lv_iload hx hb dX7_spells_71 (lv_at hl 4 rfl) ?_
  refine lv_if_le (tgt := 99) hx hb dX7_spells_73 (by decide) (fun c73 => ?_) (fun c73 => ?_)
  · have hf := z_t c73 hf
    exact wm_spells_l15_j99 Γ l b1 b2 b3 b4 b5 p e R s m args below meth c Q A _ _ _ _ _ _ C hG ⟨ls, rfl, lv_sub hl [0, 1, 2, 3, 4, 5] rfl⟩ hf kk
  · have hf := z_f c73 hf
    refine lv_iload hx hb dX7_spells_76 (lv_at hl 5 rfl) ?_
    refine lv_aload_n hx hb dX7_spells_78 rfl (lv_at hl 0 rfl) ?_
    refine zm_ga C hG 14 (Nat.le_of_ble_eq_true rfl) (by decide) q1457 dX7_spells_79 ?_
    refine lv_bipush (v := zi 13) hx hb dX7_spells_82 (by decide +kernel) ?_
    refine lv_iload_n hx hb dX7_spells_84 rfl (lv_at hl 3 rfl) ?_
    refine lv_imul hx hb dX7_spells_85 ?_
    refine lv_iload hx hb dX7_spells_86 (lv_at hl 4 rfl) ?_
    refine lv_iadd hx hb dX7_spells_88 ?_
    refine lv_iconst (v := zi 1) hx hb dX7_spells_89 rfl ?_
    refine lv_isub hx hb dX7_spells_90 ?_
    refine zm_al C hG 14 hf (Nat.le_of_ble_eq_true rfl) rfl dX7_spells_91 (fun v91 hf => ?_)
    refine lv_iconst (v := zi 4) hx hb dX7_spells_92 rfl ?_
    refine lv_iadd hx hb dX7_spells_93 ?_
    refine zm_csi (As := [.int b5, .int (v91 + (zi 4))]) (rest := []) C hG hf (ctm_lesser Γ l b5 (v91 + (zi 4))) (lw_S q1721 q1722 q107 q1723) ytm_lesser rfl rfl (Nat.le_of_ble_eq_true rfl) (Nat.le_of_ble_eq_true rfl) hl.1 (Nat.le_of_ble_eq_true rfl) dX7_spells_94 (fun v94 S H locs hG hf => ?_)
    refine lv_istore (lv' := [(5, .int v94), (0, .ref (G_m Γ 0)), (1, .int b1), (2, .int b2), (3, .int b3), (4, .int b4)]) hx hb dX7_spells_97 hl (Nat.le_of_ble_eq_true rfl) rfl (fun ls hl => ?_)
    exact wm_spells_l15_j99 Γ l b1 b2 b3 b4 v94 p e R s m args below meth c Q A _ _ _ _ _ _ C hG ⟨ls, rfl, lv_sub hl [1, 2, 3, 4, 5, 0] rfl⟩ hf kk
set_option maxHeartbeats 4000000 in
theorem wm_spells_l15_j42 (Γ : zG) (l : Launch) (b1 : Int32) (b2 : Int32) (b3 : Int32) (b4 : Int32) (t0 : Int32) : mRg Γ l yX7_spells cX7_spells 6 (some .int) 1 23 (m_spells_l15_j42 b1 b2 b3 b4 t0) (zAt0 6 42 [(0, .ref (G_m Γ 0)), (1, .int b1), (2, .int b2), (3, .int b3), (4, .int b4)] [.int t0]) (zLE (im_spells_l15 Γ b1 b2 b3) (em_spells_l15 Γ b1 b2 b3)) := by
  intro p e R s m args below meth c Q A S H locs x S' g C hG hI hf kk
  obtain ⟨ls, rfl, hl⟩ := hI
  obtain ⟨⟨hx, hb, hml, hown, hts⟩, hr, hlk, hK, hR1, hR2⟩ := id C
  have C : zCx Γ p R s m args meth c cX7_spells 6 RX7 (some .int) 1 23 := C
  refine lv_istore (lv' := [(5, .int t0), (0, .ref (G_m Γ 0)), (1, .int b1), (2, .int b2), (3, .int b3), (4, .int b4)]) hx hb dX7_spells_42 hl (Nat.le_of_ble_eq_true rfl) rfl (fun ls hl => ?_)
  refine lv_iload_n hx hb dX7_spells_44 rfl (lv_at hl 4 rfl) ?_
  refine lv_if_le (tgt := 71) hx hb dX7_spells_45 (by decide) (fun c45 => ?_) (fun c45 => ?_)
  · have hf := z_t c45 hf
    exact wm_spells_l15_j71 Γ l b1 b2 b3 b4 t0 p e R s m args below meth c Q A _ _ _ _ _ _ C hG ⟨ls, rfl, lv_sub hl [1, 2, 3, 4, 5, 0] rfl⟩ hf kk
  · have hf := z_f c45 hf
    refine lv_iload hx hb dX7_spells_48 (lv_at hl 0 rfl) ?_
    refine lv_aload_n hx hb dX7_spells_50 rfl (lv_at hl 1 rfl) ?_
    refine zm_ga C hG 14 (Nat.le_of_ble_eq_true rfl) (by decide) q1457 dX7_spells_51 ?_
    refine lv_bipush (v := zi 13) hx hb dX7_spells_54 (by decide +kernel) ?_
    refine lv_iload_n hx hb dX7_spells_56 rfl (lv_at hl 4 rfl) ?_
    refine lv_iconst (v := zi 1) hx hb dX7_spells_57 rfl ?_
    refine lv_isub hx hb dX7_spells_58 ?_
    refine lv_imul hx hb dX7_spells_59 ?_
    refine lv_iload hx hb dX7_spells_60 (lv_at hl 5 rfl) ?_
    refine lv_iadd hx hb dX7_spells_62 ?_
    refine zm_al C hG 14 hf (Nat.le_of_ble_eq_true rfl) rfl dX7_spells_63 (fun v63 hf => ?_)
    refine lv_iconst (v := zi 4) hx hb dX7_spells_64 rfl ?_
    refine lv_iadd hx hb dX7_spells_65 ?_
    refine zm_csi (As := [.int t0, .int (v63 + (zi 4))]) (rest := []) C hG hf (ctm_lesser Γ l t0 (v63 + (zi 4))) (lw_S q1721 q1722 q107 q1723) ytm_lesser rfl rfl (Nat.le_of_ble_eq_true rfl) (Nat.le_of_ble_eq_true rfl) hl.1 (Nat.le_of_ble_eq_true rfl) dX7_spells_66 (fun v66 S H locs hG hf => ?_)
    refine lv_istore (lv' := [(5, .int v66), (0, .ref (G_m Γ 0)), (1, .int b1), (2, .int b2), (3, .int b3), (4, .int b4)]) hx hb dX7_spells_69 hl (Nat.le_of_ble_eq_true rfl) rfl (fun ls hl => ?_)
    exact wm_spells_l15_j71 Γ l b1 b2 b3 b4 v66 p e R s m args below meth c Q A _ _ _ _ _ _ C hG ⟨ls, rfl, lv_sub hl [1, 2, 3, 4, 5, 0] rfl⟩ hf kk
set_option maxHeartbeats 4000000 in
theorem wm_spells_l15_j39 (Γ : zG) (l : Launch) (b1 : Int32) (b2 : Int32) (b3 : Int32) (b4 : Int32) : mRg Γ l yX7_spells cX7_spells 6 (some .int) 1 23 (m_spells_l15_j39 b1 b2 b3 b4) (zAt0 6 39 [(0, .ref (G_m Γ 0)), (1, .int b1), (2, .int b2), (3, .int b3), (4, .int b4)] []) (zLE (im_spells_l15 Γ b1 b2 b3) (em_spells_l15 Γ b1 b2 b3)) := by
  intro p e R s m args below meth c Q A S H locs x S' g C hG hI hf kk
  obtain ⟨ls, rfl, hl⟩ := hI
  obtain ⟨⟨hx, hb, hml, hown, hts⟩, hr, hlk, hK, hR1, hR2⟩ := id C
  have C : zCx Γ p R s m args meth c cX7_spells 6 RX7 (some .int) 1 23 := C
  refine lv_sipush (v := zi 10000) hx hb dX7_spells_39 (by decide +kernel) ?_
  exact wm_spells_l15_j42 Γ l b1 b2 b3 b4 (zi 10000) p e R s m args below meth c Q A _ _ _ _ _ _ C hG ⟨ls, rfl, lv_sub hl [0, 1, 2, 3, 4] rfl⟩ hf kk
set_option maxHeartbeats 4000000 in
theorem wm_spells_l15_b (Γ : zG) (l : Launch) (f1 : Int32) (f2 : Int32) (f3 : Int32) (s4 : Int32) : mRg Γ l yX7_spells cX7_spells 6 (some .int) 1 23 (m_spells_l15 f1 f2 f3 s4) (zAt0 6 15 [(0, .ref (G_m Γ 0)), (1, .int f1), (2, .int f2), (3, .int f3), (4, .int s4)] []) (zLE (im_spells_l15 Γ f1 f2 f3) (em_spells_l15 Γ f1 f2 f3)) := by
  intro p e R s m args below meth c Q A S H locs x S' g C hG hI hf kk
  obtain ⟨ls, rfl, hl⟩ := hI
  obtain ⟨⟨hx, hb, hml, hown, hts⟩, hr, hlk, hK, hR1, hR2⟩ := id C
  have C : zCx Γ p R s m args meth c cX7_spells 6 RX7 (some .int) 1 23 := C
  refine lv_iload hx hb dX7_spells_15 (lv_at hl 4 rfl) ?_
  refine lv_aload_n hx hb dX7_spells_17 rfl (lv_at hl 0 rfl) ?_
  refine zm_ga C hG 0 (Nat.le_of_ble_eq_true rfl) (by decide) q1443 dX7_spells_18 ?_
  refine lv_iload_n hx hb dX7_spells_21 rfl (lv_at hl 2 rfl) ?_
  refine zm_al C hG 0 hf (Nat.le_of_ble_eq_true rfl) rfl dX7_spells_22 (fun v22 hf => ?_)
  refine lv_icmp_gt (tgt := 253) hx hb dX7_spells_23 (by decide) (fun c23 => ?_) (fun c23 => ?_)
  · have hf := z_t c23 hf
    obtain ⟨rfl, rfl⟩ := z_p hf
    exact kk _ _ _ ⟨ls, rfl, lv_sub hl [0, 1, 2, 3] rfl⟩ hG
  · have hf := z_f c23 hf
    refine lv_iload_n hx hb dX7_spells_26 rfl (lv_at hl 3 rfl) ?_
    refine lv_if_ne (tgt := 39) hx hb dX7_spells_27 (by decide) (fun c27 => ?_) (fun c27 => ?_)
    · have hf := z_f c27 hf
      exact wm_spells_l15_j39 Γ l f1 f2 f3 s4 p e R s m args below meth c Q A _ _ _ _ _ _ C hG ⟨ls, rfl, lv_sub hl [0, 1, 2, 3, 4] rfl⟩ hf kk
    · have hf := z_t c27 hf
      refine lv_iload hx hb dX7_spells_30 (lv_at hl 4 rfl) ?_
      refine lv_if_ne (tgt := 39) hx hb dX7_spells_32 (by decide) (fun c32 => ?_) (fun c32 => ?_)
      · have hf := z_f c32 hf
        exact wm_spells_l15_j39 Γ l f1 f2 f3 s4 p e R s m args below meth c Q A _ _ _ _ _ _ C hG ⟨ls, rfl, lv_sub hl [0, 1, 2, 3, 4] rfl⟩ hf kk
      · have hf := z_t c32 hf
        refine lv_iconst (v := zi 0) hx hb dX7_spells_35 rfl ?_
        refine lv_goto (tgt := 42) hx hb dX7_spells_36 (by decide) ?_
        exact wm_spells_l15_j42 Γ l f1 f2 f3 s4 (zi 0) p e R s m args below meth c Q A _ _ _ _ _ _ C hG ⟨ls, rfl, lv_sub hl [0, 1, 2, 3, 4] rfl⟩ hf kk
theorem wm_spells_l15 (Γ : zG) (l : Launch) (f1 : Int32) (f2 : Int32) (f3 : Int32) : ∀ s : Int32, mRg Γ l yX7_spells cX7_spells 6 (some .int) 1 23 (m_spells_l15 f1 f2 f3 s) (fun m => im_spells_l15 Γ f1 f2 f3 m s) (zLE (im_spells_l15 Γ f1 f2 f3) (em_spells_l15 Γ f1 f2 f3)) := fun s => wm_spells_l15_b Γ l f1 f2 f3 s
set_option maxHeartbeats 4000000 in
theorem wm_spells_l2_b (Γ : zG) (l : Launch) (f1 : Int32) (f2 : Int32) (s3 : Int32) : mRg Γ l yX7_spells cX7_spells 6 (some .int) 1 23 (m_spells_l2 f1 f2 s3) (zAt0 6 2 [(0, .ref (G_m Γ 0)), (1, .int f1), (2, .int f2), (3, .int s3)] []) (zLE (im_spells_l2 Γ f1 f2) (em_spells_l2 Γ f1 f2)) := by
  intro p e R s m args below meth c Q A S H locs x S' g C hG hI hf kk
  obtain ⟨ls, rfl, hl⟩ := hI
  obtain ⟨⟨hx, hb, hml, hown, hts⟩, hr, hlk, hK, hR1, hR2⟩ := id C
  have C : zCx Γ p R s m args meth c cX7_spells 6 RX7 (some .int) 1 23 := C
  refine lv_iload_n hx hb dX7_spells_2 rfl (lv_at hl 3 rfl) ?_
  refine lv_aload_n hx hb dX7_spells_3 rfl (lv_at hl 0 rfl) ?_
  refine zm_ga C hG 0 (Nat.le_of_ble_eq_true rfl) (by decide) q1443 dX7_spells_4 ?_
  refine lv_iload_n hx hb dX7_spells_7 rfl (lv_at hl 1 rfl) ?_
  refine zm_al C hG 0 hf (Nat.le_of_ble_eq_true rfl) rfl dX7_spells_8 (fun v8 hf => ?_)
  refine lv_icmp_gt (tgt := 259) hx hb dX7_spells_9 (by decide) (fun c9 => ?_) (fun c9 => ?_)
  · have hf := z_t c9 hf
    obtain ⟨rfl, rfl⟩ := z_p hf
    exact kk _ _ _ ⟨ls, rfl, lv_sub hl [0, 1, 2] rfl⟩ hG
  · have hf := z_f c9 hf
    refine lv_iconst (v := zi 0) hx hb dX7_spells_12 rfl ?_
    refine lv_istore (lv' := [(4, .int (zi 0)), (0, .ref (G_m Γ 0)), (1, .int f1), (2, .int f2), (3, .int s3)]) hx hb dX7_spells_13 hl (Nat.le_of_ble_eq_true rfl) rfl (fun ls hl => ?_)
    obtain ⟨e15, S, hlp, hf⟩ := nB_some hf
    refine mRg.loop (wm_spells_l15 Γ l f1 f2 s3) (zi 0) p e R s m args below meth c Q A _ _ _ _ _ _ C hG ⟨ls, rfl, lv_sub hl [1, 2, 3, 4, 0] rfl⟩ hlp (fun H locs g hL hG => ?_)
    obtain ⟨ls, rfl, hl⟩ := hL
    have hl : lv_has ls 6 [(0, .ref (G_m Γ 0)), (1, .int f1), (2, .int f2), (3, .int s3)] := hl
    refine z_iinc (fun v => [(3, .int v), (0, .ref (G_m Γ 0)), (1, .int f1), (2, .int f2)]) hx hb hf dX7_spells_253 hl (k := 3) rfl (Nat.le_of_ble_eq_true rfl) (fun _ => rfl) (fun n253 ls hf hl => ?_)
    refine lv_goto (tgt := 2) hx hb dX7_spells_256 (by decide) ?_
    obtain ⟨rfl, rfl⟩ := z_p hf
    exact kk _ _ _ ⟨ls, rfl, lv_sub hl [1, 2, 3, 0] rfl⟩ hG
theorem wm_spells_l2 (Γ : zG) (l : Launch) (f1 : Int32) (f2 : Int32) : ∀ s : Int32, mRg Γ l yX7_spells cX7_spells 6 (some .int) 1 23 (m_spells_l2 f1 f2 s) (fun m => im_spells_l2 Γ f1 f2 m s) (zLE (im_spells_l2 Γ f1 f2) (em_spells_l2 Γ f1 f2)) := fun s => wm_spells_l2_b Γ l f1 f2 s
set_option maxHeartbeats 4000000 in
theorem wm_spells (Γ : zG) (l : Launch) (a1 : Int32) (a2 : Int32) : mRg Γ l yX7_spells cX7_spells 6 (some .int) 1 23 (m_spells a1 a2) (zAt0 6 0 (lv_args 0 [.ref (G_m Γ 0), .int a1, .int a2]) []) (zLi cX7_spells) := by
  intro p e R s m args below meth c Q A S H locs x S' g C hG hI hf kk
  obtain ⟨ls, rfl, hl⟩ := hI
  obtain ⟨⟨hx, hb, hml, hown, hts⟩, hr, hlk, hK, hR1, hR2⟩ := id C
  have C : zCx Γ p R s m args meth c cX7_spells 6 RX7 (some .int) 1 23 := C
  have hl : lv_has ls 6 [(0, .ref (G_m Γ 0)), (1, .int a1), (2, .int a2)] := hl
  refine lv_iconst (v := zi 0) hx hb dX7_spells_0 rfl ?_
  refine lv_istore_n (lv' := [(3, .int (zi 0)), (0, .ref (G_m Γ 0)), (1, .int a1), (2, .int a2)]) hx hb dX7_spells_1 rfl hl (Nat.le_of_ble_eq_true rfl) rfl (fun ls hl => ?_)
  obtain ⟨e2, S, hlp, hf⟩ := nB_some hf
  refine mRg.loop (wm_spells_l2 Γ l a1 a2) (zi 0) p e R s m args below meth c Q A _ _ _ _ _ _ C hG ⟨ls, rfl, lv_sub hl [1, 2, 3, 0] rfl⟩ hlp (fun H locs g hL hG => ?_)
  obtain ⟨ls, rfl, hl⟩ := hL
  have hl : lv_has ls 6 [(0, .ref (G_m Γ 0)), (1, .int a1), (2, .int a2)] := hl
  refine lv_aload_n hx hb dX7_spells_259 rfl (lv_at hl 0 rfl) ?_
  refine zm_ga C hG 14 (Nat.le_of_ble_eq_true rfl) (by decide) q1457 dX7_spells_260 ?_
  refine lv_bipush (v := zi 13) hx hb dX7_spells_263 (by decide +kernel) ?_
  refine lv_aload_n hx hb dX7_spells_265 rfl (lv_at hl 0 rfl) ?_
  refine zm_ga C hG 0 (Nat.le_of_ble_eq_true rfl) (by decide) q1443 dX7_spells_266 ?_
  refine lv_iload_n hx hb dX7_spells_269 rfl (lv_at hl 1 rfl) ?_
  refine zm_al C hG 0 hf (Nat.le_of_ble_eq_true rfl) rfl dX7_spells_270 (fun v270 hf => ?_)
  refine lv_imul hx hb dX7_spells_271 ?_
  refine lv_aload_n hx hb dX7_spells_272 rfl (lv_at hl 0 rfl) ?_
  refine zm_ga C hG 0 (Nat.le_of_ble_eq_true rfl) (by decide) q1443 dX7_spells_273 ?_
  refine lv_iload_n hx hb dX7_spells_276 rfl (lv_at hl 2 rfl) ?_
  refine zm_al C hG 0 hf (Nat.le_of_ble_eq_true rfl) rfl dX7_spells_277 (fun v277 hf => ?_)
  refine lv_iadd hx hb dX7_spells_278 ?_
  refine zm_al C hG 14 hf (Nat.le_of_ble_eq_true rfl) rfl dX7_spells_279 (fun v279 hf => ?_)
  obtain ⟨rfl, rfl⟩ := z_p hf
  exact kk _ _ _ ⟨_, _, rfl, dX7_spells_280⟩ hG
theorem ctm_spells (Γ : zG) (l : Launch) (a1 : Int32) (a2 : Int32) : mCt Γ l yX7_spells (ws_ yX7_spells cX7_spells 6 (some .int)) 1 23 [.ref (G_m Γ 0), .int a1, .int a2] (m_spells a1 a2) zoi := mCt.mki (by decide +kernel) (Nat.le_of_ble_eq_true rfl) (wm_spells Γ l a1 a2)
theorem ytm_spells : yX7_spells.cls = RX7 ∧ yX7_spells.cls ≠ "java/lang/invoke/MethodHandle" ∧ yX7_spells.cls ≠ "java/lang/invoke/VarHandle" ∧ (parseMethodDescriptor yX7_spells.desc).map (fun d => d.parameters.length) = some 2 := by decide +kernel
set_option maxHeartbeats 4000000 in
theorem wm_spell (Γ : zG) (l : Launch) (a1 : Int32) (a2 : Int32) : mRg Γ l yX7_spell cX7_spell 3 (some .int) 2 48 (m_spell a1 a2) (zAt0 3 0 (lv_args 0 [.ref (G_m Γ 0), .int a1, .int a2]) []) (zLi cX7_spell) := by
  intro p e R s m args below meth c Q A S H locs x S' g C hG hI hf kk
  obtain ⟨ls, rfl, hl⟩ := hI
  obtain ⟨⟨hx, hb, hml, hown, hts⟩, hr, hlk, hK, hR1, hR2⟩ := id C
  have C : zCx Γ p R s m args meth c cX7_spell 3 RX7 (some .int) 2 48 := C
  have hl : lv_has ls 3 [(0, .ref (G_m Γ 0)), (1, .int a1), (2, .int a2)] := hl
  refine lv_aload_n hx hb dX7_spell_0 rfl (lv_at hl 0 rfl) ?_
  refine lv_iload_n hx hb dX7_spell_1 rfl (lv_at hl 1 rfl) ?_
  refine zm_cvi (As := [.int a1]) (rest := []) C hG hf (ctm_isPage Γ l a1) (lw_V q1701 q1703 qs54 q107 q1704) ytm_isPage rfl rfl (Nat.le_of_ble_eq_true rfl) (Nat.le_of_ble_eq_true rfl) hl.1 (Nat.le_of_ble_eq_true rfl) dX7_spell_2 (fun v2 S H locs hG hf => ?_)
  refine lv_if_eq (tgt := 28) hx hb dX7_spell_5 (by decide) (fun c5 => ?_) (fun c5 => ?_)
  · have hf := z_t c5 hf
    refine lv_iconst (v := zi (-1)) hx hb dX7_spell_28 rfl ?_
    obtain ⟨rfl, rfl⟩ := z_p hf
    exact kk _ _ _ ⟨_, _, rfl, dX7_spell_29⟩ hG
  · have hf := z_f c5 hf
    refine lv_aload_n hx hb dX7_spell_8 rfl (lv_at hl 0 rfl) ?_
    refine lv_iload_n hx hb dX7_spell_9 rfl (lv_at hl 2 rfl) ?_
    refine zm_cvi (As := [.int a2]) (rest := []) C hG hf (ctm_isHouse Γ l a2) (lw_V q1608 q1610 qs42 q107 q1611) ytm_isHouse rfl rfl (Nat.le_of_ble_eq_true rfl) (Nat.le_of_ble_eq_true rfl) hl.1 (Nat.le_of_ble_eq_true rfl) dX7_spell_10 (fun v10 S H locs hG hf => ?_)
    refine lv_if_eq (tgt := 28) hx hb dX7_spell_13 (by decide) (fun c13 => ?_) (fun c13 => ?_)
    · have hf := z_t c13 hf
      refine lv_iconst (v := zi (-1)) hx hb dX7_spell_28 rfl ?_
      obtain ⟨rfl, rfl⟩ := z_p hf
      exact kk _ _ _ ⟨_, _, rfl, dX7_spell_29⟩ hG
    · have hf := z_f c13 hf
      refine lv_aload_n hx hb dX7_spell_16 rfl (lv_at hl 0 rfl) ?_
      refine zm_ga C hG 0 (Nat.le_of_ble_eq_true rfl) (by decide) q1443 dX7_spell_17 ?_
      refine lv_iload_n hx hb dX7_spell_20 rfl (lv_at hl 1 rfl) ?_
      refine zm_csi (As := [.int a1]) (rest := [.ref (G_m Γ (0 + 1))]) C hG hf (ctm_pageAt Γ l a1) (lw_S q1683 q1684 q107 q1685) ytm_pageAt rfl rfl (Nat.le_of_ble_eq_true rfl) (Nat.le_of_ble_eq_true rfl) hl.1 (Nat.le_of_ble_eq_true rfl) dX7_spell_21 (fun v21 S H locs hG hf => ?_)
      refine zm_al C hG 0 hf (Nat.le_of_ble_eq_true rfl) rfl dX7_spell_24 (fun v24 hf => ?_)
      refine lv_if_ne (tgt := 30) hx hb dX7_spell_25 (by decide) (fun c25 => ?_) (fun c25 => ?_)
      · have hf := z_f c25 hf
        refine lv_aload_n hx hb dX7_spell_30 rfl (lv_at hl 0 rfl) ?_
        refine lv_iload_n hx hb dX7_spell_31 rfl (lv_at hl 1 rfl) ?_
        refine zm_csi (As := [.int a1]) (rest := [.ref (G_m Γ 0)]) C hG hf (ctm_pageAt Γ l a1) (lw_S q1683 q1684 q107 q1685) ytm_pageAt rfl rfl (Nat.le_of_ble_eq_true rfl) (Nat.le_of_ble_eq_true rfl) hl.1 (Nat.le_of_ble_eq_true rfl) dX7_spell_32 (fun v32 S H locs hG hf => ?_)
        refine lv_iload_n hx hb dX7_spell_35 rfl (lv_at hl 2 rfl) ?_
        refine zm_csi (As := [.int a2]) (rest := [.int v32, .ref (G_m Γ 0)]) C hG hf (ctm_houseAt Γ l a2) (lw_S q1615 q1616 q107 q1617) ytm_houseAt rfl rfl (Nat.le_of_ble_eq_true rfl) (Nat.le_of_ble_eq_true rfl) hl.1 (Nat.le_of_ble_eq_true rfl) dX7_spell_36 (fun v36 S H locs hG hf => ?_)
        refine zm_cvi (As := [.int v32, .int v36]) (rest := []) C hG hf (ctm_spells Γ l v32 v36) (lw_V q1717 q1719 qs55 q107 q1720) ytm_spells rfl rfl (Nat.le_of_ble_eq_true rfl) (Nat.le_of_ble_eq_true rfl) hl.1 (Nat.le_of_ble_eq_true rfl) dX7_spell_39 (fun v39 S H locs hG hf => ?_)
        obtain ⟨rfl, rfl⟩ := z_p hf
        exact kk _ _ _ ⟨_, _, rfl, dX7_spell_42⟩ hG
      · have hf := z_t c25 hf
        refine lv_iconst (v := zi (-1)) hx hb dX7_spell_28 rfl ?_
        obtain ⟨rfl, rfl⟩ := z_p hf
        exact kk _ _ _ ⟨_, _, rfl, dX7_spell_29⟩ hG
theorem ctm_spell (Γ : zG) (l : Launch) (a1 : Int32) (a2 : Int32) : mCt Γ l yX7_spell (ws_ yX7_spell cX7_spell 3 (some .int)) 2 48 [.ref (G_m Γ 0), .int a1, .int a2] (m_spell a1 a2) zoi := mCt.mki (by decide +kernel) (Nat.le_of_ble_eq_true rfl) (wm_spell Γ l a1 a2)
theorem ytm_spell : yX7_spell.cls = RX7 ∧ yX7_spell.cls ≠ "java/lang/invoke/MethodHandle" ∧ yX7_spell.cls ≠ "java/lang/invoke/VarHandle" ∧ (parseMethodDescriptor yX7_spell.desc).map (fun d => d.parameters.length) = some 2 := by decide +kernel
set_option maxHeartbeats 4000000 in
theorem wm_stands (Γ : zG) (l : Launch) (a1 : Int32) (a2 : Int32) (a3 : Int32) : mRg Γ l yX7_stands cX7_stands 4 (some .boolean) 2 43 (m_stands a1 a2 a3) (zAt0 4 0 (lv_args 0 [.ref (G_m Γ 0), .int a1, .int a2, .int a3]) []) (zLz cX7_stands) := by
  intro p e R s m args below meth c Q A S H locs x S' g C hG hI hf kk
  obtain ⟨ls, rfl, hl⟩ := hI
  obtain ⟨⟨hx, hb, hml, hown, hts⟩, hr, hlk, hK, hR1, hR2⟩ := id C
  have C : zCx Γ p R s m args meth c cX7_stands 4 RX7 (some .boolean) 2 43 := C
  have hl : lv_has ls 4 [(0, .ref (G_m Γ 0)), (1, .int a1), (2, .int a2), (3, .int a3)] := hl
  refine lv_aload_n hx hb dX7_stands_0 rfl (lv_at hl 0 rfl) ?_
  refine lv_iload_n hx hb dX7_stands_1 rfl (lv_at hl 1 rfl) ?_
  refine zm_cvi (As := [.int a1]) (rest := []) C hG hf (ctm_isPage Γ l a1) (lw_V q1701 q1703 qs54 q107 q1704) ytm_isPage rfl rfl (Nat.le_of_ble_eq_true rfl) (Nat.le_of_ble_eq_true rfl) hl.1 (Nat.le_of_ble_eq_true rfl) dX7_stands_2 (fun v2 S H locs hG hf => ?_)
  refine lv_if_eq (tgt := 28) hx hb dX7_stands_5 (by decide) (fun c5 => ?_) (fun c5 => ?_)
  · have hf := z_t c5 hf
    refine lv_iconst (v := zi 0) hx hb dX7_stands_28 rfl ?_
    obtain ⟨rfl, rfl⟩ := z_p hf
    exact kk _ _ _ ⟨_, _, rfl, dX7_stands_29, Or.inl rfl⟩ hG
  · have hf := z_f c5 hf
    refine lv_iload_n hx hb dX7_stands_8 rfl (lv_at hl 2 rfl) ?_
    refine lv_iconst (v := zi 0) hx hb dX7_stands_9 rfl ?_
    refine lv_bipush (v := zi 99) hx hb dX7_stands_10 (by decide +kernel) ?_
    refine zm_csi (As := [.int a2, .int (zi 0), .int (zi 99)]) (rest := []) C hG hf (ctm_isIn Γ l a2 (zi 0) (zi 99)) (lw_S q1612 q1613 q107 q1614) ytm_isIn rfl rfl (Nat.le_of_ble_eq_true rfl) (Nat.le_of_ble_eq_true rfl) hl.1 (Nat.le_of_ble_eq_true rfl) dX7_stands_12 (fun v12 S H locs hG hf => ?_)
    refine lv_if_eq (tgt := 28) hx hb dX7_stands_15 (by decide) (fun c15 => ?_) (fun c15 => ?_)
    · have hf := z_t c15 hf
      refine lv_iconst (v := zi 0) hx hb dX7_stands_28 rfl ?_
      obtain ⟨rfl, rfl⟩ := z_p hf
      exact kk _ _ _ ⟨_, _, rfl, dX7_stands_29, Or.inl rfl⟩ hG
    · have hf := z_f c15 hf
      refine lv_iload_n hx hb dX7_stands_18 rfl (lv_at hl 3 rfl) ?_
      refine lv_iconst (v := zi 0) hx hb dX7_stands_19 rfl ?_
      refine lv_ldc (v := (1048575 : Int32)) hx hb hown (hts _ q1732) dX7_stands_20 ?_
      refine zm_csi (As := [.int a3, .int (zi 0), .int (1048575 : Int32)]) (rest := []) C hG hf (ctm_isIn Γ l a3 (zi 0) (1048575 : Int32)) (lw_S q1612 q1613 q107 q1614) ytm_isIn rfl rfl (Nat.le_of_ble_eq_true rfl) (Nat.le_of_ble_eq_true rfl) hl.1 (Nat.le_of_ble_eq_true rfl) dX7_stands_22 (fun v22 S H locs hG hf => ?_)
      refine lv_if_ne (tgt := 30) hx hb dX7_stands_25 (by decide) (fun c25 => ?_) (fun c25 => ?_)
      · have hf := z_f c25 hf
        refine lv_aload_n hx hb dX7_stands_30 rfl (lv_at hl 0 rfl) ?_
        refine zm_ga C hG 0 (Nat.le_of_ble_eq_true rfl) (by decide) q1443 dX7_stands_31 ?_
        refine lv_iload_n hx hb dX7_stands_34 rfl (lv_at hl 1 rfl) ?_
        refine zm_csi (As := [.int a1]) (rest := [.ref (G_m Γ (0 + 1))]) C hG hf (ctm_pageAt Γ l a1) (lw_S q1683 q1684 q107 q1685) ytm_pageAt rfl rfl (Nat.le_of_ble_eq_true rfl) (Nat.le_of_ble_eq_true rfl) hl.1 (Nat.le_of_ble_eq_true rfl) dX7_stands_35 (fun v35 S H locs hG hf => ?_)
        refine lv_bipush (v := zi 13) hx hb dX7_stands_38 (by decide +kernel) ?_
        refine lv_iadd hx hb dX7_stands_40 ?_
        refine lv_iload_n hx hb dX7_stands_41 rfl (lv_at hl 2 rfl) ?_
        refine zm_as C hG 0 hf (Nat.le_of_ble_eq_true rfl) rfl dX7_stands_42 (fun S H locs hG hf => ?_)
        refine lv_aload_n hx hb dX7_stands_43 rfl (lv_at hl 0 rfl) ?_
        refine zm_ga C hG 0 (Nat.le_of_ble_eq_true rfl) (by decide) q1443 dX7_stands_44 ?_
        refine lv_iload_n hx hb dX7_stands_47 rfl (lv_at hl 1 rfl) ?_
        refine zm_csi (As := [.int a1]) (rest := [.ref (G_m Γ (0 + 1))]) C hG hf (ctm_pageAt Γ l a1) (lw_S q1683 q1684 q107 q1685) ytm_pageAt rfl rfl (Nat.le_of_ble_eq_true rfl) (Nat.le_of_ble_eq_true rfl) hl.1 (Nat.le_of_ble_eq_true rfl) dX7_stands_48 (fun v48 S H locs hG hf => ?_)
        refine lv_bipush (v := zi 14) hx hb dX7_stands_51 (by decide +kernel) ?_
        refine lv_iadd hx hb dX7_stands_53 ?_
        refine lv_iload_n hx hb dX7_stands_54 rfl (lv_at hl 3 rfl) ?_
        refine zm_as C hG 0 hf (Nat.le_of_ble_eq_true rfl) rfl dX7_stands_55 (fun S H locs hG hf => ?_)
        refine lv_iconst (v := zi 1) hx hb dX7_stands_56 rfl ?_
        obtain ⟨rfl, rfl⟩ := z_p hf
        exact kk _ _ _ ⟨_, _, rfl, dX7_stands_57, Or.inr rfl⟩ hG
      · have hf := z_t c25 hf
        refine lv_iconst (v := zi 0) hx hb dX7_stands_28 rfl ?_
        obtain ⟨rfl, rfl⟩ := z_p hf
        exact kk _ _ _ ⟨_, _, rfl, dX7_stands_29, Or.inl rfl⟩ hG
theorem ctm_stands (Γ : zG) (l : Launch) (a1 : Int32) (a2 : Int32) (a3 : Int32) : mCt Γ l yX7_stands (ws_ yX7_stands cX7_stands 4 (some .boolean)) 2 43 [.ref (G_m Γ 0), .int a1, .int a2, .int a3] (m_stands a1 a2 a3) zoi := mCt.mkz (by decide +kernel) (Nat.le_of_ble_eq_true rfl) (wm_stands Γ l a1 a2 a3)
theorem ytm_stands : yX7_stands.cls = RX7 ∧ yX7_stands.cls ≠ "java/lang/invoke/MethodHandle" ∧ yX7_stands.cls ≠ "java/lang/invoke/VarHandle" ∧ (parseMethodDescriptor yX7_stands.desc).map (fun d => d.parameters.length) = some 3 := by decide +kernel
set_option maxHeartbeats 4000000 in
theorem wm_worth (Γ : zG) (l : Launch) (a1 : Int32) (a2 : Int32) : mRg Γ l yX7_worth cX7_worth 3 (some .boolean) 1 22 (m_worth a1 a2) (zAt0 3 0 (lv_args 0 [.ref (G_m Γ 0), .int a1, .int a2]) []) (zLz cX7_worth) := by
  intro p e R s m args below meth c Q A S H locs x S' g C hG hI hf kk
  obtain ⟨ls, rfl, hl⟩ := hI
  obtain ⟨⟨hx, hb, hml, hown, hts⟩, hr, hlk, hK, hR1, hR2⟩ := id C
  have C : zCx Γ p R s m args meth c cX7_worth 3 RX7 (some .boolean) 1 22 := C
  have hl : lv_has ls 3 [(0, .ref (G_m Γ 0)), (1, .int a1), (2, .int a2)] := hl
  refine lv_iload_n hx hb dX7_worth_0 rfl (lv_at hl 1 rfl) ?_
  refine lv_iconst (v := zi 0) hx hb dX7_worth_1 rfl ?_
  refine lv_bipush (v := zi 7) hx hb dX7_worth_2 (by decide +kernel) ?_
  refine zm_csi (As := [.int a1, .int (zi 0), .int (zi 7)]) (rest := []) C hG hf (ctm_isIn Γ l a1 (zi 0) (zi 7)) (lw_S q1612 q1613 q107 q1614) ytm_isIn rfl rfl (Nat.le_of_ble_eq_true rfl) (Nat.le_of_ble_eq_true rfl) hl.1 (Nat.le_of_ble_eq_true rfl) dX7_worth_4 (fun v4 S H locs hG hf => ?_)
  refine lv_if_eq (tgt := 20) hx hb dX7_worth_7 (by decide) (fun c7 => ?_) (fun c7 => ?_)
  · have hf := z_t c7 hf
    refine lv_iconst (v := zi 0) hx hb dX7_worth_20 rfl ?_
    obtain ⟨rfl, rfl⟩ := z_p hf
    exact kk _ _ _ ⟨_, _, rfl, dX7_worth_21, Or.inl rfl⟩ hG
  · have hf := z_f c7 hf
    refine lv_iload_n hx hb dX7_worth_10 rfl (lv_at hl 2 rfl) ?_
    refine lv_iconst (v := zi 0) hx hb dX7_worth_11 rfl ?_
    refine lv_bipush (v := zi 99) hx hb dX7_worth_12 (by decide +kernel) ?_
    refine zm_csi (As := [.int a2, .int (zi 0), .int (zi 99)]) (rest := []) C hG hf (ctm_isIn Γ l a2 (zi 0) (zi 99)) (lw_S q1612 q1613 q107 q1614) ytm_isIn rfl rfl (Nat.le_of_ble_eq_true rfl) (Nat.le_of_ble_eq_true rfl) hl.1 (Nat.le_of_ble_eq_true rfl) dX7_worth_14 (fun v14 S H locs hG hf => ?_)
    refine lv_if_ne (tgt := 22) hx hb dX7_worth_17 (by decide) (fun c17 => ?_) (fun c17 => ?_)
    · have hf := z_f c17 hf
      refine lv_aload_n hx hb dX7_worth_22 rfl (lv_at hl 0 rfl) ?_
      refine zm_ga C hG 0 (Nat.le_of_ble_eq_true rfl) (by decide) q1443 dX7_worth_23 ?_
      refine lv_bipush (v := zi 10) hx hb dX7_worth_26 (by decide +kernel) ?_
      refine lv_iload_n hx hb dX7_worth_28 rfl (lv_at hl 1 rfl) ?_
      refine lv_iadd hx hb dX7_worth_29 ?_
      refine lv_iload_n hx hb dX7_worth_30 rfl (lv_at hl 2 rfl) ?_
      refine zm_as C hG 0 hf (Nat.le_of_ble_eq_true rfl) rfl dX7_worth_31 (fun S H locs hG hf => ?_)
      refine lv_iconst (v := zi 1) hx hb dX7_worth_32 rfl ?_
      obtain ⟨rfl, rfl⟩ := z_p hf
      exact kk _ _ _ ⟨_, _, rfl, dX7_worth_33, Or.inr rfl⟩ hG
    · have hf := z_t c17 hf
      refine lv_iconst (v := zi 0) hx hb dX7_worth_20 rfl ?_
      obtain ⟨rfl, rfl⟩ := z_p hf
      exact kk _ _ _ ⟨_, _, rfl, dX7_worth_21, Or.inl rfl⟩ hG
theorem ctm_worth (Γ : zG) (l : Launch) (a1 : Int32) (a2 : Int32) : mCt Γ l yX7_worth (ws_ yX7_worth cX7_worth 3 (some .boolean)) 1 22 [.ref (G_m Γ 0), .int a1, .int a2] (m_worth a1 a2) zoi := mCt.mkz (by decide +kernel) (Nat.le_of_ble_eq_true rfl) (wm_worth Γ l a1 a2)
theorem ytm_worth : yX7_worth.cls = RX7 ∧ yX7_worth.cls ≠ "java/lang/invoke/MethodHandle" ∧ yX7_worth.cls ≠ "java/lang/invoke/VarHandle" ∧ (parseMethodDescriptor yX7_worth.desc).map (fun d => d.parameters.length) = some 2 := by decide +kernel
set_option maxHeartbeats 4000000 in
theorem wm_isPerson (Γ : zG) (l : Launch) (a0 : Int32) (a1 : Int32) : mRg Γ l yX7_isPerson cX7_isPerson 2 (some .boolean) 1 22 (m_isPerson a0 a1) (zAt0 2 0 (lv_args 0 [.int a0, .int a1]) []) (zLz cX7_isPerson) := by
  intro p e R s m args below meth c Q A S H locs x S' g C hG hI hf kk
  obtain ⟨ls, rfl, hl⟩ := hI
  obtain ⟨⟨hx, hb, hml, hown, hts⟩, hr, hlk, hK, hR1, hR2⟩ := id C
  have C : zCx Γ p R s m args meth c cX7_isPerson 2 RX7 (some .boolean) 1 22 := C
  have hl : lv_has ls 2 [(0, .int a0), (1, .int a1)] := hl
  refine lv_iload_n hx hb dX7_isPerson_0 rfl (lv_at hl 0 rfl) ?_
  refine lv_iconst (v := zi 0) hx hb dX7_isPerson_1 rfl ?_
  refine lv_iconst (v := zi 3) hx hb dX7_isPerson_2 rfl ?_
  refine zm_csi (As := [.int a0, .int (zi 0), .int (zi 3)]) (rest := []) C hG hf (ctm_isIn Γ l a0 (zi 0) (zi 3)) (lw_S q1612 q1613 q107 q1614) ytm_isIn rfl rfl (Nat.le_of_ble_eq_true rfl) (Nat.le_of_ble_eq_true rfl) hl.1 (Nat.le_of_ble_eq_true rfl) dX7_isPerson_3 (fun v3 S H locs hG hf => ?_)
  refine lv_if_eq (tgt := 23) hx hb dX7_isPerson_6 (by decide) (fun c6 => ?_) (fun c6 => ?_)
  · have hf := z_t c6 hf
    refine lv_iconst (v := zi 0) hx hb dX7_isPerson_23 rfl ?_
    obtain ⟨rfl, rfl⟩ := z_p hf
    exact kk _ _ _ ⟨_, _, rfl, dX7_isPerson_24, Or.inl rfl⟩ hG
  · have hf := z_f c6 hf
    refine lv_iload_n hx hb dX7_isPerson_9 rfl (lv_at hl 1 rfl) ?_
    refine lv_iconst (v := zi 0) hx hb dX7_isPerson_10 rfl ?_
    refine lv_bipush (v := zi 99) hx hb dX7_isPerson_11 (by decide +kernel) ?_
    refine zm_csi (As := [.int a1, .int (zi 0), .int (zi 99)]) (rest := []) C hG hf (ctm_isIn Γ l a1 (zi 0) (zi 99)) (lw_S q1612 q1613 q107 q1614) ytm_isIn rfl rfl (Nat.le_of_ble_eq_true rfl) (Nat.le_of_ble_eq_true rfl) hl.1 (Nat.le_of_ble_eq_true rfl) dX7_isPerson_13 (fun v13 S H locs hG hf => ?_)
    refine lv_if_eq (tgt := 23) hx hb dX7_isPerson_16 (by decide) (fun c16 => ?_) (fun c16 => ?_)
    · have hf := z_t c16 hf
      refine lv_iconst (v := zi 0) hx hb dX7_isPerson_23 rfl ?_
      obtain ⟨rfl, rfl⟩ := z_p hf
      exact kk _ _ _ ⟨_, _, rfl, dX7_isPerson_24, Or.inl rfl⟩ hG
    · have hf := z_f c16 hf
      refine lv_iconst (v := zi 1) hx hb dX7_isPerson_19 rfl ?_
      refine lv_goto (tgt := 24) hx hb dX7_isPerson_20 (by decide) ?_
      obtain ⟨rfl, rfl⟩ := z_p hf
      exact kk _ _ _ ⟨_, _, rfl, dX7_isPerson_24, Or.inr rfl⟩ hG
theorem ctm_isPerson (Γ : zG) (l : Launch) (a0 : Int32) (a1 : Int32) : mCt Γ l yX7_isPerson (ws_ yX7_isPerson cX7_isPerson 2 (some .boolean)) 1 22 [.int a0, .int a1] (m_isPerson a0 a1) zoi := mCt.mkz (by decide +kernel) (Nat.le_of_ble_eq_true rfl) (wm_isPerson Γ l a0 a1)
theorem ytm_isPerson : yX7_isPerson.cls = RX7 ∧ yX7_isPerson.cls ≠ "java/lang/invoke/MethodHandle" ∧ yX7_isPerson.cls ≠ "java/lang/invoke/VarHandle" ∧ (parseMethodDescriptor yX7_isPerson.desc).map (fun d => d.parameters.length) = some 2 := by decide +kernel
set_option maxHeartbeats 4000000 in
theorem wm_treeOf (Γ : zG) (l : Launch) (a0 : Int32) : mRg Γ l yX7_treeOf cX7_treeOf 1 (some .int) 1 20 (m_treeOf a0) (zAt0 1 0 (lv_args 0 [.int a0]) []) (zLi cX7_treeOf) := by
  intro p e R s m args below meth c Q A S H locs x S' g C hG hI hf kk
  obtain ⟨ls, rfl, hl⟩ := hI
  obtain ⟨⟨hx, hb, hml, hown, hts⟩, hr, hlk, hK, hR1, hR2⟩ := id C
  have C : zCx Γ p R s m args meth c cX7_treeOf 1 RX7 (some .int) 1 20 := C
  have hl : lv_has ls 1 [(0, .int a0)] := hl
  refine lv_iload_n hx hb dX7_treeOf_0 rfl (lv_at hl 0 rfl) ?_
  refine zm_csi (As := [.int a0]) (rest := []) C hG hf (ctm_pageAt Γ l a0) (lw_S q1683 q1684 q107 q1685) ytm_pageAt rfl rfl (Nat.le_of_ble_eq_true rfl) (Nat.le_of_ble_eq_true rfl) hl.1 (Nat.le_of_ble_eq_true rfl) dX7_treeOf_1 (fun v1 S H locs hG hf => ?_)
  refine lv_bipush (v := zi 42) hx hb dX7_treeOf_4 (by decide +kernel) ?_
  refine lv_iadd hx hb dX7_treeOf_6 ?_
  obtain ⟨rfl, rfl⟩ := z_p hf
  exact kk _ _ _ ⟨_, _, rfl, dX7_treeOf_7⟩ hG
theorem ctm_treeOf (Γ : zG) (l : Launch) (a0 : Int32) : mCt Γ l yX7_treeOf (ws_ yX7_treeOf cX7_treeOf 1 (some .int)) 1 20 [.int a0] (m_treeOf a0) zoi := mCt.mki (by decide +kernel) (Nat.le_of_ble_eq_true rfl) (wm_treeOf Γ l a0)
theorem ytm_treeOf : yX7_treeOf.cls = RX7 ∧ yX7_treeOf.cls ≠ "java/lang/invoke/MethodHandle" ∧ yX7_treeOf.cls ≠ "java/lang/invoke/VarHandle" ∧ (parseMethodDescriptor yX7_treeOf.desc).map (fun d => d.parameters.length) = some 1 := by decide +kernel
set_option maxHeartbeats 4000000 in
theorem wm_boxOf (Γ : zG) (l : Launch) (a1 : Int32) (a2 : Int32) : mRg Γ l yX7_boxOf cX7_boxOf 3 (some .int) 0 0 (m_boxOf a1 a2) (zAt0 3 0 (lv_args 0 [.ref (G_m Γ 0), .int a1, .int a2]) []) (zLi cX7_boxOf) := by
  intro p e R s m args below meth c Q A S H locs x S' g C hG hI hf kk
  obtain ⟨ls, rfl, hl⟩ := hI
  obtain ⟨⟨hx, hb, hml, hown, hts⟩, hr, hlk, hK, hR1, hR2⟩ := id C
  have C : zCx Γ p R s m args meth c cX7_boxOf 3 RX7 (some .int) 0 0 := C
  have hl : lv_has ls 3 [(0, .ref (G_m Γ 0)), (1, .int a1), (2, .int a2)] := hl
  refine lv_aload_n hx hb dX7_boxOf_0 rfl (lv_at hl 0 rfl) ?_
  refine zm_ga C hG 0 (Nat.le_of_ble_eq_true rfl) (by decide) q1443 dX7_boxOf_1 ?_
  refine lv_aload_n hx hb dX7_boxOf_4 rfl (lv_at hl 0 rfl) ?_
  refine zm_gf C hG 15 hf (Nat.le_of_ble_eq_true rfl) rfl q1458 dX7_boxOf_5 (fun v5 hf => ?_)
  refine lv_iconst (v := zi 1) hx hb dX7_boxOf_8 rfl ?_
  refine lv_iadd hx hb dX7_boxOf_9 ?_
  refine lv_iconst (v := zi 5) hx hb dX7_boxOf_10 rfl ?_
  refine lv_iload_n hx hb dX7_boxOf_11 rfl (lv_at hl 1 rfl) ?_
  refine lv_imul hx hb dX7_boxOf_12 ?_
  refine lv_iadd hx hb dX7_boxOf_13 ?_
  refine lv_iload_n hx hb dX7_boxOf_14 rfl (lv_at hl 2 rfl) ?_
  refine lv_iadd hx hb dX7_boxOf_15 ?_
  refine zm_al C hG 0 hf (Nat.le_of_ble_eq_true rfl) rfl dX7_boxOf_16 (fun v16 hf => ?_)
  obtain ⟨rfl, rfl⟩ := z_p hf
  exact kk _ _ _ ⟨_, _, rfl, dX7_boxOf_17⟩ hG
theorem ctm_boxOf (Γ : zG) (l : Launch) (a1 : Int32) (a2 : Int32) : mCt Γ l yX7_boxOf (ws_ yX7_boxOf cX7_boxOf 3 (some .int)) 0 0 [.ref (G_m Γ 0), .int a1, .int a2] (m_boxOf a1 a2) zoi := mCt.mki (by decide +kernel) (Nat.le_of_ble_eq_true rfl) (wm_boxOf Γ l a1 a2)
theorem ytm_boxOf : yX7_boxOf.cls = RX7 ∧ yX7_boxOf.cls ≠ "java/lang/invoke/MethodHandle" ∧ yX7_boxOf.cls ≠ "java/lang/invoke/VarHandle" ∧ (parseMethodDescriptor yX7_boxOf.desc).map (fun d => d.parameters.length) = some 2 := by decide +kernel
def im_takes_l7 (Γ : zG) (f1 : Int32) (m : MethodId) (s : Int32) (g : JFrame) : Prop := zAt0 3 7 [(0, .ref (G_m Γ 0)), (1, .int f1), (2, .int s)] [] m g
def em_takes_l7 (Γ : zG) (f1 : Int32) (m : MethodId) (e : Unit) (g : JFrame) : Prop := zAt0 3 42 [(0, .ref (G_m Γ 0))] [] m g
set_option maxHeartbeats 4000000 in
theorem wm_takes_l7_b (Γ : zG) (l : Launch) (f1 : Int32) (s2 : Int32) : mRg Γ l yX7_takes cX7_takes 3 none 1 22 (m_takes_l7 f1 s2) (zAt0 3 7 [(0, .ref (G_m Γ 0)), (1, .int f1), (2, .int s2)] []) (zLE (im_takes_l7 Γ f1) (em_takes_l7 Γ f1)) := by
  intro p e R s m args below meth c Q A S H locs x S' g C hG hI hf kk
  obtain ⟨ls, rfl, hl⟩ := hI
  obtain ⟨⟨hx, hb, hml, hown, hts⟩, hr, hlk, hK, hR1, hR2⟩ := id C
  have C : zCx Γ p R s m args meth c cX7_takes 3 RX7 none 1 22 := C
  refine lv_iload_n hx hb dX7_takes_7 rfl (lv_at hl 2 rfl) ?_
  refine lv_aload_n hx hb dX7_takes_8 rfl (lv_at hl 0 rfl) ?_
  refine zm_ga C hG 0 (Nat.le_of_ble_eq_true rfl) (by decide) q1443 dX7_takes_9 ?_
  refine lv_iload_n hx hb dX7_takes_12 rfl (lv_at hl 1 rfl) ?_
  refine zm_al C hG 0 hf (Nat.le_of_ble_eq_true rfl) rfl dX7_takes_13 (fun v13 hf => ?_)
  refine lv_icmp_ge (tgt := 42) hx hb dX7_takes_14 (by decide) (fun c14 => ?_) (fun c14 => ?_)
  · have hf := z_t c14 hf
    obtain ⟨rfl, rfl⟩ := z_p hf
    exact kk _ _ _ ⟨ls, rfl, lv_sub hl [0] rfl⟩ hG
  · have hf := z_f c14 hf
    refine lv_aload_n hx hb dX7_takes_17 rfl (lv_at hl 0 rfl) ?_
    refine zm_ga C hG 16 (Nat.le_of_ble_eq_true rfl) (by decide) q1459 dX7_takes_18 ?_
    refine lv_iload_n hx hb dX7_takes_21 rfl (lv_at hl 2 rfl) ?_
    refine lv_iconst (v := zi 0) hx hb dX7_takes_22 rfl ?_
    refine zm_az2 C hG 16 hf (Nat.le_of_ble_eq_true rfl) rfl dX7_takes_23 (fun S H locs hG hf => ?_)
    refine lv_aload_n hx hb dX7_takes_24 rfl (lv_at hl 0 rfl) ?_
    refine zm_ga C hG 17 (Nat.le_of_ble_eq_true rfl) (by decide) q1460 dX7_takes_25 ?_
    refine lv_iload_n hx hb dX7_takes_28 rfl (lv_at hl 2 rfl) ?_
    refine lv_aload_n hx hb dX7_takes_29 rfl (lv_at hl 0 rfl) ?_
    refine lv_iload_n hx hb dX7_takes_30 rfl (lv_at hl 2 rfl) ?_
    refine lv_iconst (v := zi 1) hx hb dX7_takes_31 rfl ?_
    refine zm_cvi (As := [.int s2, .int (zi 1)]) (rest := [.int s2, .ref (G_m Γ (17 + 1))]) C hG hf (ctm_boxOf Γ l s2 (zi 1)) (lw_V q1751 q1753 qs58 q107 q1754) ytm_boxOf rfl rfl (Nat.le_of_ble_eq_true rfl) (Nat.le_of_ble_eq_true rfl) hl.1 (Nat.le_of_ble_eq_true rfl) dX7_takes_32 (fun v32 S H locs hG hf => ?_)
    refine zm_as C hG 17 hf (Nat.le_of_ble_eq_true rfl) rfl dX7_takes_35 (fun S H locs hG hf => ?_)
    refine z_iinc (fun v => [(2, .int v), (0, .ref (G_m Γ 0)), (1, .int f1)]) hx hb hf dX7_takes_36 hl (k := 2) rfl (Nat.le_of_ble_eq_true rfl) (fun _ => rfl) (fun n36 ls hf hl => ?_)
    refine lv_goto (tgt := 7) hx hb dX7_takes_39 (by decide) ?_
    obtain ⟨rfl, rfl⟩ := z_p hf
    exact kk _ _ _ ⟨ls, rfl, lv_sub hl [1, 2, 0] rfl⟩ hG
theorem wm_takes_l7 (Γ : zG) (l : Launch) (f1 : Int32) : ∀ s : Int32, mRg Γ l yX7_takes cX7_takes 3 none 1 22 (m_takes_l7 f1 s) (fun m => im_takes_l7 Γ f1 m s) (zLE (im_takes_l7 Γ f1) (em_takes_l7 Γ f1)) := fun s => wm_takes_l7_b Γ l f1 s
set_option maxHeartbeats 4000000 in
theorem wm_takes (Γ : zG) (l : Launch) (a1 : Int32) : mRg Γ l yX7_takes cX7_takes 3 none 1 22 (m_takes a1) (zAt0 3 0 (lv_args 0 [.ref (G_m Γ 0), .int a1]) []) (zLv cX7_takes) := by
  intro p e R s m args below meth c Q A S H locs x S' g C hG hI hf kk
  obtain ⟨ls, rfl, hl⟩ := hI
  obtain ⟨⟨hx, hb, hml, hown, hts⟩, hr, hlk, hK, hR1, hR2⟩ := id C
  have C : zCx Γ p R s m args meth c cX7_takes 3 RX7 none 1 22 := C
  have hl : lv_has ls 3 [(0, .ref (G_m Γ 0)), (1, .int a1)] := hl
  refine lv_aload_n hx hb dX7_takes_0 rfl (lv_at hl 0 rfl) ?_
  refine lv_iload_n hx hb dX7_takes_1 rfl (lv_at hl 1 rfl) ?_
  refine zm_pf C hG 15 hf (Nat.le_of_ble_eq_true rfl) rfl rfl (by decide +kernel) q1458 dX7_takes_2 (fun S H locs hG hf => ?_)
  refine lv_iconst (v := zi 0) hx hb dX7_takes_5 rfl ?_
  refine lv_istore_n (lv' := [(2, .int (zi 0)), (0, .ref (G_m Γ 0)), (1, .int a1)]) hx hb dX7_takes_6 rfl hl (Nat.le_of_ble_eq_true rfl) rfl (fun ls hl => ?_)
  obtain ⟨e7, S, hlp, hf⟩ := nB_some hf
  refine mRg.loop (wm_takes_l7 Γ l a1) (zi 0) p e R s m args below meth c Q A _ _ _ _ _ _ C hG ⟨ls, rfl, lv_sub hl [1, 2, 0] rfl⟩ hlp (fun H locs g hL hG => ?_)
  obtain ⟨ls, rfl, hl⟩ := hL
  have hl : lv_has ls 3 [(0, .ref (G_m Γ 0))] := hl
  obtain ⟨rfl, rfl⟩ := z_p hf
  exact kk _ _ _ ⟨_, _, rfl, dX7_takes_42⟩ hG
theorem ctm_takes (Γ : zG) (l : Launch) (a1 : Int32) : mCt Γ l yX7_takes (ws_ yX7_takes cX7_takes 3 none) 1 22 [.ref (G_m Γ 0), .int a1] (m_takes a1) zov := mCt.mkv (by decide +kernel) (Nat.le_of_ble_eq_true rfl) (wm_takes Γ l a1)
theorem ytm_takes : yX7_takes.cls = RX7 ∧ yX7_takes.cls ≠ "java/lang/invoke/MethodHandle" ∧ yX7_takes.cls ≠ "java/lang/invoke/VarHandle" ∧ (parseMethodDescriptor yX7_takes.desc).map (fun d => d.parameters.length) = some 1 := by decide +kernel
set_option maxHeartbeats 4000000 in
theorem wm_closes (Γ : zG) (l : Launch) (a1 : Int32) (a2 : Int32) : mRg Γ l yX7_closes cX7_closes 4 none 1 22 (m_closes a1 a2) (zAt0 4 0 (lv_args 0 [.ref (G_m Γ 0), .int a1, .int a2]) []) (zLv cX7_closes) := by
  intro p e R s m args below meth c Q A S H locs x S' g C hG hI hf kk
  obtain ⟨ls, rfl, hl⟩ := hI
  obtain ⟨⟨hx, hb, hml, hown, hts⟩, hr, hlk, hK, hR1, hR2⟩ := id C
  have C : zCx Γ p R s m args meth c cX7_closes 4 RX7 none 1 22 := C
  have hl : lv_has ls 4 [(0, .ref (G_m Γ 0)), (1, .int a1), (2, .int a2)] := hl
  refine lv_bipush (v := zi 16) hx hb dX7_closes_0 (by decide +kernel) ?_
  refine lv_iload_n hx hb dX7_closes_2 rfl (lv_at hl 1 rfl) ?_
  refine lv_imul hx hb dX7_closes_3 ?_
  refine lv_aload_n hx hb dX7_closes_4 rfl (lv_at hl 0 rfl) ?_
  refine zm_ga C hG 22 (Nat.le_of_ble_eq_true rfl) (by decide) q1465 dX7_closes_5 ?_
  refine lv_iload_n hx hb dX7_closes_8 rfl (lv_at hl 1 rfl) ?_
  refine zm_al C hG 22 hf (Nat.le_of_ble_eq_true rfl) rfl dX7_closes_9 (fun v9 hf => ?_)
  refine lv_iadd hx hb dX7_closes_10 ?_
  refine z_top hf (fun n11 hf => ?_)
  refine lv_istore_n (lv' := [(3, .int n11), (0, .ref (G_m Γ 0)), (1, .int a1), (2, .int a2)]) hx hb dX7_closes_11 rfl hl (Nat.le_of_ble_eq_true rfl) rfl (fun ls hl => ?_)
  refine lv_aload_n hx hb dX7_closes_12 rfl (lv_at hl 1 rfl) ?_
  refine zm_ga C hG 23 (Nat.le_of_ble_eq_true rfl) (by decide) q1466 dX7_closes_13 ?_
  refine lv_iload_n hx hb dX7_closes_16 rfl (lv_at hl 0 rfl) ?_
  refine lv_aload_n hx hb dX7_closes_17 rfl (lv_at hl 1 rfl) ?_
  refine lv_iload_n hx hb dX7_closes_18 rfl (lv_at hl 3 rfl) ?_
  refine lv_iconst (v := zi 0) hx hb dX7_closes_19 rfl ?_
  refine zm_cvi (As := [.int a2, .int (zi 0)]) (rest := [.int n11, .ref (G_m Γ (23 + 1))]) C hG hf (ctm_boxOf Γ l a2 (zi 0)) (lw_V q1751 q1753 qs58 q107 q1754) ytm_boxOf rfl rfl (Nat.le_of_ble_eq_true rfl) (Nat.le_of_ble_eq_true rfl) hl.1 (Nat.le_of_ble_eq_true rfl) dX7_closes_20 (fun v20 S H locs hG hf => ?_)
  refine zm_as C hG 23 hf (Nat.le_of_ble_eq_true rfl) rfl dX7_closes_23 (fun S H locs hG hf => ?_)
  refine lv_aload_n hx hb dX7_closes_24 rfl (lv_at hl 1 rfl) ?_
  refine zm_ga C hG 24 (Nat.le_of_ble_eq_true rfl) (by decide) q1467 dX7_closes_25 ?_
  refine lv_iload_n hx hb dX7_closes_28 rfl (lv_at hl 0 rfl) ?_
  refine lv_aload_n hx hb dX7_closes_29 rfl (lv_at hl 1 rfl) ?_
  refine zm_ga C hG 17 (Nat.le_of_ble_eq_true rfl) (by decide) q1460 dX7_closes_30 ?_
  refine lv_iload_n hx hb dX7_closes_33 rfl (lv_at hl 3 rfl) ?_
  refine zm_al C hG 17 hf (Nat.le_of_ble_eq_true rfl) rfl dX7_closes_34 (fun v34 hf => ?_)
  refine zm_as C hG 24 hf (Nat.le_of_ble_eq_true rfl) rfl dX7_closes_35 (fun S H locs hG hf => ?_)
  refine lv_aload_n hx hb dX7_closes_36 rfl (lv_at hl 1 rfl) ?_
  refine zm_ga C hG 25 (Nat.le_of_ble_eq_true rfl) (by decide) q1468 dX7_closes_37 ?_
  refine lv_iload_n hx hb dX7_closes_40 rfl (lv_at hl 0 rfl) ?_
  refine lv_aload_n hx hb dX7_closes_41 rfl (lv_at hl 1 rfl) ?_
  refine zm_ga C hG 21 (Nat.le_of_ble_eq_true rfl) (by decide) q1464 dX7_closes_42 ?_
  refine lv_iload_n hx hb dX7_closes_45 rfl (lv_at hl 3 rfl) ?_
  refine zm_al C hG 21 hf (Nat.le_of_ble_eq_true rfl) rfl dX7_closes_46 (fun v46 hf => ?_)
  refine zm_as C hG 25 hf (Nat.le_of_ble_eq_true rfl) rfl dX7_closes_47 (fun S H locs hG hf => ?_)
  refine lv_aload_n hx hb dX7_closes_48 rfl (lv_at hl 1 rfl) ?_
  refine zm_ga C hG 22 (Nat.le_of_ble_eq_true rfl) (by decide) q1465 dX7_closes_49 ?_
  refine lv_iload_n hx hb dX7_closes_52 rfl (lv_at hl 2 rfl) ?_
  refine lv_dup2_11 hx hb dX7_closes_53 rfl rfl ?_
  refine zm_al C hG 22 hf (Nat.le_of_ble_eq_true rfl) rfl dX7_closes_54 (fun v54 hf => ?_)
  refine lv_iconst (v := zi 1) hx hb dX7_closes_55 rfl ?_
  refine lv_iadd hx hb dX7_closes_56 ?_
  refine zm_as C hG 22 hf (Nat.le_of_ble_eq_true rfl) rfl dX7_closes_57 (fun S H locs hG hf => ?_)
  obtain ⟨rfl, rfl⟩ := z_p hf
  exact kk _ _ _ ⟨_, _, rfl, dX7_closes_58⟩ hG
theorem ctm_closes (Γ : zG) (l : Launch) (a1 : Int32) (a2 : Int32) : mCt Γ l yX7_closes (ws_ yX7_closes cX7_closes 4 none) 1 22 [.ref (G_m Γ 0), .int a1, .int a2] (m_closes a1 a2) zov := mCt.mkv (by decide +kernel) (Nat.le_of_ble_eq_true rfl) (wm_closes Γ l a1 a2)
theorem ytm_closes : yX7_closes.cls = RX7 ∧ yX7_closes.cls ≠ "java/lang/invoke/MethodHandle" ∧ yX7_closes.cls ≠ "java/lang/invoke/VarHandle" ∧ (parseMethodDescriptor yX7_closes.desc).map (fun d => d.parameters.length) = some 2 := by decide +kernel
def im_opens_l23 (Γ : zG) (f1 : Int32) (f2 : Int32) (f3 : Int32) (m : MethodId) (s : Int32 × Int32) (g : JFrame) : Prop := zAt0 8 23 [(0, .ref (G_m Γ 0)), (1, .int f1), (2, .int f2), (3, .int f3), (4, .int s.1), (5, .int s.2)] [] m g
def em_opens_l23 (Γ : zG) (f1 : Int32) (f2 : Int32) (f3 : Int32) (m : MethodId) (e : Int32) (g : JFrame) : Prop := zAt0 8 295 [(0, .ref (G_m Γ 0)), (1, .int f1), (4, .int e)] [] m g
def im_opens_l188 (Γ : zG) (f1 : Int32) (f2 : Int32) (f3 : Int32) (f5 : Int32) (m : MethodId) (s : Int32) (g : JFrame) : Prop := zAt0 8 188 [(0, .ref (G_m Γ 0)), (1, .int f1), (2, .int f2), (3, .int f3), (4, .int s), (5, .int f5)] [] m g
def em_opens_l188 (Γ : zG) (f1 : Int32) (f2 : Int32) (f3 : Int32) (f5 : Int32) (m : MethodId) (e : Int32) (g : JFrame) : Prop := zAt0 8 230 [(0, .ref (G_m Γ 0)), (1, .int f1), (2, .int f2), (3, .int f3), (4, .int e), (5, .int f5)] [] m g
set_option maxHeartbeats 4000000 in
theorem wm_opens_l188_b (Γ : zG) (l : Launch) (f1 : Int32) (f2 : Int32) (f3 : Int32) (f5 : Int32) (s4 : Int32) : mRg Γ l yX7_opens cX7_opens 8 none 2 45 (m_opens_l188 f1 f2 f3 f5 s4) (zAt0 8 188 [(0, .ref (G_m Γ 0)), (1, .int f1), (2, .int f2), (3, .int f3), (4, .int s4), (5, .int f5)] []) (zLE (im_opens_l188 Γ f1 f2 f3 f5) (em_opens_l188 Γ f1 f2 f3 f5)) := by
  intro p e R s m args below meth c Q A S H locs x S' g C hG hI hf kk
  obtain ⟨ls, rfl, hl⟩ := hI
  obtain ⟨⟨hx, hb, hml, hown, hts⟩, hr, hlk, hK, hR1, hR2⟩ := id C
  have C : zCx Γ p R s m args meth c cX7_opens 8 RX7 none 2 45 := C
  refine lv_iload hx hb dX7_opens_188 (lv_at hl 4 rfl) ?_
  refine lv_if_le (tgt := 230) hx hb dX7_opens_190 (by decide) (fun c190 => ?_) (fun c190 => ?_)
  · have hf := z_t c190 hf
    obtain ⟨rfl, rfl⟩ := z_p hf
    exact kk _ _ _ ⟨ls, rfl, lv_sub hl [0, 1, 2, 3, 4, 5] rfl⟩ hG
  · have hf := z_f c190 hf
    refine lv_aload_n hx hb dX7_opens_193 rfl (lv_at hl 0 rfl) ?_
    refine zm_ga C hG 20 (Nat.le_of_ble_eq_true rfl) (by decide) q1463 dX7_opens_194 ?_
    refine lv_iload hx hb dX7_opens_197 (lv_at hl 4 rfl) ?_
    refine lv_iconst (v := zi 1) hx hb dX7_opens_199 rfl ?_
    refine lv_isub hx hb dX7_opens_200 ?_
    refine zm_al C hG 20 hf (Nat.le_of_ble_eq_true rfl) rfl dX7_opens_201 (fun v201 hf => ?_)
    refine lv_aload_n hx hb dX7_opens_202 rfl (lv_at hl 0 rfl) ?_
    refine zm_ga C hG 19 (Nat.le_of_ble_eq_true rfl) (by decide) q1462 dX7_opens_203 ?_
    refine lv_iload hx hb dX7_opens_206 (lv_at hl 5 rfl) ?_
    refine zm_al C hG 19 hf (Nat.le_of_ble_eq_true rfl) rfl dX7_opens_208 (fun v208 hf => ?_)
    refine lv_icmp_eq (tgt := 230) hx hb dX7_opens_209 (by decide) (fun c209 => ?_) (fun c209 => ?_)
    · have hf := z_t c209 hf
      obtain ⟨rfl, rfl⟩ := z_p hf
      exact kk _ _ _ ⟨ls, rfl, lv_sub hl [0, 1, 2, 3, 4, 5] rfl⟩ hG
    · have hf := z_f c209 hf
      refine z_iinc (fun v => [(4, .int v), (0, .ref (G_m Γ 0)), (1, .int f1), (2, .int f2), (3, .int f3), (5, .int f5)]) hx hb hf dX7_opens_212 hl (k := 4) rfl (Nat.le_of_ble_eq_true rfl) (fun _ => rfl) (fun n212 ls hf hl => ?_)
      refine lv_aload_n hx hb dX7_opens_215 rfl (lv_at hl 1 rfl) ?_
      refine lv_iload_n hx hb dX7_opens_216 rfl (lv_at hl 2 rfl) ?_
      refine lv_aload_n hx hb dX7_opens_217 rfl (lv_at hl 1 rfl) ?_
      refine zm_ga C hG 20 (Nat.le_of_ble_eq_true rfl) (by decide) q1463 dX7_opens_218 ?_
      refine lv_iload hx hb dX7_opens_221 (lv_at hl 0 rfl) ?_
      refine zm_al C hG 20 hf (Nat.le_of_ble_eq_true rfl) rfl dX7_opens_223 (fun v223 hf => ?_)
      refine zm_cvv (As := [.int f1, .int v223]) (rest := []) C hG hf (ctm_closes Γ l f1 v223) (lw_V q1759 q1761 qs60 q107 q1762) ytm_closes rfl rfl (Nat.le_of_ble_eq_true rfl) (Nat.le_of_ble_eq_true rfl) hl.1 (Nat.le_of_ble_eq_true rfl) dX7_opens_224 (fun S H locs hG hf => ?_)
      refine lv_goto (tgt := 188) hx hb dX7_opens_227 (by decide) ?_
      obtain ⟨rfl, rfl⟩ := z_p hf
      exact kk _ _ _ ⟨ls, rfl, lv_sub hl [1, 2, 3, 4, 0, 5] rfl⟩ hG
theorem wm_opens_l188 (Γ : zG) (l : Launch) (f1 : Int32) (f2 : Int32) (f3 : Int32) (f5 : Int32) : ∀ s : Int32, mRg Γ l yX7_opens cX7_opens 8 none 2 45 (m_opens_l188 f1 f2 f3 f5 s) (fun m => im_opens_l188 Γ f1 f2 f3 f5 m s) (zLE (im_opens_l188 Γ f1 f2 f3 f5) (em_opens_l188 Γ f1 f2 f3 f5)) := fun s => wm_opens_l188_b Γ l f1 f2 f3 f5 s
set_option maxHeartbeats 4000000 in
theorem wm_opens_l23_j164 (Γ : zG) (l : Launch) (b1 : Int32) (b2 : Int32) (b3 : Int32) (b4 : Int32) (b5 : Int32) (t0 : Int32) (t1 : Int32) : mRg Γ l yX7_opens cX7_opens 8 none 2 45 (m_opens_l23_j164 b1 b2 b3 b4 b5 t0 t1) (zAt0 8 164 [(0, .ref (G_m Γ 0)), (1, .int b1), (2, .int b2), (3, .int b3), (4, .int b4), (5, .int b5)] [.int t0, .int t1, .ref (G_m Γ (19 + 1))]) (zLE (im_opens_l23 Γ b1 b2 b3) (em_opens_l23 Γ b1 b2 b3)) := by
  intro p e R s m args below meth c Q A S H locs x S' g C hG hI hf kk
  obtain ⟨ls, rfl, hl⟩ := hI
  obtain ⟨⟨hx, hb, hml, hown, hts⟩, hr, hlk, hK, hR1, hR2⟩ := id C
  have C : zCx Γ p R s m args meth c cX7_opens 8 RX7 none 2 45 := C
  refine zm_as C hG 19 hf (Nat.le_of_ble_eq_true rfl) rfl dX7_opens_164 (fun S H locs hG hf => ?_)
  refine lv_aload_n hx hb dX7_opens_165 rfl (lv_at hl 0 rfl) ?_
  refine zm_ga C hG 18 (Nat.le_of_ble_eq_true rfl) (by decide) q1461 dX7_opens_166 ?_
  refine lv_iload hx hb dX7_opens_169 (lv_at hl 5 rfl) ?_
  refine zm_az C hG 18 hf (Nat.le_of_ble_eq_true rfl) rfl dX7_opens_171 (fun v171 hf => ?_)
  refine lv_if_eq (tgt := 289) hx hb dX7_opens_172 (by decide) (fun c172 => ?_) (fun c172 => ?_)
  · have hf := z_t c172 hf
    refine z_iinc (fun v => [(5, .int v), (0, .ref (G_m Γ 0)), (1, .int b1), (2, .int b2), (3, .int b3), (4, .int b4)]) hx hb hf dX7_opens_289 hl (k := 5) rfl (Nat.le_of_ble_eq_true rfl) (fun _ => rfl) (fun n289 ls hf hl => ?_)
    refine lv_goto (tgt := 23) hx hb dX7_opens_292 (by decide) ?_
    obtain ⟨rfl, rfl⟩ := z_p hf
    exact kk _ _ _ ⟨ls, rfl, lv_sub hl [1, 2, 3, 4, 5, 0] rfl⟩ hG
  · have hf := z_f c172 hf
    refine lv_aload_n hx hb dX7_opens_175 rfl (lv_at hl 0 rfl) ?_
    refine zm_ga C hG 16 (Nat.le_of_ble_eq_true rfl) (by decide) q1459 dX7_opens_176 ?_
    refine lv_iload hx hb dX7_opens_179 (lv_at hl 5 rfl) ?_
    refine zm_az C hG 16 hf (Nat.le_of_ble_eq_true rfl) rfl dX7_opens_181 (fun v181 hf => ?_)
    refine lv_if_eq (tgt := 188) hx hb dX7_opens_182 (by decide) (fun c182 => ?_) (fun c182 => ?_)
    · have hf := z_t c182 hf
      obtain ⟨e188, S, hlp, hf⟩ := nB_some hf
      refine mRg.loop (wm_opens_l188 Γ l b1 b2 b3 b5) b4 p e R s m args below meth c Q A _ _ _ _ _ _ C hG ⟨ls, rfl, lv_sub hl [0, 1, 2, 3, 4, 5] rfl⟩ hlp (fun H locs g hL hG => ?_)
      obtain ⟨ls, rfl, hl⟩ := hL
      have hl : lv_has ls 8 [(0, .ref (G_m Γ 0)), (1, .int b1), (2, .int b2), (3, .int b3), (4, .int e188), (5, .int b5)] := hl
      refine lv_aload_n hx hb dX7_opens_230 rfl (lv_at hl 0 rfl) ?_
      refine zm_ga C hG 21 (Nat.le_of_ble_eq_true rfl) (by decide) q1464 dX7_opens_231 ?_
      refine lv_iload hx hb dX7_opens_234 (lv_at hl 5 rfl) ?_
      refine lv_aload_n hx hb dX7_opens_236 rfl (lv_at hl 0 rfl) ?_
      refine zm_ga C hG 22 (Nat.le_of_ble_eq_true rfl) (by decide) q1465 dX7_opens_237 ?_
      refine lv_iload_n hx hb dX7_opens_240 rfl (lv_at hl 1 rfl) ?_
      refine zm_al C hG 22 hf (Nat.le_of_ble_eq_true rfl) rfl dX7_opens_241 (fun v241 hf => ?_)
      refine zm_as C hG 21 hf (Nat.le_of_ble_eq_true rfl) rfl dX7_opens_242 (fun S H locs hG hf => ?_)
      refine lv_aload_n hx hb dX7_opens_243 rfl (lv_at hl 0 rfl) ?_
      refine zm_ga C hG 20 (Nat.le_of_ble_eq_true rfl) (by decide) q1463 dX7_opens_244 ?_
      refine lv_iload hx hb dX7_opens_247 (lv_at hl 4 rfl) ?_
      refine lv_iload hx hb dX7_opens_249 (lv_at hl 5 rfl) ?_
      refine zm_as C hG 20 hf (Nat.le_of_ble_eq_true rfl) rfl dX7_opens_251 (fun S H locs hG hf => ?_)
      refine z_iinc (fun v => [(4, .int v), (0, .ref (G_m Γ 0)), (1, .int b1), (2, .int b2), (3, .int b3), (5, .int b5)]) hx hb hf dX7_opens_252 hl (k := 4) rfl (Nat.le_of_ble_eq_true rfl) (fun _ => rfl) (fun n252 ls hf hl => ?_)
      refine lv_aload_n hx hb dX7_opens_255 rfl (lv_at hl 1 rfl) ?_
      refine lv_dup hx hb dX7_opens_256 rfl ?_
      refine zm_gf C hG 26 hf (Nat.le_of_ble_eq_true rfl) rfl q1469 dX7_opens_257 (fun v257 hf => ?_)
      refine lv_iconst (v := zi 1) hx hb dX7_opens_260 rfl ?_
      refine lv_iadd hx hb dX7_opens_261 ?_
      refine zm_pf C hG 26 hf (Nat.le_of_ble_eq_true rfl) rfl rfl (by decide +kernel) q1469 dX7_opens_262 (fun S H locs hG hf => ?_)
      refine lv_aload_n hx hb dX7_opens_265 rfl (lv_at hl 1 rfl) ?_
      refine lv_dup hx hb dX7_opens_266 rfl ?_
      refine zm_gf C hG 27 hf (Nat.le_of_ble_eq_true rfl) rfl q1470 dX7_opens_267 (fun v267 hf => ?_)
      refine lv_aload_n hx hb dX7_opens_270 rfl (lv_at hl 1 rfl) ?_
      refine zm_ga C hG 0 (Nat.le_of_ble_eq_true rfl) (by decide) q1443 dX7_opens_271 ?_
      refine lv_bipush (v := zi 10) hx hb dX7_opens_274 (by decide +kernel) ?_
      refine lv_aload_n hx hb dX7_opens_276 rfl (lv_at hl 1 rfl) ?_
      refine lv_iload hx hb dX7_opens_277 (lv_at hl 5 rfl) ?_
      refine lv_iconst (v := zi 0) hx hb dX7_opens_279 rfl ?_
      refine zm_cvi (As := [.int b5, .int (zi 0)]) (rest := [.int (zi 10), .ref (G_m Γ (0 + 1)), .int v267, .ref (G_m Γ 0)]) C hG hf (ctm_boxOf Γ l b5 (zi 0)) (lw_V q1751 q1753 qs58 q107 q1754) ytm_boxOf rfl rfl (Nat.le_of_ble_eq_true rfl) (Nat.le_of_ble_eq_true rfl) hl.1 (Nat.le_of_ble_eq_true rfl) dX7_opens_280 (fun v280 S H locs hG hf => ?_)
      refine lv_iadd hx hb dX7_opens_283 ?_
      refine zm_al C hG 0 hf (Nat.le_of_ble_eq_true rfl) rfl dX7_opens_284 (fun v284 hf => ?_)
      refine lv_iadd hx hb dX7_opens_285 ?_
      refine zm_pf C hG 27 hf (Nat.le_of_ble_eq_true rfl) rfl rfl (by decide +kernel) q1470 dX7_opens_286 (fun S H locs hG hf => ?_)
      refine z_iinc (fun v => [(5, .int v), (4, .int n252), (0, .ref (G_m Γ 0)), (1, .int b1), (2, .int b2), (3, .int b3)]) hx hb hf dX7_opens_289 hl (k := 5) rfl (Nat.le_of_ble_eq_true rfl) (fun _ => rfl) (fun n289 ls hf hl => ?_)
      refine lv_goto (tgt := 23) hx hb dX7_opens_292 (by decide) ?_
      obtain ⟨rfl, rfl⟩ := z_p hf
      exact kk _ _ _ ⟨ls, rfl, lv_sub hl [2, 3, 4, 5, 1, 0] rfl⟩ hG
    · have hf := z_f c182 hf
      refine lv_goto (tgt := 289) hx hb dX7_opens_185 (by decide) ?_
      refine z_iinc (fun v => [(5, .int v), (0, .ref (G_m Γ 0)), (1, .int b1), (2, .int b2), (3, .int b3), (4, .int b4)]) hx hb hf dX7_opens_289 hl (k := 5) rfl (Nat.le_of_ble_eq_true rfl) (fun _ => rfl) (fun n289 ls hf hl => ?_)
      refine lv_goto (tgt := 23) hx hb dX7_opens_292 (by decide) ?_
      obtain ⟨rfl, rfl⟩ := z_p hf
      exact kk _ _ _ ⟨ls, rfl, lv_sub hl [1, 2, 3, 4, 5, 0] rfl⟩ hG
set_option maxHeartbeats 4000000 in
theorem wm_opens_l23_j126 (Γ : zG) (l : Launch) (b1 : Int32) (b2 : Int32) (b3 : Int32) (b4 : Int32) (b5 : Int32) (b6 : Int32) (t0 : Int32) (t1 : Int32) : mRg Γ l yX7_opens cX7_opens 8 none 2 45 (m_opens_l23_j126 b1 b2 b3 b4 b5 b6 t0 t1) (zAt0 8 126 [(0, .ref (G_m Γ 0)), (1, .int b1), (2, .int b2), (3, .int b3), (4, .int b4), (5, .int b5), (6, .int b6)] [.int t0, .int t1, .ref (G_m Γ (18 + 1))]) (zLE (im_opens_l23 Γ b1 b2 b3) (em_opens_l23 Γ b1 b2 b3)) := by
  intro p e R s m args below meth c Q A S H locs x S' g C hG hI hf kk
  obtain ⟨ls, rfl, hl⟩ := hI
  obtain ⟨⟨hx, hb, hml, hown, hts⟩, hr, hlk, hK, hR1, hR2⟩ := id C
  have C : zCx Γ p R s m args meth c cX7_opens 8 RX7 none 2 45 := C
  refine zm_az2 C hG 18 hf (Nat.le_of_ble_eq_true rfl) rfl dX7_opens_126 (fun S H locs hG hf => ?_)
  refine lv_aload_n hx hb dX7_opens_127 rfl (lv_at hl 0 rfl) ?_
  refine zm_ga C hG 19 (Nat.le_of_ble_eq_true rfl) (by decide) q1462 dX7_opens_128 ?_
  refine lv_iload hx hb dX7_opens_131 (lv_at hl 5 rfl) ?_
  refine lv_iload hx hb dX7_opens_133 (lv_at hl 6 rfl) ?_
  refine lv_if_ge (tgt := 142) hx hb dX7_opens_135 (by decide) (fun c135 => ?_) (fun c135 => ?_)
  · have hf := z_t c135 hf
    refine lv_aload_n hx hb dX7_opens_142 rfl (lv_at hl 0 rfl) ?_
    refine zm_ga C hG 16 (Nat.le_of_ble_eq_true rfl) (by decide) q1459 dX7_opens_143 ?_
    refine lv_iload hx hb dX7_opens_146 (lv_at hl 6 rfl) ?_
    refine zm_az C hG 16 hf (Nat.le_of_ble_eq_true rfl) rfl dX7_opens_148 (fun v148 hf => ?_)
    refine lv_if_eq (tgt := 162) hx hb dX7_opens_149 (by decide) (fun c149 => ?_) (fun c149 => ?_)
    · have hf := z_t c149 hf
      refine lv_iload hx hb dX7_opens_162 (lv_at hl 6 rfl) ?_
      exact wm_opens_l23_j164 Γ l b1 b2 b3 b4 b5 b6 b5 p e R s m args below meth c Q A _ _ _ _ _ _ C hG ⟨ls, rfl, lv_sub hl [0, 1, 2, 3, 4, 5] rfl⟩ hf kk
    · have hf := z_f c149 hf
      refine lv_aload_n hx hb dX7_opens_152 rfl (lv_at hl 0 rfl) ?_
      refine zm_ga C hG 19 (Nat.le_of_ble_eq_true rfl) (by decide) q1462 dX7_opens_153 ?_
      refine lv_iload hx hb dX7_opens_156 (lv_at hl 6 rfl) ?_
      refine zm_al C hG 19 hf (Nat.le_of_ble_eq_true rfl) rfl dX7_opens_158 (fun v158 hf => ?_)
      refine lv_goto (tgt := 164) hx hb dX7_opens_159 (by decide) ?_
      exact wm_opens_l23_j164 Γ l b1 b2 b3 b4 b5 v158 b5 p e R s m args below meth c Q A _ _ _ _ _ _ C hG ⟨ls, rfl, lv_sub hl [0, 1, 2, 3, 4, 5] rfl⟩ hf kk
  · have hf := z_f c135 hf
    refine lv_iconst (v := zi (-1)) hx hb dX7_opens_138 rfl ?_
    refine lv_goto (tgt := 164) hx hb dX7_opens_139 (by decide) ?_
    exact wm_opens_l23_j164 Γ l b1 b2 b3 b4 b5 (zi (-1)) b5 p e R s m args below meth c Q A _ _ _ _ _ _ C hG ⟨ls, rfl, lv_sub hl [0, 1, 2, 3, 4, 5] rfl⟩ hf kk
set_option maxHeartbeats 4000000 in
theorem wm_opens_l23_j125 (Γ : zG) (l : Launch) (b1 : Int32) (b2 : Int32) (b3 : Int32) (b4 : Int32) (b5 : Int32) (b6 : Int32) (t0 : Int32) : mRg Γ l yX7_opens cX7_opens 8 none 2 45 (m_opens_l23_j125 b1 b2 b3 b4 b5 b6 t0) (zAt0 8 125 [(0, .ref (G_m Γ 0)), (1, .int b1), (2, .int b2), (3, .int b3), (4, .int b4), (5, .int b5), (6, .int b6)] [.int t0, .ref (G_m Γ (18 + 1))]) (zLE (im_opens_l23 Γ b1 b2 b3) (em_opens_l23 Γ b1 b2 b3)) := by
  intro p e R s m args below meth c Q A S H locs x S' g C hG hI hf kk
  obtain ⟨ls, rfl, hl⟩ := hI
  obtain ⟨⟨hx, hb, hml, hown, hts⟩, hr, hlk, hK, hR1, hR2⟩ := id C
  have C : zCx Γ p R s m args meth c cX7_opens 8 RX7 none 2 45 := C
  refine lv_iconst (v := zi 0) hx hb dX7_opens_125 rfl ?_
  exact wm_opens_l23_j126 Γ l b1 b2 b3 b4 b5 b6 (zi 0) t0 p e R s m args below meth c Q A _ _ _ _ _ _ C hG ⟨ls, rfl, lv_sub hl [0, 1, 2, 3, 4, 5, 6] rfl⟩ hf kk
set_option maxHeartbeats 4000000 in
theorem wm_opens_l23_j121 (Γ : zG) (l : Launch) (b1 : Int32) (b2 : Int32) (b3 : Int32) (b4 : Int32) (b5 : Int32) (b6 : Int32) (t0 : Int32) : mRg Γ l yX7_opens cX7_opens 8 none 2 45 (m_opens_l23_j121 b1 b2 b3 b4 b5 b6 t0) (zAt0 8 121 [(0, .ref (G_m Γ 0)), (1, .int b1), (2, .int b2), (3, .int b3), (4, .int b4), (5, .int b5), (6, .int b6)] [.int t0, .ref (G_m Γ (18 + 1))]) (zLE (im_opens_l23 Γ b1 b2 b3) (em_opens_l23 Γ b1 b2 b3)) := by
  intro p e R s m args below meth c Q A S H locs x S' g C hG hI hf kk
  obtain ⟨ls, rfl, hl⟩ := hI
  obtain ⟨⟨hx, hb, hml, hown, hts⟩, hr, hlk, hK, hR1, hR2⟩ := id C
  have C : zCx Γ p R s m args meth c cX7_opens 8 RX7 none 2 45 := C
  refine lv_iconst (v := zi 1) hx hb dX7_opens_121 rfl ?_
  refine lv_goto (tgt := 126) hx hb dX7_opens_122 (by decide) ?_
  exact wm_opens_l23_j126 Γ l b1 b2 b3 b4 b5 b6 (zi 1) t0 p e R s m args below meth c Q A _ _ _ _ _ _ C hG ⟨ls, rfl, lv_sub hl [0, 1, 2, 3, 4, 5, 6] rfl⟩ hf kk
set_option maxHeartbeats 4000000 in
theorem wm_opens_l23_j110 (Γ : zG) (l : Launch) (b1 : Int32) (b2 : Int32) (b3 : Int32) (b4 : Int32) (b5 : Int32) (b6 : Int32) (t0 : Int32) : mRg Γ l yX7_opens cX7_opens 8 none 2 45 (m_opens_l23_j110 b1 b2 b3 b4 b5 b6 t0) (zAt0 8 110 [(0, .ref (G_m Γ 0)), (1, .int b1), (2, .int b2), (3, .int b3), (4, .int b4), (5, .int b5), (6, .int b6)] [.int t0, .ref (G_m Γ (18 + 1))]) (zLE (im_opens_l23 Γ b1 b2 b3) (em_opens_l23 Γ b1 b2 b3)) := by
  intro p e R s m args below meth c Q A S H locs x S' g C hG hI hf kk
  obtain ⟨ls, rfl, hl⟩ := hI
  obtain ⟨⟨hx, hb, hml, hown, hts⟩, hr, hlk, hK, hR1, hR2⟩ := id C
  have C : zCx Γ p R s m args meth c cX7_opens 8 RX7 none 2 45 := C
  refine lv_aload_n hx hb dX7_opens_110 rfl (lv_at hl 0 rfl) ?_
  refine lv_iload hx hb dX7_opens_111 (lv_at hl 5 rfl) ?_
  refine lv_iconst (v := zi 4) hx hb dX7_opens_113 rfl ?_
  refine zm_cvi (As := [.int b5, .int (zi 4)]) (rest := [.int t0, .ref (G_m Γ (18 + 1))]) C hG hf (ctm_boxOf Γ l b5 (zi 4)) (lw_V q1751 q1753 qs58 q107 q1754) ytm_boxOf rfl rfl (Nat.le_of_ble_eq_true rfl) (Nat.le_of_ble_eq_true rfl) hl.1 (Nat.le_of_ble_eq_true rfl) dX7_opens_114 (fun v114 S H locs hG hf => ?_)
  refine lv_iload_n hx hb dX7_opens_117 rfl (lv_at hl 3 rfl) ?_
  refine lv_icmp_gt (tgt := 125) hx hb dX7_opens_118 (by decide) (fun c118 => ?_) (fun c118 => ?_)
  · have hf := z_t c118 hf
    exact wm_opens_l23_j125 Γ l b1 b2 b3 b4 b5 b6 t0 p e R s m args below meth c Q A _ _ _ _ _ _ C hG ⟨ls, rfl, lv_sub hl [0, 1, 2, 3, 4, 5, 6] rfl⟩ hf kk
  · have hf := z_f c118 hf
    exact wm_opens_l23_j121 Γ l b1 b2 b3 b4 b5 b6 t0 p e R s m args below meth c Q A _ _ _ _ _ _ C hG ⟨ls, rfl, lv_sub hl [0, 1, 2, 3, 4, 5, 6] rfl⟩ hf kk
set_option maxHeartbeats 4000000 in
theorem wm_opens_l23_j66 (Γ : zG) (l : Launch) (b1 : Int32) (b2 : Int32) (b3 : Int32) (b4 : Int32) (b5 : Int32) (b6 : Int32) (t0 : Int32) : mRg Γ l yX7_opens cX7_opens 8 none 2 45 (m_opens_l23_j66 b1 b2 b3 b4 b5 b6 t0) (zAt0 8 66 [(0, .ref (G_m Γ 0)), (1, .int b1), (2, .int b2), (3, .int b3), (4, .int b4), (5, .int b5), (6, .int b6)] [.int t0]) (zLE (im_opens_l23 Γ b1 b2 b3) (em_opens_l23 Γ b1 b2 b3)) := by
  intro p e R s m args below meth c Q A S H locs x S' g C hG hI hf kk
  obtain ⟨ls, rfl, hl⟩ := hI
  obtain ⟨⟨hx, hb, hml, hown, hts⟩, hr, hlk, hK, hR1, hR2⟩ := id C
  have C : zCx Γ p R s m args meth c cX7_opens 8 RX7 none 2 45 := C
  refine lv_istore (lv' := [(7, .int t0), (0, .ref (G_m Γ 0)), (1, .int b1), (2, .int b2), (3, .int b3), (4, .int b4), (5, .int b5), (6, .int b6)]) hx hb dX7_opens_66 hl (Nat.le_of_ble_eq_true rfl) rfl (fun ls hl => ?_)
  refine lv_aload_n hx hb dX7_opens_68 rfl (lv_at hl 1 rfl) ?_
  refine zm_ga C hG 18 (Nat.le_of_ble_eq_true rfl) (by decide) q1461 dX7_opens_69 ?_
  refine lv_iload hx hb dX7_opens_72 (lv_at hl 6 rfl) ?_
  refine lv_iload hx hb dX7_opens_74 (lv_at hl 0 rfl) ?_
  refine lv_if_eq (tgt := 125) hx hb dX7_opens_76 (by decide) (fun c76 => ?_) (fun c76 => ?_)
  · have hf := z_t c76 hf
    exact wm_opens_l23_j125 Γ l b1 b2 b3 b4 b5 b6 b5 p e R s m args below meth c Q A _ _ _ _ _ _ C hG ⟨ls, rfl, lv_sub hl [1, 2, 3, 4, 5, 6, 7] rfl⟩ hf kk
  · have hf := z_f c76 hf
    refine lv_aload_n hx hb dX7_opens_79 rfl (lv_at hl 1 rfl) ?_
    refine zm_ga C hG 16 (Nat.le_of_ble_eq_true rfl) (by decide) q1459 dX7_opens_80 ?_
    refine lv_iload hx hb dX7_opens_83 (lv_at hl 6 rfl) ?_
    refine zm_az C hG 16 hf (Nat.le_of_ble_eq_true rfl) rfl dX7_opens_85 (fun v85 hf => ?_)
    refine lv_if_ne (tgt := 121) hx hb dX7_opens_86 (by decide) (fun c86 => ?_) (fun c86 => ?_)
    · have hf := z_f c86 hf
      exact wm_opens_l23_j121 Γ l b1 b2 b3 b4 b5 b6 b5 p e R s m args below meth c Q A _ _ _ _ _ _ C hG ⟨ls, rfl, lv_sub hl [1, 2, 3, 4, 5, 6, 7] rfl⟩ hf kk
    · have hf := z_t c86 hf
      refine lv_aload_n hx hb dX7_opens_89 rfl (lv_at hl 1 rfl) ?_
      refine lv_iload hx hb dX7_opens_90 (lv_at hl 6 rfl) ?_
      refine lv_iconst (v := zi 3) hx hb dX7_opens_92 rfl ?_
      refine zm_cvi (As := [.int b5, .int (zi 3)]) (rest := [.int b5, .ref (G_m Γ (18 + 1))]) C hG hf (ctm_boxOf Γ l b5 (zi 3)) (lw_V q1751 q1753 qs58 q107 q1754) ytm_boxOf rfl rfl (Nat.le_of_ble_eq_true rfl) (Nat.le_of_ble_eq_true rfl) hl.1 (Nat.le_of_ble_eq_true rfl) dX7_opens_93 (fun v93 S H locs hG hf => ?_)
      refine lv_if_lt (tgt := 110) hx hb dX7_opens_96 (by decide) (fun c96 => ?_) (fun c96 => ?_)
      · have hf := z_t c96 hf
        exact wm_opens_l23_j110 Γ l b1 b2 b3 b4 b5 b6 b5 p e R s m args below meth c Q A _ _ _ _ _ _ C hG ⟨ls, rfl, lv_sub hl [1, 2, 3, 4, 5, 6, 7] rfl⟩ hf kk
      · have hf := z_f c96 hf
        refine lv_aload_n hx hb dX7_opens_99 rfl (lv_at hl 1 rfl) ?_
        refine lv_iload hx hb dX7_opens_100 (lv_at hl 6 rfl) ?_
        refine lv_iconst (v := zi 3) hx hb dX7_opens_102 rfl ?_
        refine zm_cvi (As := [.int b5, .int (zi 3)]) (rest := [.int b5, .ref (G_m Γ (18 + 1))]) C hG hf (ctm_boxOf Γ l b5 (zi 3)) (lw_V q1751 q1753 qs58 q107 q1754) ytm_boxOf rfl rfl (Nat.le_of_ble_eq_true rfl) (Nat.le_of_ble_eq_true rfl) hl.1 (Nat.le_of_ble_eq_true rfl) dX7_opens_103 (fun v103 S H locs hG hf => ?_)
        refine lv_iload_n hx hb dX7_opens_106 rfl (lv_at hl 3 rfl) ?_
        refine lv_icmp_ne (tgt := 125) hx hb dX7_opens_107 (by decide) (fun c107 => ?_) (fun c107 => ?_)
        · have hf := z_f c107 hf
          exact wm_opens_l23_j125 Γ l b1 b2 b3 b4 b5 b6 b5 p e R s m args below meth c Q A _ _ _ _ _ _ C hG ⟨ls, rfl, lv_sub hl [1, 2, 3, 4, 5, 6, 7] rfl⟩ hf kk
        · have hf := z_t c107 hf
          exact wm_opens_l23_j110 Γ l b1 b2 b3 b4 b5 b6 b5 p e R s m args below meth c Q A _ _ _ _ _ _ C hG ⟨ls, rfl, lv_sub hl [1, 2, 3, 4, 5, 6, 7] rfl⟩ hf kk
set_option maxHeartbeats 4000000 in
theorem wm_opens_l23_j61 (Γ : zG) (l : Launch) (b1 : Int32) (b2 : Int32) (b3 : Int32) (b4 : Int32) (b5 : Int32) (b6 : Int32) : mRg Γ l yX7_opens cX7_opens 8 none 2 45 (m_opens_l23_j61 b1 b2 b3 b4 b5 b6) (zAt0 8 61 [(0, .ref (G_m Γ 0)), (1, .int b1), (2, .int b2), (3, .int b3), (4, .int b4), (5, .int b5), (6, .int b6)] []) (zLE (im_opens_l23 Γ b1 b2 b3) (em_opens_l23 Γ b1 b2 b3)) := by
  intro p e R s m args below meth c Q A S H locs x S' g C hG hI hf kk
  obtain ⟨ls, rfl, hl⟩ := hI
  obtain ⟨⟨hx, hb, hml, hown, hts⟩, hr, hlk, hK, hR1, hR2⟩ := id C
  have C : zCx Γ p R s m args meth c cX7_opens 8 RX7 none 2 45 := C
  refine lv_iconst (v := zi 1) hx hb dX7_opens_61 rfl ?_
  refine lv_goto (tgt := 66) hx hb dX7_opens_62 (by decide) ?_
  exact wm_opens_l23_j66 Γ l b1 b2 b3 b4 b5 b6 (zi 1) p e R s m args below meth c Q A _ _ _ _ _ _ C hG ⟨ls, rfl, lv_sub hl [0, 1, 2, 3, 4, 5, 6] rfl⟩ hf kk
set_option maxHeartbeats 4000000 in
theorem wm_opens_l23_b (Γ : zG) (l : Launch) (f1 : Int32) (f2 : Int32) (f3 : Int32) (s4 : Int32) (s5 : Int32) : mRg Γ l yX7_opens cX7_opens 8 none 2 45 (m_opens_l23 f1 f2 f3 s4 s5) (zAt0 8 23 [(0, .ref (G_m Γ 0)), (1, .int f1), (2, .int f2), (3, .int f3), (4, .int s4), (5, .int s5)] []) (zLE (im_opens_l23 Γ f1 f2 f3) (em_opens_l23 Γ f1 f2 f3)) := by
  intro p e R s m args below meth c Q A S H locs x S' g C hG hI hf kk
  obtain ⟨ls, rfl, hl⟩ := hI
  obtain ⟨⟨hx, hb, hml, hown, hts⟩, hr, hlk, hK, hR1, hR2⟩ := id C
  have C : zCx Γ p R s m args meth c cX7_opens 8 RX7 none 2 45 := C
  refine lv_iload hx hb dX7_opens_23 (lv_at hl 5 rfl) ?_
  refine lv_aload_n hx hb dX7_opens_25 rfl (lv_at hl 0 rfl) ?_
  refine zm_ga C hG 0 (Nat.le_of_ble_eq_true rfl) (by decide) q1443 dX7_opens_26 ?_
  refine lv_aload_n hx hb dX7_opens_29 rfl (lv_at hl 0 rfl) ?_
  refine zm_gf C hG 15 hf (Nat.le_of_ble_eq_true rfl) rfl q1458 dX7_opens_30 (fun v30 hf => ?_)
  refine zm_al C hG 0 hf (Nat.le_of_ble_eq_true rfl) rfl dX7_opens_33 (fun v33 hf => ?_)
  refine lv_icmp_ge (tgt := 295) hx hb dX7_opens_34 (by decide) (fun c34 => ?_) (fun c34 => ?_)
  · have hf := z_t c34 hf
    obtain ⟨rfl, rfl⟩ := z_p hf
    exact kk _ _ _ ⟨ls, rfl, lv_sub hl [0, 1, 4] rfl⟩ hG
  · have hf := z_f c34 hf
    refine lv_aload_n hx hb dX7_opens_37 rfl (lv_at hl 0 rfl) ?_
    refine lv_iload hx hb dX7_opens_38 (lv_at hl 5 rfl) ?_
    refine lv_iconst (v := zi 2) hx hb dX7_opens_40 rfl ?_
    refine zm_cvi (As := [.int s5, .int (zi 2)]) (rest := []) C hG hf (ctm_boxOf Γ l s5 (zi 2)) (lw_V q1751 q1753 qs58 q107 q1754) ytm_boxOf rfl rfl (Nat.le_of_ble_eq_true rfl) (Nat.le_of_ble_eq_true rfl) hl.1 (Nat.le_of_ble_eq_true rfl) dX7_opens_41 (fun v41 S H locs hG hf => ?_)
    refine lv_istore (lv' := [(6, .int v41), (0, .ref (G_m Γ 0)), (1, .int f1), (2, .int f2), (3, .int f3), (4, .int s4), (5, .int s5)]) hx hb dX7_opens_44 hl (Nat.le_of_ble_eq_true rfl) rfl (fun ls hl => ?_)
    refine lv_iload hx hb dX7_opens_46 (lv_at hl 0 rfl) ?_
    refine lv_if_lt (tgt := 61) hx hb dX7_opens_48 (by decide) (fun c48 => ?_) (fun c48 => ?_)
    · have hf := z_t c48 hf
      exact wm_opens_l23_j61 Γ l f1 f2 f3 s4 s5 v41 p e R s m args below meth c Q A _ _ _ _ _ _ C hG ⟨ls, rfl, lv_sub hl [1, 2, 3, 4, 5, 6, 0] rfl⟩ hf kk
    · have hf := z_f c48 hf
      refine lv_aload_n hx hb dX7_opens_51 rfl (lv_at hl 1 rfl) ?_
      refine zm_ga C hG 18 (Nat.le_of_ble_eq_true rfl) (by decide) q1461 dX7_opens_52 ?_
      refine lv_iload hx hb dX7_opens_55 (lv_at hl 0 rfl) ?_
      refine zm_az C hG 18 hf (Nat.le_of_ble_eq_true rfl) rfl dX7_opens_57 (fun v57 hf => ?_)
      refine lv_if_eq (tgt := 65) hx hb dX7_opens_58 (by decide) (fun c58 => ?_) (fun c58 => ?_)
      · have hf := z_t c58 hf
        refine lv_iconst (v := zi 0) hx hb dX7_opens_65 rfl ?_
        exact wm_opens_l23_j66 Γ l f1 f2 f3 s4 s5 v41 (zi 0) p e R s m args below meth c Q A _ _ _ _ _ _ C hG ⟨ls, rfl, lv_sub hl [1, 2, 3, 4, 5, 6, 0] rfl⟩ hf kk
      · have hf := z_f c58 hf
        exact wm_opens_l23_j61 Γ l f1 f2 f3 s4 s5 v41 p e R s m args below meth c Q A _ _ _ _ _ _ C hG ⟨ls, rfl, lv_sub hl [1, 2, 3, 4, 5, 6, 0] rfl⟩ hf kk
theorem wm_opens_l23 (Γ : zG) (l : Launch) (f1 : Int32) (f2 : Int32) (f3 : Int32) : ∀ s : Int32 × Int32, mRg Γ l yX7_opens cX7_opens 8 none 2 45 (m_opens_l23 f1 f2 f3 s.1 s.2) (fun m => im_opens_l23 Γ f1 f2 f3 m s) (zLE (im_opens_l23 Γ f1 f2 f3) (em_opens_l23 Γ f1 f2 f3)) := fun s => wm_opens_l23_b Γ l f1 f2 f3 s.1 s.2
def im_opens_l295 (Γ : zG) (f1 : Int32) (m : MethodId) (s : Int32) (g : JFrame) : Prop := zAt0 8 295 [(0, .ref (G_m Γ 0)), (1, .int f1), (4, .int s)] [] m g
def em_opens_l295 (Γ : zG) (f1 : Int32) (m : MethodId) (e : Unit) (g : JFrame) : Prop := zAt0 8 318 [(0, .ref (G_m Γ 0)), (1, .int f1)] [] m g
set_option maxHeartbeats 4000000 in
theorem wm_opens_l295_b (Γ : zG) (l : Launch) (f1 : Int32) (s4 : Int32) : mRg Γ l yX7_opens cX7_opens 8 none 2 45 (m_opens_l295 f1 s4) (zAt0 8 295 [(0, .ref (G_m Γ 0)), (1, .int f1), (4, .int s4)] []) (zLE (im_opens_l295 Γ f1) (em_opens_l295 Γ f1)) := by
  intro p e R s m args below meth c Q A S H locs x S' g C hG hI hf kk
  obtain ⟨ls, rfl, hl⟩ := hI
  obtain ⟨⟨hx, hb, hml, hown, hts⟩, hr, hlk, hK, hR1, hR2⟩ := id C
  have C : zCx Γ p R s m args meth c cX7_opens 8 RX7 none 2 45 := C
  refine lv_iload hx hb dX7_opens_295 (lv_at hl 2 rfl) ?_
  refine lv_if_le (tgt := 318) hx hb dX7_opens_297 (by decide) (fun c297 => ?_) (fun c297 => ?_)
  · have hf := z_t c297 hf
    obtain ⟨rfl, rfl⟩ := z_p hf
    exact kk _ _ _ ⟨ls, rfl, lv_sub hl [0, 1] rfl⟩ hG
  · have hf := z_f c297 hf
    refine z_iinc (fun v => [(4, .int v), (0, .ref (G_m Γ 0)), (1, .int f1)]) hx hb hf dX7_opens_300 hl (k := 2) rfl (Nat.le_of_ble_eq_true rfl) (fun _ => rfl) (fun n300 ls hf hl => ?_)
    refine lv_aload_n hx hb dX7_opens_303 rfl (lv_at hl 1 rfl) ?_
    refine lv_iload_n hx hb dX7_opens_304 rfl (lv_at hl 2 rfl) ?_
    refine lv_aload_n hx hb dX7_opens_305 rfl (lv_at hl 1 rfl) ?_
    refine zm_ga C hG 20 (Nat.le_of_ble_eq_true rfl) (by decide) q1463 dX7_opens_306 ?_
    refine lv_iload hx hb dX7_opens_309 (lv_at hl 0 rfl) ?_
    refine zm_al C hG 20 hf (Nat.le_of_ble_eq_true rfl) rfl dX7_opens_311 (fun v311 hf => ?_)
    refine zm_cvv (As := [.int f1, .int v311]) (rest := []) C hG hf (ctm_closes Γ l f1 v311) (lw_V q1759 q1761 qs60 q107 q1762) ytm_closes rfl rfl (Nat.le_of_ble_eq_true rfl) (Nat.le_of_ble_eq_true rfl) hl.1 (Nat.le_of_ble_eq_true rfl) dX7_opens_312 (fun S H locs hG hf => ?_)
    refine lv_goto (tgt := 295) hx hb dX7_opens_315 (by decide) ?_
    obtain ⟨rfl, rfl⟩ := z_p hf
    exact kk _ _ _ ⟨ls, rfl, lv_sub hl [1, 2, 0] rfl⟩ hG
theorem wm_opens_l295 (Γ : zG) (l : Launch) (f1 : Int32) : ∀ s : Int32, mRg Γ l yX7_opens cX7_opens 8 none 2 45 (m_opens_l295 f1 s) (fun m => im_opens_l295 Γ f1 m s) (zLE (im_opens_l295 Γ f1) (em_opens_l295 Γ f1)) := fun s => wm_opens_l295_b Γ l f1 s
set_option maxHeartbeats 4000000 in
theorem wm_opens (Γ : zG) (l : Launch) (a1 : Int32) (a2 : Int32) (a3 : Int32) : mRg Γ l yX7_opens cX7_opens 8 none 2 45 (m_opens a1 a2 a3) (zAt0 8 0 (lv_args 0 [.ref (G_m Γ 0), .int a1, .int a2, .int a3]) []) (zLv cX7_opens) := by
  intro p e R s m args below meth c Q A S H locs x S' g C hG hI hf kk
  obtain ⟨ls, rfl, hl⟩ := hI
  obtain ⟨⟨hx, hb, hml, hown, hts⟩, hr, hlk, hK, hR1, hR2⟩ := id C
  have C : zCx Γ p R s m args meth c cX7_opens 8 RX7 none 2 45 := C
  have hl : lv_has ls 8 [(0, .ref (G_m Γ 0)), (1, .int a1), (2, .int a2), (3, .int a3)] := hl
  refine lv_iconst (v := zi 0) hx hb dX7_opens_0 rfl ?_
  refine lv_istore (lv' := [(4, .int (zi 0)), (0, .ref (G_m Γ 0)), (1, .int a1), (2, .int a2), (3, .int a3)]) hx hb dX7_opens_1 hl (Nat.le_of_ble_eq_true rfl) rfl (fun ls hl => ?_)
  refine lv_aload_n hx hb dX7_opens_3 rfl (lv_at hl 1 rfl) ?_
  refine zm_ga C hG 22 (Nat.le_of_ble_eq_true rfl) (by decide) q1465 dX7_opens_4 ?_
  refine lv_iload_n hx hb dX7_opens_7 rfl (lv_at hl 2 rfl) ?_
  refine lv_iconst (v := zi 0) hx hb dX7_opens_8 rfl ?_
  refine zm_as C hG 22 hf (Nat.le_of_ble_eq_true rfl) rfl dX7_opens_9 (fun S H locs hG hf => ?_)
  refine lv_aload_n hx hb dX7_opens_10 rfl (lv_at hl 1 rfl) ?_
  refine lv_iconst (v := zi 0) hx hb dX7_opens_11 rfl ?_
  refine zm_pf C hG 26 hf (Nat.le_of_ble_eq_true rfl) rfl rfl (by decide +kernel) q1469 dX7_opens_12 (fun S H locs hG hf => ?_)
  refine lv_aload_n hx hb dX7_opens_15 rfl (lv_at hl 1 rfl) ?_
  refine lv_iconst (v := zi 0) hx hb dX7_opens_16 rfl ?_
  refine zm_pf C hG 27 hf (Nat.le_of_ble_eq_true rfl) rfl rfl (by decide +kernel) q1470 dX7_opens_17 (fun S H locs hG hf => ?_)
  refine lv_iconst (v := zi 0) hx hb dX7_opens_20 rfl ?_
  refine lv_istore (lv' := [(5, .int (zi 0)), (4, .int (zi 0)), (0, .ref (G_m Γ 0)), (1, .int a1), (2, .int a2), (3, .int a3)]) hx hb dX7_opens_21 hl (Nat.le_of_ble_eq_true rfl) rfl (fun ls hl => ?_)
  obtain ⟨e23, S, hlp, hf⟩ := nB_some hf
  refine mRg.loop (wm_opens_l23 Γ l a1 a2 a3) ((zi 0), (zi 0)) p e R s m args below meth c Q A _ _ _ _ _ _ C hG ⟨ls, rfl, lv_sub hl [2, 3, 4, 5, 1, 0] rfl⟩ hlp (fun H locs g hL hG => ?_)
  obtain ⟨ls, rfl, hl⟩ := hL
  have hl : lv_has ls 8 [(0, .ref (G_m Γ 0)), (1, .int a1), (4, .int e23)] := hl
  obtain ⟨e295, S, hlp, hf⟩ := nB_some hf
  refine mRg.loop (wm_opens_l295 Γ l a1) e23 p e R s m args below meth c Q A _ _ _ _ _ _ C hG ⟨ls, rfl, lv_sub hl [0, 1, 2] rfl⟩ hlp (fun H locs g hL hG => ?_)
  obtain ⟨ls, rfl, hl⟩ := hL
  have hl : lv_has ls 8 [(0, .ref (G_m Γ 0)), (1, .int a1)] := hl
  refine lv_aload_n hx hb dX7_opens_318 rfl (lv_at hl 0 rfl) ?_
  refine zm_ga C hG 23 (Nat.le_of_ble_eq_true rfl) (by decide) q1466 dX7_opens_319 ?_
  refine lv_bipush (v := zi 16) hx hb dX7_opens_322 (by decide +kernel) ?_
  refine lv_iload_n hx hb dX7_opens_324 rfl (lv_at hl 1 rfl) ?_
  refine lv_imul hx hb dX7_opens_325 ?_
  refine lv_aload_n hx hb dX7_opens_326 rfl (lv_at hl 0 rfl) ?_
  refine zm_ga C hG 22 (Nat.le_of_ble_eq_true rfl) (by decide) q1465 dX7_opens_327 ?_
  refine lv_iload_n hx hb dX7_opens_330 rfl (lv_at hl 1 rfl) ?_
  refine zm_al C hG 22 hf (Nat.le_of_ble_eq_true rfl) rfl dX7_opens_331 (fun v331 hf => ?_)
  refine lv_iadd hx hb dX7_opens_332 ?_
  refine lv_iconst (v := zi (-1)) hx hb dX7_opens_333 rfl ?_
  refine zm_as C hG 23 hf (Nat.le_of_ble_eq_true rfl) rfl dX7_opens_334 (fun S H locs hG hf => ?_)
  refine lv_aload_n hx hb dX7_opens_335 rfl (lv_at hl 0 rfl) ?_
  refine zm_ga C hG 24 (Nat.le_of_ble_eq_true rfl) (by decide) q1467 dX7_opens_336 ?_
  refine lv_bipush (v := zi 16) hx hb dX7_opens_339 (by decide +kernel) ?_
  refine lv_iload_n hx hb dX7_opens_341 rfl (lv_at hl 1 rfl) ?_
  refine lv_imul hx hb dX7_opens_342 ?_
  refine lv_aload_n hx hb dX7_opens_343 rfl (lv_at hl 0 rfl) ?_
  refine zm_ga C hG 22 (Nat.le_of_ble_eq_true rfl) (by decide) q1465 dX7_opens_344 ?_
  refine lv_iload_n hx hb dX7_opens_347 rfl (lv_at hl 1 rfl) ?_
  refine zm_al C hG 22 hf (Nat.le_of_ble_eq_true rfl) rfl dX7_opens_348 (fun v348 hf => ?_)
  refine lv_iadd hx hb dX7_opens_349 ?_
  refine lv_iconst (v := zi 0) hx hb dX7_opens_350 rfl ?_
  refine zm_as C hG 24 hf (Nat.le_of_ble_eq_true rfl) rfl dX7_opens_351 (fun S H locs hG hf => ?_)
  refine lv_aload_n hx hb dX7_opens_352 rfl (lv_at hl 0 rfl) ?_
  refine zm_ga C hG 25 (Nat.le_of_ble_eq_true rfl) (by decide) q1468 dX7_opens_353 ?_
  refine lv_bipush (v := zi 16) hx hb dX7_opens_356 (by decide +kernel) ?_
  refine lv_iload_n hx hb dX7_opens_358 rfl (lv_at hl 1 rfl) ?_
  refine lv_imul hx hb dX7_opens_359 ?_
  refine lv_aload_n hx hb dX7_opens_360 rfl (lv_at hl 0 rfl) ?_
  refine zm_ga C hG 22 (Nat.le_of_ble_eq_true rfl) (by decide) q1465 dX7_opens_361 ?_
  refine lv_iload_n hx hb dX7_opens_364 rfl (lv_at hl 1 rfl) ?_
  refine zm_al C hG 22 hf (Nat.le_of_ble_eq_true rfl) rfl dX7_opens_365 (fun v365 hf => ?_)
  refine lv_iadd hx hb dX7_opens_366 ?_
  refine lv_iconst (v := zi 0) hx hb dX7_opens_367 rfl ?_
  refine zm_as C hG 25 hf (Nat.le_of_ble_eq_true rfl) rfl dX7_opens_368 (fun S H locs hG hf => ?_)
  refine lv_aload_n hx hb dX7_opens_369 rfl (lv_at hl 0 rfl) ?_
  refine zm_ga C hG 22 (Nat.le_of_ble_eq_true rfl) (by decide) q1465 dX7_opens_370 ?_
  refine lv_iload_n hx hb dX7_opens_373 rfl (lv_at hl 1 rfl) ?_
  refine lv_dup2_11 hx hb dX7_opens_374 rfl rfl ?_
  refine zm_al C hG 22 hf (Nat.le_of_ble_eq_true rfl) rfl dX7_opens_375 (fun v375 hf => ?_)
  refine lv_iconst (v := zi 1) hx hb dX7_opens_376 rfl ?_
  refine lv_iadd hx hb dX7_opens_377 ?_
  refine zm_as C hG 22 hf (Nat.le_of_ble_eq_true rfl) rfl dX7_opens_378 (fun S H locs hG hf => ?_)
  obtain ⟨rfl, rfl⟩ := z_p hf
  exact kk _ _ _ ⟨_, _, rfl, dX7_opens_379⟩ hG
theorem ctm_opens (Γ : zG) (l : Launch) (a1 : Int32) (a2 : Int32) (a3 : Int32) : mCt Γ l yX7_opens (ws_ yX7_opens cX7_opens 8 none) 2 45 [.ref (G_m Γ 0), .int a1, .int a2, .int a3] (m_opens a1 a2 a3) zov := mCt.mkv (by decide +kernel) (Nat.le_of_ble_eq_true rfl) (wm_opens Γ l a1 a2 a3)
theorem ytm_opens : yX7_opens.cls = RX7 ∧ yX7_opens.cls ≠ "java/lang/invoke/MethodHandle" ∧ yX7_opens.cls ≠ "java/lang/invoke/VarHandle" ∧ (parseMethodDescriptor yX7_opens.desc).map (fun d => d.parameters.length) = some 3 := by decide +kernel
set_option maxHeartbeats 4000000 in
theorem wm_boxes (Γ : zG) (l : Launch) (a1 : Int32) (a2 : Int32) (a3 : Int32) : mRg Γ l yX7_boxes cX7_boxes 4 (some .int) 3 72 (m_boxes a1 a2 a3) (zAt0 4 0 (lv_args 0 [.ref (G_m Γ 0), .int a1, .int a2, .int a3]) []) (zLi cX7_boxes) := by
  intro p e R s m args below meth c Q A S H locs x S' g C hG hI hf kk
  obtain ⟨ls, rfl, hl⟩ := hI
  obtain ⟨⟨hx, hb, hml, hown, hts⟩, hr, hlk, hK, hR1, hR2⟩ := id C
  have C : zCx Γ p R s m args meth c cX7_boxes 4 RX7 (some .int) 3 72 := C
  have hl : lv_has ls 4 [(0, .ref (G_m Γ 0)), (1, .int a1), (2, .int a2), (3, .int a3)] := hl
  refine lv_aload_n hx hb dX7_boxes_0 rfl (lv_at hl 0 rfl) ?_
  refine lv_iload_n hx hb dX7_boxes_1 rfl (lv_at hl 1 rfl) ?_
  refine zm_cvi (As := [.int a1]) (rest := []) C hG hf (ctm_isPage Γ l a1) (lw_V q1701 q1703 qs54 q107 q1704) ytm_isPage rfl rfl (Nat.le_of_ble_eq_true rfl) (Nat.le_of_ble_eq_true rfl) hl.1 (Nat.le_of_ble_eq_true rfl) dX7_boxes_2 (fun v2 S H locs hG hf => ?_)
  refine lv_if_eq (tgt := 16) hx hb dX7_boxes_5 (by decide) (fun c5 => ?_) (fun c5 => ?_)
  · have hf := z_t c5 hf
    refine lv_iconst (v := zi (-1)) hx hb dX7_boxes_16 rfl ?_
    obtain ⟨rfl, rfl⟩ := z_p hf
    exact kk _ _ _ ⟨_, _, rfl, dX7_boxes_17⟩ hG
  · have hf := z_f c5 hf
    refine lv_iload_n hx hb dX7_boxes_8 rfl (lv_at hl 2 rfl) ?_
    refine lv_iload_n hx hb dX7_boxes_9 rfl (lv_at hl 3 rfl) ?_
    refine zm_csi (As := [.int a2, .int a3]) (rest := []) C hG hf (ctm_isPerson Γ l a2 a3) (lw_S q1741 q1742 q107 q1743) ytm_isPerson rfl rfl (Nat.le_of_ble_eq_true rfl) (Nat.le_of_ble_eq_true rfl) hl.1 (Nat.le_of_ble_eq_true rfl) dX7_boxes_10 (fun v10 S H locs hG hf => ?_)
    refine lv_if_ne (tgt := 18) hx hb dX7_boxes_13 (by decide) (fun c13 => ?_) (fun c13 => ?_)
    · have hf := z_f c13 hf
      refine lv_aload_n hx hb dX7_boxes_18 rfl (lv_at hl 0 rfl) ?_
      refine lv_iload_n hx hb dX7_boxes_19 rfl (lv_at hl 1 rfl) ?_
      refine zm_csi (As := [.int a1]) (rest := [.ref (G_m Γ 0)]) C hG hf (ctm_treeOf Γ l a1) (lw_S q1744 q1745 q107 q1746) ytm_treeOf rfl rfl (Nat.le_of_ble_eq_true rfl) (Nat.le_of_ble_eq_true rfl) hl.1 (Nat.le_of_ble_eq_true rfl) dX7_boxes_20 (fun v20 S H locs hG hf => ?_)
      refine zm_cvv (As := [.int v20]) (rest := []) C hG hf (ctm_takes Γ l v20) (lw_V q1747 q1749 qs57 q107 q1750) ytm_takes rfl rfl (Nat.le_of_ble_eq_true rfl) (Nat.le_of_ble_eq_true rfl) hl.1 (Nat.le_of_ble_eq_true rfl) dX7_boxes_23 (fun S H locs hG hf => ?_)
      refine lv_aload_n hx hb dX7_boxes_26 rfl (lv_at hl 0 rfl) ?_
      refine lv_iconst (v := zi 0) hx hb dX7_boxes_27 rfl ?_
      refine lv_iload_n hx hb dX7_boxes_28 rfl (lv_at hl 2 rfl) ?_
      refine lv_iload_n hx hb dX7_boxes_29 rfl (lv_at hl 3 rfl) ?_
      refine zm_cvv (As := [.int (zi 0), .int a2, .int a3]) (rest := []) C hG hf (ctm_opens Γ l (zi 0) a2 a3) (lw_V q1755 q1757 qs59 q107 q1758) ytm_opens rfl rfl (Nat.le_of_ble_eq_true rfl) (Nat.le_of_ble_eq_true rfl) hl.1 (Nat.le_of_ble_eq_true rfl) dX7_boxes_30 (fun S H locs hG hf => ?_)
      refine lv_aload_n hx hb dX7_boxes_33 rfl (lv_at hl 0 rfl) ?_
      refine zm_gf C hG 26 hf (Nat.le_of_ble_eq_true rfl) rfl q1469 dX7_boxes_34 (fun v34 hf => ?_)
      obtain ⟨rfl, rfl⟩ := z_p hf
      exact kk _ _ _ ⟨_, _, rfl, dX7_boxes_37⟩ hG
    · have hf := z_t c13 hf
      refine lv_iconst (v := zi (-1)) hx hb dX7_boxes_16 rfl ?_
      obtain ⟨rfl, rfl⟩ := z_p hf
      exact kk _ _ _ ⟨_, _, rfl, dX7_boxes_17⟩ hG
theorem ctm_boxes (Γ : zG) (l : Launch) (a1 : Int32) (a2 : Int32) (a3 : Int32) : mCt Γ l yX7_boxes (ws_ yX7_boxes cX7_boxes 4 (some .int)) 3 72 [.ref (G_m Γ 0), .int a1, .int a2, .int a3] (m_boxes a1 a2 a3) zoi := mCt.mki (by decide +kernel) (Nat.le_of_ble_eq_true rfl) (wm_boxes Γ l a1 a2 a3)
theorem ytm_boxes : yX7_boxes.cls = RX7 ∧ yX7_boxes.cls ≠ "java/lang/invoke/MethodHandle" ∧ yX7_boxes.cls ≠ "java/lang/invoke/VarHandle" ∧ (parseMethodDescriptor yX7_boxes.desc).map (fun d => d.parameters.length) = some 3 := by decide +kernel
set_option maxHeartbeats 4000000 in
theorem wm_box (Γ : zG) (l : Launch) (a1 : Int32) (a2 : Int32) (a3 : Int32) : mRg Γ l yX7_box cX7_box 4 (some .int) 2 43 (m_box a1 a2 a3) (zAt0 4 0 (lv_args 0 [.ref (G_m Γ 0), .int a1, .int a2, .int a3]) []) (zLi cX7_box) := by
  intro p e R s m args below meth c Q A S H locs x S' g C hG hI hf kk
  obtain ⟨ls, rfl, hl⟩ := hI
  obtain ⟨⟨hx, hb, hml, hown, hts⟩, hr, hlk, hK, hR1, hR2⟩ := id C
  have C : zCx Γ p R s m args meth c cX7_box 4 RX7 (some .int) 2 43 := C
  have hl : lv_has ls 4 [(0, .ref (G_m Γ 0)), (1, .int a1), (2, .int a2), (3, .int a3)] := hl
  refine lv_aload_n hx hb dX7_box_0 rfl (lv_at hl 0 rfl) ?_
  refine lv_iload_n hx hb dX7_box_1 rfl (lv_at hl 1 rfl) ?_
  refine zm_cvi (As := [.int a1]) (rest := []) C hG hf (ctm_isPage Γ l a1) (lw_V q1701 q1703 qs54 q107 q1704) ytm_isPage rfl rfl (Nat.le_of_ble_eq_true rfl) (Nat.le_of_ble_eq_true rfl) hl.1 (Nat.le_of_ble_eq_true rfl) dX7_box_2 (fun v2 S H locs hG hf => ?_)
  refine lv_if_eq (tgt := 56) hx hb dX7_box_5 (by decide) (fun c5 => ?_) (fun c5 => ?_)
  · have hf := z_t c5 hf
    refine lv_bipush (v := zi (-2)) hx hb dX7_box_56 (by decide +kernel) ?_
    obtain ⟨rfl, rfl⟩ := z_p hf
    exact kk _ _ _ ⟨_, _, rfl, dX7_box_58⟩ hG
  · have hf := z_f c5 hf
    refine lv_iload_n hx hb dX7_box_8 rfl (lv_at hl 2 rfl) ?_
    refine lv_iconst (v := zi 0) hx hb dX7_box_9 rfl ?_
    refine lv_aload_n hx hb dX7_box_10 rfl (lv_at hl 0 rfl) ?_
    refine zm_ga C hG 0 (Nat.le_of_ble_eq_true rfl) (by decide) q1443 dX7_box_11 ?_
    refine lv_iload_n hx hb dX7_box_14 rfl (lv_at hl 1 rfl) ?_
    refine zm_csi (As := [.int a1]) (rest := [.ref (G_m Γ (0 + 1)), .int (zi 0), .int a2]) C hG hf (ctm_treeOf Γ l a1) (lw_S q1744 q1745 q107 q1746) ytm_treeOf rfl rfl (Nat.le_of_ble_eq_true rfl) (Nat.le_of_ble_eq_true rfl) hl.1 (Nat.le_of_ble_eq_true rfl) dX7_box_15 (fun v15 S H locs hG hf => ?_)
    refine zm_al C hG 0 hf (Nat.le_of_ble_eq_true rfl) rfl dX7_box_18 (fun v18 hf => ?_)
    refine lv_iconst (v := zi 1) hx hb dX7_box_19 rfl ?_
    refine lv_isub hx hb dX7_box_20 ?_
    refine zm_csi (As := [.int a2, .int (zi 0), .int (v18 - (zi 1))]) (rest := []) C hG hf (ctm_isIn Γ l a2 (zi 0) (v18 - (zi 1))) (lw_S q1612 q1613 q107 q1614) ytm_isIn rfl rfl (Nat.le_of_ble_eq_true rfl) (Nat.le_of_ble_eq_true rfl) hl.1 (Nat.le_of_ble_eq_true rfl) dX7_box_21 (fun v21 S H locs hG hf => ?_)
    refine lv_if_eq (tgt := 56) hx hb dX7_box_24 (by decide) (fun c24 => ?_) (fun c24 => ?_)
    · have hf := z_t c24 hf
      refine lv_bipush (v := zi (-2)) hx hb dX7_box_56 (by decide +kernel) ?_
      obtain ⟨rfl, rfl⟩ := z_p hf
      exact kk _ _ _ ⟨_, _, rfl, dX7_box_58⟩ hG
    · have hf := z_f c24 hf
      refine lv_iload_n hx hb dX7_box_27 rfl (lv_at hl 3 rfl) ?_
      refine lv_iconst (v := zi 0) hx hb dX7_box_28 rfl ?_
      refine lv_iconst (v := zi 4) hx hb dX7_box_29 rfl ?_
      refine zm_csi (As := [.int a3, .int (zi 0), .int (zi 4)]) (rest := []) C hG hf (ctm_isIn Γ l a3 (zi 0) (zi 4)) (lw_S q1612 q1613 q107 q1614) ytm_isIn rfl rfl (Nat.le_of_ble_eq_true rfl) (Nat.le_of_ble_eq_true rfl) hl.1 (Nat.le_of_ble_eq_true rfl) dX7_box_30 (fun v30 S H locs hG hf => ?_)
      refine lv_if_eq (tgt := 56) hx hb dX7_box_33 (by decide) (fun c33 => ?_) (fun c33 => ?_)
      · have hf := z_t c33 hf
        refine lv_bipush (v := zi (-2)) hx hb dX7_box_56 (by decide +kernel) ?_
        obtain ⟨rfl, rfl⟩ := z_p hf
        exact kk _ _ _ ⟨_, _, rfl, dX7_box_58⟩ hG
      · have hf := z_f c33 hf
        refine lv_aload_n hx hb dX7_box_36 rfl (lv_at hl 0 rfl) ?_
        refine zm_ga C hG 0 (Nat.le_of_ble_eq_true rfl) (by decide) q1443 dX7_box_37 ?_
        refine lv_iload_n hx hb dX7_box_40 rfl (lv_at hl 1 rfl) ?_
        refine zm_csi (As := [.int a1]) (rest := [.ref (G_m Γ (0 + 1))]) C hG hf (ctm_treeOf Γ l a1) (lw_S q1744 q1745 q107 q1746) ytm_treeOf rfl rfl (Nat.le_of_ble_eq_true rfl) (Nat.le_of_ble_eq_true rfl) hl.1 (Nat.le_of_ble_eq_true rfl) dX7_box_41 (fun v41 S H locs hG hf => ?_)
        refine lv_iconst (v := zi 1) hx hb dX7_box_44 rfl ?_
        refine lv_iadd hx hb dX7_box_45 ?_
        refine lv_iconst (v := zi 5) hx hb dX7_box_46 rfl ?_
        refine lv_iload_n hx hb dX7_box_47 rfl (lv_at hl 2 rfl) ?_
        refine lv_imul hx hb dX7_box_48 ?_
        refine lv_iadd hx hb dX7_box_49 ?_
        refine lv_iload_n hx hb dX7_box_50 rfl (lv_at hl 3 rfl) ?_
        refine lv_iadd hx hb dX7_box_51 ?_
        refine zm_al C hG 0 hf (Nat.le_of_ble_eq_true rfl) rfl dX7_box_52 (fun v52 hf => ?_)
        refine lv_goto (tgt := 58) hx hb dX7_box_53 (by decide) ?_
        obtain ⟨rfl, rfl⟩ := z_p hf
        exact kk _ _ _ ⟨_, _, rfl, dX7_box_58⟩ hG
theorem ctm_box (Γ : zG) (l : Launch) (a1 : Int32) (a2 : Int32) (a3 : Int32) : mCt Γ l yX7_box (ws_ yX7_box cX7_box 4 (some .int)) 2 43 [.ref (G_m Γ 0), .int a1, .int a2, .int a3] (m_box a1 a2 a3) zoi := mCt.mki (by decide +kernel) (Nat.le_of_ble_eq_true rfl) (wm_box Γ l a1 a2 a3)
theorem ytm_box : yX7_box.cls = RX7 ∧ yX7_box.cls ≠ "java/lang/invoke/MethodHandle" ∧ yX7_box.cls ≠ "java/lang/invoke/VarHandle" ∧ (parseMethodDescriptor yX7_box.desc).map (fun d => d.parameters.length) = some 3 := by decide +kernel
def im_isLast_l7 (Γ : zG) (f1 : Int32) (f2 : Int32) (m : MethodId) (s : Int32 × Int32) (g : JFrame) : Prop := zAt0 5 7 [(0, .ref (G_m Γ 0)), (1, .int f1), (2, .int f2), (3, .int s.1), (4, .int s.2)] [] m g
def em_isLast_l7 (Γ : zG) (f1 : Int32) (f2 : Int32) (m : MethodId) (e : Int32) (g : JFrame) : Prop := zAt0 5 57 [(0, .ref (G_m Γ 0)), (3, .int e)] [] m g
set_option maxHeartbeats 4000000 in
theorem wm_isLast_l7_j50 (Γ : zG) (l : Launch) (b1 : Int32) (b2 : Int32) (b4 : Int32) (t0 : Int32) : mRg Γ l yX7_isLast cX7_isLast 5 (some .boolean) 0 0 (m_isLast_l7_j50 b1 b2 b4 t0) (zAt0 5 50 [(0, .ref (G_m Γ 0)), (1, .int b1), (2, .int b2), (4, .int b4)] [.int t0]) (zLE (im_isLast_l7 Γ b1 b2) (em_isLast_l7 Γ b1 b2)) := by
  intro p e R s m args below meth c Q A S H locs x S' g C hG hI hf kk
  obtain ⟨ls, rfl, hl⟩ := hI
  obtain ⟨⟨hx, hb, hml, hown, hts⟩, hr, hlk, hK, hR1, hR2⟩ := id C
  have C : zCx Γ p R s m args meth c cX7_isLast 5 RX7 (some .boolean) 0 0 := C
  refine lv_istore_n (lv' := [(3, .int t0), (0, .ref (G_m Γ 0)), (1, .int b1), (2, .int b2), (4, .int b4)]) hx hb dX7_isLast_50 rfl hl (Nat.le_of_ble_eq_true rfl) rfl (fun ls hl => ?_)
  refine z_iinc (fun v => [(4, .int v), (3, .int t0), (0, .ref (G_m Γ 0)), (1, .int b1), (2, .int b2)]) hx hb hf dX7_isLast_51 hl (k := 4) rfl (Nat.le_of_ble_eq_true rfl) (fun _ => rfl) (fun n51 ls hf hl => ?_)
  refine lv_goto (tgt := 7) hx hb dX7_isLast_54 (by decide) ?_
  obtain ⟨rfl, rfl⟩ := z_p hf
  exact kk _ _ _ ⟨ls, rfl, lv_sub hl [2, 3, 4, 1, 0] rfl⟩ hG
set_option maxHeartbeats 4000000 in
theorem wm_isLast_l7_b (Γ : zG) (l : Launch) (f1 : Int32) (f2 : Int32) (s3 : Int32) (s4 : Int32) : mRg Γ l yX7_isLast cX7_isLast 5 (some .boolean) 0 0 (m_isLast_l7 f1 f2 s3 s4) (zAt0 5 7 [(0, .ref (G_m Γ 0)), (1, .int f1), (2, .int f2), (3, .int s3), (4, .int s4)] []) (zLE (im_isLast_l7 Γ f1 f2) (em_isLast_l7 Γ f1 f2)) := by
  intro p e R s m args below meth c Q A S H locs x S' g C hG hI hf kk
  obtain ⟨ls, rfl, hl⟩ := hI
  obtain ⟨⟨hx, hb, hml, hown, hts⟩, hr, hlk, hK, hR1, hR2⟩ := id C
  have C : zCx Γ p R s m args meth c cX7_isLast 5 RX7 (some .boolean) 0 0 := C
  refine lv_iload hx hb dX7_isLast_7 (lv_at hl 4 rfl) ?_
  refine lv_aload_n hx hb dX7_isLast_9 rfl (lv_at hl 0 rfl) ?_
  refine zm_ga C hG 22 (Nat.le_of_ble_eq_true rfl) (by decide) q1465 dX7_isLast_10 ?_
  refine lv_iload_n hx hb dX7_isLast_13 rfl (lv_at hl 1 rfl) ?_
  refine lv_bipush (v := zi 16) hx hb dX7_isLast_14 (by decide +kernel) ?_
  refine lv_idiv hx hb dX7_isLast_16 (by decide +kernel) ?_
  refine zm_al C hG 22 hf (Nat.le_of_ble_eq_true rfl) rfl dX7_isLast_17 (fun v17 hf => ?_)
  refine lv_icmp_ge (tgt := 57) hx hb dX7_isLast_18 (by decide) (fun c18 => ?_) (fun c18 => ?_)
  · have hf := z_t c18 hf
    obtain ⟨rfl, rfl⟩ := z_p hf
    exact kk _ _ _ ⟨ls, rfl, lv_sub hl [0, 3] rfl⟩ hG
  · have hf := z_f c18 hf
    refine lv_iload_n hx hb dX7_isLast_21 rfl (lv_at hl 3 rfl) ?_
    refine lv_if_eq (tgt := 57) hx hb dX7_isLast_22 (by decide) (fun c22 => ?_) (fun c22 => ?_)
    · have hf := z_t c22 hf
      obtain ⟨rfl, rfl⟩ := z_p hf
      exact kk _ _ _ ⟨ls, rfl, lv_sub hl [0, 3] rfl⟩ hG
    · have hf := z_f c22 hf
      refine lv_aload_n hx hb dX7_isLast_25 rfl (lv_at hl 0 rfl) ?_
      refine zm_ga C hG 25 (Nat.le_of_ble_eq_true rfl) (by decide) q1468 dX7_isLast_26 ?_
      refine lv_iload_n hx hb dX7_isLast_29 rfl (lv_at hl 1 rfl) ?_
      refine lv_iload hx hb dX7_isLast_30 (lv_at hl 4 rfl) ?_
      refine lv_iadd hx hb dX7_isLast_32 ?_
      refine zm_al C hG 25 hf (Nat.le_of_ble_eq_true rfl) rfl dX7_isLast_33 (fun v33 hf => ?_)
      refine lv_aload_n hx hb dX7_isLast_34 rfl (lv_at hl 0 rfl) ?_
      refine zm_ga C hG 25 (Nat.le_of_ble_eq_true rfl) (by decide) q1468 dX7_isLast_35 ?_
      refine lv_iload_n hx hb dX7_isLast_38 rfl (lv_at hl 1 rfl) ?_
      refine lv_iload_n hx hb dX7_isLast_39 rfl (lv_at hl 2 rfl) ?_
      refine lv_iadd hx hb dX7_isLast_40 ?_
      refine zm_al C hG 25 hf (Nat.le_of_ble_eq_true rfl) rfl dX7_isLast_41 (fun v41 hf => ?_)
      refine lv_icmp_eq (tgt := 49) hx hb dX7_isLast_42 (by decide) (fun c42 => ?_) (fun c42 => ?_)
      · have hf := z_t c42 hf
        refine lv_iconst (v := zi 0) hx hb dX7_isLast_49 rfl ?_
        exact wm_isLast_l7_j50 Γ l f1 f2 s4 (zi 0) p e R s m args below meth c Q A _ _ _ _ _ _ C hG ⟨ls, rfl, lv_sub hl [0, 1, 2, 4] rfl⟩ hf kk
      · have hf := z_f c42 hf
        refine lv_iconst (v := zi 1) hx hb dX7_isLast_45 rfl ?_
        refine lv_goto (tgt := 50) hx hb dX7_isLast_46 (by decide) ?_
        exact wm_isLast_l7_j50 Γ l f1 f2 s4 (zi 1) p e R s m args below meth c Q A _ _ _ _ _ _ C hG ⟨ls, rfl, lv_sub hl [0, 1, 2, 4] rfl⟩ hf kk
theorem wm_isLast_l7 (Γ : zG) (l : Launch) (f1 : Int32) (f2 : Int32) : ∀ s : Int32 × Int32, mRg Γ l yX7_isLast cX7_isLast 5 (some .boolean) 0 0 (m_isLast_l7 f1 f2 s.1 s.2) (fun m => im_isLast_l7 Γ f1 f2 m s) (zLE (im_isLast_l7 Γ f1 f2) (em_isLast_l7 Γ f1 f2)) := fun s => wm_isLast_l7_b Γ l f1 f2 s.1 s.2
set_option maxHeartbeats 4000000 in
theorem wm_isLast (Γ : zG) (l : Launch) (a1 : Int32) (a2 : Int32) : mRg Γ l yX7_isLast cX7_isLast 5 (some .boolean) 0 0 (m_isLast a1 a2) (zAt0 5 0 (lv_args 0 [.ref (G_m Γ 0), .int a1, .int a2]) []) (zLz cX7_isLast) := by
  intro p e R s m args below meth c Q A S H locs x S' g C hG hI hf kk
  obtain ⟨ls, rfl, hl⟩ := hI
  obtain ⟨⟨hx, hb, hml, hown, hts⟩, hr, hlk, hK, hR1, hR2⟩ := id C
  have C : zCx Γ p R s m args meth c cX7_isLast 5 RX7 (some .boolean) 0 0 := C
  have hl : lv_has ls 5 [(0, .ref (G_m Γ 0)), (1, .int a1), (2, .int a2)] := hl
  refine lv_iconst (v := zi 1) hx hb dX7_isLast_0 rfl ?_
  refine lv_istore_n (lv' := [(3, .int (zi 1)), (0, .ref (G_m Γ 0)), (1, .int a1), (2, .int a2)]) hx hb dX7_isLast_1 rfl hl (Nat.le_of_ble_eq_true rfl) rfl (fun ls hl => ?_)
  refine lv_iload_n hx hb dX7_isLast_2 rfl (lv_at hl 3 rfl) ?_
  refine lv_iconst (v := zi 1) hx hb dX7_isLast_3 rfl ?_
  refine lv_iadd hx hb dX7_isLast_4 ?_
  refine z_top hf (fun n5 hf => ?_)
  refine lv_istore (lv' := [(4, .int n5), (3, .int (zi 1)), (0, .ref (G_m Γ 0)), (1, .int a1), (2, .int a2)]) hx hb dX7_isLast_5 hl (Nat.le_of_ble_eq_true rfl) rfl (fun ls hl => ?_)
  obtain ⟨e7, S, hlp, hf⟩ := nB_some hf
  refine mRg.loop (wm_isLast_l7 Γ l a1 a2) ((zi 1), n5) p e R s m args below meth c Q A _ _ _ _ _ _ C hG ⟨ls, rfl, lv_sub hl [2, 3, 4, 1, 0] rfl⟩ hlp (fun H locs g hL hG => ?_)
  obtain ⟨ls, rfl, hl⟩ := hL
  have hl : lv_has ls 5 [(0, .ref (G_m Γ 0)), (3, .int e7)] := hl
  refine lv_iload_n hx hb dX7_isLast_57 rfl (lv_at hl 1 rfl) ?_
  obtain ⟨hz, hf⟩ := z_c hf
  obtain ⟨rfl, rfl⟩ := z_p hf
  exact kk _ _ _ ⟨_, _, rfl, dX7_isLast_58, hz⟩ hG
theorem ctm_isLast (Γ : zG) (l : Launch) (a1 : Int32) (a2 : Int32) : mCt Γ l yX7_isLast (ws_ yX7_isLast cX7_isLast 5 (some .boolean)) 0 0 [.ref (G_m Γ 0), .int a1, .int a2] (m_isLast a1 a2) zoi := mCt.mkz (by decide +kernel) (Nat.le_of_ble_eq_true rfl) (wm_isLast Γ l a1 a2)
theorem ytm_isLast : yX7_isLast.cls = RX7 ∧ yX7_isLast.cls ≠ "java/lang/invoke/MethodHandle" ∧ yX7_isLast.cls ≠ "java/lang/invoke/VarHandle" ∧ (parseMethodDescriptor yX7_isLast.desc).map (fun d => d.parameters.length) = some 2 := by decide +kernel
set_option maxHeartbeats 4000000 in
theorem wm_without (Γ : zG) (l : Launch) (a1 : Int32) : mRg Γ l yX7_without cX7_without 2 (some .int) 0 0 (m_without a1) (zAt0 2 0 (lv_args 0 [.ref (G_m Γ 0), .int a1]) []) (zLi cX7_without) := by
  intro p e R s m args below meth c Q A S H locs x S' g C hG hI hf kk
  obtain ⟨ls, rfl, hl⟩ := hI
  obtain ⟨⟨hx, hb, hml, hown, hts⟩, hr, hlk, hK, hR1, hR2⟩ := id C
  have C : zCx Γ p R s m args meth c cX7_without 2 RX7 (some .int) 0 0 := C
  have hl : lv_has ls 2 [(0, .ref (G_m Γ 0)), (1, .int a1)] := hl
  refine lv_aload_n hx hb dX7_without_0 rfl (lv_at hl 0 rfl) ?_
  refine zm_ga C hG 23 (Nat.le_of_ble_eq_true rfl) (by decide) q1466 dX7_without_1 ?_
  refine lv_iload_n hx hb dX7_without_4 rfl (lv_at hl 1 rfl) ?_
  refine zm_al C hG 23 hf (Nat.le_of_ble_eq_true rfl) rfl dX7_without_5 (fun v5 hf => ?_)
  refine lv_if_ge (tgt := 15) hx hb dX7_without_6 (by decide) (fun c6 => ?_) (fun c6 => ?_)
  · have hf := z_t c6 hf
    refine lv_iconst (v := zi 2) hx hb dX7_without_15 rfl ?_
    obtain ⟨rfl, rfl⟩ := z_p hf
    exact kk _ _ _ ⟨_, _, rfl, dX7_without_16⟩ hG
  · have hf := z_f c6 hf
    refine lv_sipush (v := zi 1000) hx hb dX7_without_9 (by decide +kernel) ?_
    refine lv_goto (tgt := 16) hx hb dX7_without_12 (by decide) ?_
    obtain ⟨rfl, rfl⟩ := z_p hf
    exact kk _ _ _ ⟨_, _, rfl, dX7_without_16⟩ hG
theorem ctm_without (Γ : zG) (l : Launch) (a1 : Int32) : mCt Γ l yX7_without (ws_ yX7_without cX7_without 2 (some .int)) 0 0 [.ref (G_m Γ 0), .int a1] (m_without a1) zoi := mCt.mki (by decide +kernel) (Nat.le_of_ble_eq_true rfl) (wm_without Γ l a1)
theorem ytm_without : yX7_without.cls = RX7 ∧ yX7_without.cls ≠ "java/lang/invoke/MethodHandle" ∧ yX7_without.cls ≠ "java/lang/invoke/VarHandle" ∧ (parseMethodDescriptor yX7_without.desc).map (fun d => d.parameters.length) = some 1 := by decide +kernel
set_option maxHeartbeats 4000000 in
theorem wm_changed_j21 (Γ : zG) (l : Launch) (b1 : Int32) (b2 : Int32) : mRg Γ l yX7_changed cX7_changed 3 (some .int) 0 0 (m_changed_j21 b1 b2) (zAt0 3 21 [(0, .ref (G_m Γ 0)), (1, .int b1), (2, .int b2)] []) (zLi cX7_changed) := by
  intro p e R s m args below meth c Q A S H locs x S' g C hG hI hf kk
  obtain ⟨ls, rfl, hl⟩ := hI
  obtain ⟨⟨hx, hb, hml, hown, hts⟩, hr, hlk, hK, hR1, hR2⟩ := id C
  have C : zCx Γ p R s m args meth c cX7_changed 3 RX7 (some .int) 0 0 := C
  refine lv_aload_n hx hb dX7_changed_21 rfl (lv_at hl 0 rfl) ?_
  refine zm_ga C hG 23 (Nat.le_of_ble_eq_true rfl) (by decide) q1466 dX7_changed_22 ?_
  refine lv_iload_n hx hb dX7_changed_25 rfl (lv_at hl 1 rfl) ?_
  refine zm_al C hG 23 hf (Nat.le_of_ble_eq_true rfl) rfl dX7_changed_26 (fun v26 hf => ?_)
  refine lv_aload_n hx hb dX7_changed_27 rfl (lv_at hl 0 rfl) ?_
  refine zm_ga C hG 23 (Nat.le_of_ble_eq_true rfl) (by decide) q1466 dX7_changed_28 ?_
  refine lv_bipush (v := zi 16) hx hb dX7_changed_31 (by decide +kernel) ?_
  refine lv_iload_n hx hb dX7_changed_33 rfl (lv_at hl 2 rfl) ?_
  refine lv_iadd hx hb dX7_changed_34 ?_
  refine zm_al C hG 23 hf (Nat.le_of_ble_eq_true rfl) rfl dX7_changed_35 (fun v35 hf => ?_)
  refine lv_icmp_ne (tgt := 43) hx hb dX7_changed_36 (by decide) (fun c36 => ?_) (fun c36 => ?_)
  · have hf := z_f c36 hf
    refine lv_sipush (v := zi 1000) hx hb dX7_changed_43 (by decide +kernel) ?_
    obtain ⟨rfl, rfl⟩ := z_p hf
    exact kk _ _ _ ⟨_, _, rfl, dX7_changed_46⟩ hG
  · have hf := z_t c36 hf
    refine lv_iconst (v := zi 0) hx hb dX7_changed_39 rfl ?_
    refine lv_goto (tgt := 46) hx hb dX7_changed_40 (by decide) ?_
    obtain ⟨rfl, rfl⟩ := z_p hf
    exact kk _ _ _ ⟨_, _, rfl, dX7_changed_46⟩ hG
set_option maxHeartbeats 4000000 in
theorem wm_changed_j93 (Γ : zG) (l : Launch) (t0 : Int32) (t1 : Int32) : mRg Γ l yX7_changed cX7_changed 3 (some .int) 0 0 (m_changed_j93 t0 t1) (zAt0 3 93 [(0, .ref (G_m Γ 0))] [.int t0, .int t1]) (zLi cX7_changed) := by
  intro p e R s m args below meth c Q A S H locs x S' g C hG hI hf kk
  obtain ⟨ls, rfl, hl⟩ := hI
  obtain ⟨⟨hx, hb, hml, hown, hts⟩, hr, hlk, hK, hR1, hR2⟩ := id C
  have C : zCx Γ p R s m args meth c cX7_changed 3 RX7 (some .int) 0 0 := C
  refine lv_iadd hx hb dX7_changed_93 ?_
  obtain ⟨rfl, rfl⟩ := z_p hf
  exact kk _ _ _ ⟨_, _, rfl, dX7_changed_94⟩ hG
set_option maxHeartbeats 4000000 in
theorem wm_changed_j70 (Γ : zG) (l : Launch) (b1 : Int32) (b2 : Int32) (t0 : Int32) : mRg Γ l yX7_changed cX7_changed 3 (some .int) 0 0 (m_changed_j70 b1 b2 t0) (zAt0 3 70 [(0, .ref (G_m Γ 0)), (1, .int b1), (2, .int b2)] [.int t0]) (zLi cX7_changed) := by
  intro p e R s m args below meth c Q A S H locs x S' g C hG hI hf kk
  obtain ⟨ls, rfl, hl⟩ := hI
  obtain ⟨⟨hx, hb, hml, hown, hts⟩, hr, hlk, hK, hR1, hR2⟩ := id C
  have C : zCx Γ p R s m args meth c cX7_changed 3 RX7 (some .int) 0 0 := C
  refine lv_aload_n hx hb dX7_changed_70 rfl (lv_at hl 0 rfl) ?_
  refine zm_ga C hG 24 (Nat.le_of_ble_eq_true rfl) (by decide) q1467 dX7_changed_71 ?_
  refine lv_iload_n hx hb dX7_changed_74 rfl (lv_at hl 1 rfl) ?_
  refine zm_al C hG 24 hf (Nat.le_of_ble_eq_true rfl) rfl dX7_changed_75 (fun v75 hf => ?_)
  refine lv_aload_n hx hb dX7_changed_76 rfl (lv_at hl 0 rfl) ?_
  refine zm_ga C hG 24 (Nat.le_of_ble_eq_true rfl) (by decide) q1467 dX7_changed_77 ?_
  refine lv_bipush (v := zi 16) hx hb dX7_changed_80 (by decide +kernel) ?_
  refine lv_iload_n hx hb dX7_changed_82 rfl (lv_at hl 2 rfl) ?_
  refine lv_iadd hx hb dX7_changed_83 ?_
  refine zm_al C hG 24 hf (Nat.le_of_ble_eq_true rfl) rfl dX7_changed_84 (fun v84 hf => ?_)
  refine lv_icmp_ne (tgt := 92) hx hb dX7_changed_85 (by decide) (fun c85 => ?_) (fun c85 => ?_)
  · have hf := z_f c85 hf
    refine lv_iconst (v := zi 1) hx hb dX7_changed_92 rfl ?_
    exact wm_changed_j93 Γ l (zi 1) t0 p e R s m args below meth c Q A _ _ _ _ _ _ C hG ⟨ls, rfl, lv_sub hl [0] rfl⟩ hf kk
  · have hf := z_t c85 hf
    refine lv_iconst (v := zi 0) hx hb dX7_changed_88 rfl ?_
    refine lv_goto (tgt := 93) hx hb dX7_changed_89 (by decide) ?_
    exact wm_changed_j93 Γ l (zi 0) t0 p e R s m args below meth c Q A _ _ _ _ _ _ C hG ⟨ls, rfl, lv_sub hl [0] rfl⟩ hf kk
set_option maxHeartbeats 4000000 in
theorem wm_changed (Γ : zG) (l : Launch) (a1 : Int32) (a2 : Int32) : mRg Γ l yX7_changed cX7_changed 3 (some .int) 0 0 (m_changed a1 a2) (zAt0 3 0 (lv_args 0 [.ref (G_m Γ 0), .int a1, .int a2]) []) (zLi cX7_changed) := by
  intro p e R s m args below meth c Q A S H locs x S' g C hG hI hf kk
  obtain ⟨ls, rfl, hl⟩ := hI
  obtain ⟨⟨hx, hb, hml, hown, hts⟩, hr, hlk, hK, hR1, hR2⟩ := id C
  have C : zCx Γ p R s m args meth c cX7_changed 3 RX7 (some .int) 0 0 := C
  have hl : lv_has ls 3 [(0, .ref (G_m Γ 0)), (1, .int a1), (2, .int a2)] := hl
  refine lv_aload_n hx hb dX7_changed_0 rfl (lv_at hl 0 rfl) ?_
  refine zm_ga C hG 23 (Nat.le_of_ble_eq_true rfl) (by decide) q1466 dX7_changed_1 ?_
  refine lv_iload_n hx hb dX7_changed_4 rfl (lv_at hl 1 rfl) ?_
  refine zm_al C hG 23 hf (Nat.le_of_ble_eq_true rfl) rfl dX7_changed_5 (fun v5 hf => ?_)
  refine lv_if_lt (tgt := 21) hx hb dX7_changed_6 (by decide) (fun c6 => ?_) (fun c6 => ?_)
  · have hf := z_t c6 hf
    exact wm_changed_j21 Γ l a1 a2 p e R s m args below meth c Q A _ _ _ _ _ _ C hG ⟨ls, rfl, lv_sub hl [0, 1, 2] rfl⟩ hf kk
  · have hf := z_f c6 hf
    refine lv_aload_n hx hb dX7_changed_9 rfl (lv_at hl 0 rfl) ?_
    refine zm_ga C hG 23 (Nat.le_of_ble_eq_true rfl) (by decide) q1466 dX7_changed_10 ?_
    refine lv_bipush (v := zi 16) hx hb dX7_changed_13 (by decide +kernel) ?_
    refine lv_iload_n hx hb dX7_changed_15 rfl (lv_at hl 2 rfl) ?_
    refine lv_iadd hx hb dX7_changed_16 ?_
    refine zm_al C hG 23 hf (Nat.le_of_ble_eq_true rfl) rfl dX7_changed_17 (fun v17 hf => ?_)
    refine lv_if_ge (tgt := 47) hx hb dX7_changed_18 (by decide) (fun c18 => ?_) (fun c18 => ?_)
    · have hf := z_t c18 hf
      refine lv_aload_n hx hb dX7_changed_47 rfl (lv_at hl 0 rfl) ?_
      refine zm_ga C hG 23 (Nat.le_of_ble_eq_true rfl) (by decide) q1466 dX7_changed_48 ?_
      refine lv_iload_n hx hb dX7_changed_51 rfl (lv_at hl 1 rfl) ?_
      refine zm_al C hG 23 hf (Nat.le_of_ble_eq_true rfl) rfl dX7_changed_52 (fun v52 hf => ?_)
      refine lv_aload_n hx hb dX7_changed_53 rfl (lv_at hl 0 rfl) ?_
      refine zm_ga C hG 23 (Nat.le_of_ble_eq_true rfl) (by decide) q1466 dX7_changed_54 ?_
      refine lv_bipush (v := zi 16) hx hb dX7_changed_57 (by decide +kernel) ?_
      refine lv_iload_n hx hb dX7_changed_59 rfl (lv_at hl 2 rfl) ?_
      refine lv_iadd hx hb dX7_changed_60 ?_
      refine zm_al C hG 23 hf (Nat.le_of_ble_eq_true rfl) rfl dX7_changed_61 (fun v61 hf => ?_)
      refine lv_icmp_ne (tgt := 69) hx hb dX7_changed_62 (by decide) (fun c62 => ?_) (fun c62 => ?_)
      · have hf := z_f c62 hf
        refine lv_iconst (v := zi 3) hx hb dX7_changed_69 rfl ?_
        exact wm_changed_j70 Γ l a1 a2 (zi 3) p e R s m args below meth c Q A _ _ _ _ _ _ C hG ⟨ls, rfl, lv_sub hl [0, 1, 2] rfl⟩ hf kk
      · have hf := z_t c62 hf
        refine lv_iconst (v := zi 0) hx hb dX7_changed_65 rfl ?_
        refine lv_goto (tgt := 70) hx hb dX7_changed_66 (by decide) ?_
        exact wm_changed_j70 Γ l a1 a2 (zi 0) p e R s m args below meth c Q A _ _ _ _ _ _ C hG ⟨ls, rfl, lv_sub hl [0, 1, 2] rfl⟩ hf kk
    · have hf := z_f c18 hf
      exact wm_changed_j21 Γ l a1 a2 p e R s m args below meth c Q A _ _ _ _ _ _ C hG ⟨ls, rfl, lv_sub hl [0, 1, 2] rfl⟩ hf kk
theorem ctm_changed (Γ : zG) (l : Launch) (a1 : Int32) (a2 : Int32) : mCt Γ l yX7_changed (ws_ yX7_changed cX7_changed 3 (some .int)) 0 0 [.ref (G_m Γ 0), .int a1, .int a2] (m_changed a1 a2) zoi := mCt.mki (by decide +kernel) (Nat.le_of_ble_eq_true rfl) (wm_changed Γ l a1 a2)
theorem ytm_changed : yX7_changed.cls = RX7 ∧ yX7_changed.cls ≠ "java/lang/invoke/MethodHandle" ∧ yX7_changed.cls ≠ "java/lang/invoke/VarHandle" ∧ (parseMethodDescriptor yX7_changed.desc).map (fun d => d.parameters.length) = some 2 := by decide +kernel
def im_lays_l34 (Γ : zG) (f1 : Int32) (f2 : Int32) (f3 : Int32) (f4 : Int32) (m : MethodId) (s : Int32) (g : JFrame) : Prop := zAt0 9 34 [(0, .ref (G_m Γ 0)), (1, .int f1), (2, .int f2), (3, .int f3), (4, .int f4), (5, .int s)] [] m g
def em_lays_l34 (Γ : zG) (f1 : Int32) (f2 : Int32) (f3 : Int32) (f4 : Int32) (m : MethodId) (e : Unit) (g : JFrame) : Prop := zAt0 9 81 [(0, .ref (G_m Γ 0)), (1, .int f1), (2, .int f2), (3, .int f3), (4, .int f4)] [] m g
set_option maxHeartbeats 4000000 in
theorem wm_lays_l34_b (Γ : zG) (l : Launch) (f1 : Int32) (f2 : Int32) (f3 : Int32) (f4 : Int32) (s5 : Int32) : mRg Γ l yX7_lays cX7_lays 9 none 1 22 (m_lays_l34 f1 f2 f3 f4 s5) (zAt0 9 34 [(0, .ref (G_m Γ 0)), (1, .int f1), (2, .int f2), (3, .int f3), (4, .int f4), (5, .int s5)] []) (zLE (im_lays_l34 Γ f1 f2 f3 f4) (em_lays_l34 Γ f1 f2 f3 f4)) := by
  intro p e R s m args below meth c Q A S H locs x S' g C hG hI hf kk
  obtain ⟨ls, rfl, hl⟩ := hI
  obtain ⟨⟨hx, hb, hml, hown, hts⟩, hr, hlk, hK, hR1, hR2⟩ := id C
  have C : zCx Γ p R s m args meth c cX7_lays 9 RX7 none 1 22 := C
  refine lv_iload hx hb dX7_lays_34 (lv_at hl 5 rfl) ?_
  refine lv_iload_n hx hb dX7_lays_36 rfl (lv_at hl 1 rfl) ?_
  refine lv_icmp_gt (tgt := 81) hx hb dX7_lays_37 (by decide) (fun c37 => ?_) (fun c37 => ?_)
  · have hf := z_t c37 hf
    obtain ⟨rfl, rfl⟩ := z_p hf
    exact kk _ _ _ ⟨ls, rfl, lv_sub hl [0, 1, 2, 3, 4] rfl⟩ hG
  · have hf := z_f c37 hf
    refine lv_aload_n hx hb dX7_lays_40 rfl (lv_at hl 0 rfl) ?_
    refine zm_ga C hG 29 (Nat.le_of_ble_eq_true rfl) (by decide) q1472 dX7_lays_41 ?_
    refine lv_bipush (v := zi 17) hx hb dX7_lays_44 (by decide +kernel) ?_
    refine lv_iload hx hb dX7_lays_46 (lv_at hl 5 rfl) ?_
    refine lv_iconst (v := zi 1) hx hb dX7_lays_48 rfl ?_
    refine lv_iadd hx hb dX7_lays_49 ?_
    refine lv_imul hx hb dX7_lays_50 ?_
    refine lv_iload hx hb dX7_lays_51 (lv_at hl 4 rfl) ?_
    refine lv_iadd hx hb dX7_lays_53 ?_
    refine lv_aload_n hx hb dX7_lays_54 rfl (lv_at hl 0 rfl) ?_
    refine zm_ga C hG 29 (Nat.le_of_ble_eq_true rfl) (by decide) q1472 dX7_lays_55 ?_
    refine lv_bipush (v := zi 17) hx hb dX7_lays_58 (by decide +kernel) ?_
    refine lv_iload hx hb dX7_lays_60 (lv_at hl 5 rfl) ?_
    refine lv_imul hx hb dX7_lays_62 ?_
    refine lv_iload hx hb dX7_lays_63 (lv_at hl 4 rfl) ?_
    refine lv_iadd hx hb dX7_lays_65 ?_
    refine zm_al C hG 29 hf (Nat.le_of_ble_eq_true rfl) rfl dX7_lays_66 (fun v66 hf => ?_)
    refine lv_aload_n hx hb dX7_lays_67 rfl (lv_at hl 0 rfl) ?_
    refine lv_iload hx hb dX7_lays_68 (lv_at hl 5 rfl) ?_
    refine zm_cvi (As := [.int s5]) (rest := [.int v66, .int (((zi 17) * (s5 + (zi 1))) + f4), .ref (G_m Γ (29 + 1))]) C hG hf (ctm_without Γ l s5) (lw_V q1787 q1789 qs65 q107 q1790) ytm_without rfl rfl (Nat.le_of_ble_eq_true rfl) (Nat.le_of_ble_eq_true rfl) hl.1 (Nat.le_of_ble_eq_true rfl) dX7_lays_70 (fun v70 S H locs hG hf => ?_)
    refine lv_iadd hx hb dX7_lays_73 ?_
    refine zm_as C hG 29 hf (Nat.le_of_ble_eq_true rfl) rfl dX7_lays_74 (fun S H locs hG hf => ?_)
    refine z_iinc (fun v => [(5, .int v), (0, .ref (G_m Γ 0)), (1, .int f1), (2, .int f2), (3, .int f3), (4, .int f4)]) hx hb hf dX7_lays_75 hl (k := 5) rfl (Nat.le_of_ble_eq_true rfl) (fun _ => rfl) (fun n75 ls hf hl => ?_)
    refine lv_goto (tgt := 34) hx hb dX7_lays_78 (by decide) ?_
    obtain ⟨rfl, rfl⟩ := z_p hf
    exact kk _ _ _ ⟨ls, rfl, lv_sub hl [1, 2, 3, 4, 5, 0] rfl⟩ hG
theorem wm_lays_l34 (Γ : zG) (l : Launch) (f1 : Int32) (f2 : Int32) (f3 : Int32) (f4 : Int32) : ∀ s : Int32, mRg Γ l yX7_lays cX7_lays 9 none 1 22 (m_lays_l34 f1 f2 f3 f4 s) (fun m => im_lays_l34 Γ f1 f2 f3 f4 m s) (zLE (im_lays_l34 Γ f1 f2 f3 f4) (em_lays_l34 Γ f1 f2 f3 f4)) := fun s => wm_lays_l34_b Γ l f1 f2 f3 f4 s
def im_lays_l85 (Γ : zG) (f1 : Int32) (f2 : Int32) (f3 : Int32) (f4 : Int32) (m : MethodId) (s : Int32) (g : JFrame) : Prop := zAt0 9 85 [(0, .ref (G_m Γ 0)), (1, .int f1), (2, .int f2), (3, .int f3), (4, .int f4), (5, .int s)] [] m g
def em_lays_l85 (Γ : zG) (f1 : Int32) (f2 : Int32) (f3 : Int32) (f4 : Int32) (m : MethodId) (e : Unit) (g : JFrame) : Prop := zAt0 9 133 [(0, .ref (G_m Γ 0)), (1, .int f1), (2, .int f2), (3, .int f3), (4, .int f4)] [] m g
set_option maxHeartbeats 4000000 in
theorem wm_lays_l85_b (Γ : zG) (l : Launch) (f1 : Int32) (f2 : Int32) (f3 : Int32) (f4 : Int32) (s5 : Int32) : mRg Γ l yX7_lays cX7_lays 9 none 1 22 (m_lays_l85 f1 f2 f3 f4 s5) (zAt0 9 85 [(0, .ref (G_m Γ 0)), (1, .int f1), (2, .int f2), (3, .int f3), (4, .int f4), (5, .int s5)] []) (zLE (im_lays_l85 Γ f1 f2 f3 f4) (em_lays_l85 Γ f1 f2 f3 f4)) := by
  intro p e R s m args below meth c Q A S H locs x S' g C hG hI hf kk
  obtain ⟨ls, rfl, hl⟩ := hI
  obtain ⟨⟨hx, hb, hml, hown, hts⟩, hr, hlk, hK, hR1, hR2⟩ := id C
  have C : zCx Γ p R s m args meth c cX7_lays 9 RX7 none 1 22 := C
  refine lv_iload hx hb dX7_lays_85 (lv_at hl 5 rfl) ?_
  refine lv_iload_n hx hb dX7_lays_87 rfl (lv_at hl 2 rfl) ?_
  refine lv_icmp_gt (tgt := 133) hx hb dX7_lays_88 (by decide) (fun c88 => ?_) (fun c88 => ?_)
  · have hf := z_t c88 hf
    obtain ⟨rfl, rfl⟩ := z_p hf
    exact kk _ _ _ ⟨ls, rfl, lv_sub hl [0, 1, 2, 3, 4] rfl⟩ hG
  · have hf := z_f c88 hf
    refine lv_aload_n hx hb dX7_lays_91 rfl (lv_at hl 0 rfl) ?_
    refine zm_ga C hG 29 (Nat.le_of_ble_eq_true rfl) (by decide) q1472 dX7_lays_92 ?_
    refine lv_bipush (v := zi 17) hx hb dX7_lays_95 (by decide +kernel) ?_
    refine lv_iload_n hx hb dX7_lays_97 rfl (lv_at hl 3 rfl) ?_
    refine lv_imul hx hb dX7_lays_98 ?_
    refine lv_iload hx hb dX7_lays_99 (lv_at hl 5 rfl) ?_
    refine lv_iadd hx hb dX7_lays_101 ?_
    refine lv_iconst (v := zi 1) hx hb dX7_lays_102 rfl ?_
    refine lv_iadd hx hb dX7_lays_103 ?_
    refine lv_aload_n hx hb dX7_lays_104 rfl (lv_at hl 0 rfl) ?_
    refine zm_ga C hG 29 (Nat.le_of_ble_eq_true rfl) (by decide) q1472 dX7_lays_105 ?_
    refine lv_bipush (v := zi 17) hx hb dX7_lays_108 (by decide +kernel) ?_
    refine lv_iload_n hx hb dX7_lays_110 rfl (lv_at hl 3 rfl) ?_
    refine lv_imul hx hb dX7_lays_111 ?_
    refine lv_iload hx hb dX7_lays_112 (lv_at hl 5 rfl) ?_
    refine lv_iadd hx hb dX7_lays_114 ?_
    refine zm_al C hG 29 hf (Nat.le_of_ble_eq_true rfl) rfl dX7_lays_115 (fun v115 hf => ?_)
    refine lv_aload_n hx hb dX7_lays_116 rfl (lv_at hl 0 rfl) ?_
    refine lv_bipush (v := zi 16) hx hb dX7_lays_117 (by decide +kernel) ?_
    refine lv_iload hx hb dX7_lays_119 (lv_at hl 5 rfl) ?_
    refine lv_iadd hx hb dX7_lays_121 ?_
    refine zm_cvi (As := [.int ((zi 16) + s5)]) (rest := [.int v115, .int ((((zi 17) * f3) + s5) + (zi 1)), .ref (G_m Γ (29 + 1))]) C hG hf (ctm_without Γ l ((zi 16) + s5)) (lw_V q1787 q1789 qs65 q107 q1790) ytm_without rfl rfl (Nat.le_of_ble_eq_true rfl) (Nat.le_of_ble_eq_true rfl) hl.1 (Nat.le_of_ble_eq_true rfl) dX7_lays_122 (fun v122 S H locs hG hf => ?_)
    refine lv_iadd hx hb dX7_lays_125 ?_
    refine zm_as C hG 29 hf (Nat.le_of_ble_eq_true rfl) rfl dX7_lays_126 (fun S H locs hG hf => ?_)
    refine z_iinc (fun v => [(5, .int v), (0, .ref (G_m Γ 0)), (1, .int f1), (2, .int f2), (3, .int f3), (4, .int f4)]) hx hb hf dX7_lays_127 hl (k := 5) rfl (Nat.le_of_ble_eq_true rfl) (fun _ => rfl) (fun n127 ls hf hl => ?_)
    refine lv_goto (tgt := 85) hx hb dX7_lays_130 (by decide) ?_
    obtain ⟨rfl, rfl⟩ := z_p hf
    exact kk _ _ _ ⟨ls, rfl, lv_sub hl [1, 2, 3, 4, 5, 0] rfl⟩ hG
theorem wm_lays_l85 (Γ : zG) (l : Launch) (f1 : Int32) (f2 : Int32) (f3 : Int32) (f4 : Int32) : ∀ s : Int32, mRg Γ l yX7_lays cX7_lays 9 none 1 22 (m_lays_l85 f1 f2 f3 f4 s) (fun m => im_lays_l85 Γ f1 f2 f3 f4 m s) (zLE (im_lays_l85 Γ f1 f2 f3 f4) (em_lays_l85 Γ f1 f2 f3 f4)) := fun s => wm_lays_l85_b Γ l f1 f2 f3 f4 s
def im_lays_l136 (Γ : zG) (f1 : Int32) (f2 : Int32) (f3 : Int32) (f4 : Int32) (m : MethodId) (s : Int32) (g : JFrame) : Prop := zAt0 9 136 [(0, .ref (G_m Γ 0)), (1, .int f1), (2, .int f2), (3, .int f3), (4, .int f4), (5, .int s)] [] m g
def em_lays_l136 (Γ : zG) (f1 : Int32) (f2 : Int32) (f3 : Int32) (f4 : Int32) (m : MethodId) (e : Unit) (g : JFrame) : Prop := zAt0 9 365 [(0, .ref (G_m Γ 0))] [] m g
def im_lays_l146 (Γ : zG) (f1 : Int32) (f2 : Int32) (f3 : Int32) (f4 : Int32) (f5 : Int32) (m : MethodId) (s : Int32) (g : JFrame) : Prop := zAt0 9 146 [(0, .ref (G_m Γ 0)), (1, .int f1), (2, .int f2), (3, .int f3), (4, .int f4), (5, .int f5), (6, .int s)] [] m g
def em_lays_l146 (Γ : zG) (f1 : Int32) (f2 : Int32) (f3 : Int32) (f4 : Int32) (f5 : Int32) (m : MethodId) (e : Unit) (g : JFrame) : Prop := zAt0 9 359 [(0, .ref (G_m Γ 0)), (1, .int f1), (2, .int f2), (3, .int f3), (4, .int f4), (5, .int f5)] [] m g
set_option maxHeartbeats 4000000 in
theorem wm_lays_l146_j309 (Γ : zG) (l : Launch) (b1 : Int32) (b2 : Int32) (b3 : Int32) (b4 : Int32) (b5 : Int32) (b6 : Int32) (b8 : Int32) (t0 : Int32) (t1 : Int32) : mRg Γ l yX7_lays cX7_lays 9 none 1 22 (m_lays_l146_j309 b1 b2 b3 b4 b5 b6 b8 t0 t1) (zAt0 9 309 [(0, .ref (G_m Γ 0)), (1, .int b1), (2, .int b2), (3, .int b3), (4, .int b4), (5, .int b5), (6, .int b6), (8, .int b8)] [.int t0, .int t1]) (zLE (im_lays_l146 Γ b1 b2 b3 b4 b5) (em_lays_l146 Γ b1 b2 b3 b4 b5)) := by
  intro p e R s m args below meth c Q A S H locs x S' g C hG hI hf kk
  obtain ⟨ls, rfl, hl⟩ := hI
  obtain ⟨⟨hx, hb, hml, hown, hts⟩, hr, hlk, hK, hR1, hR2⟩ := id C
  have C : zCx Γ p R s m args meth c cX7_lays 9 RX7 none 1 22 := C
  refine zm_csi (As := [.int t1, .int t0]) (rest := []) C hG hf (ctm_lesser Γ l t1 t0) (lw_S q1721 q1722 q107 q1723) ytm_lesser rfl rfl (Nat.le_of_ble_eq_true rfl) (Nat.le_of_ble_eq_true rfl) hl.1 (Nat.le_of_ble_eq_true rfl) dX7_lays_309 (fun v309 S H locs hG hf => ?_)
  refine lv_istore (lv' := [(7, .int v309), (0, .ref (G_m Γ 0)), (1, .int b1), (2, .int b2), (3, .int b3), (4, .int b4), (5, .int b5), (6, .int b6), (8, .int b8)]) hx hb dX7_lays_312 hl (Nat.le_of_ble_eq_true rfl) rfl (fun ls hl => ?_)
  refine lv_aload_n hx hb dX7_lays_314 rfl (lv_at hl 1 rfl) ?_
  refine zm_ga C hG 29 (Nat.le_of_ble_eq_true rfl) (by decide) q1472 dX7_lays_315 ?_
  refine lv_bipush (v := zi 17) hx hb dX7_lays_318 (by decide +kernel) ?_
  refine lv_iload hx hb dX7_lays_320 (lv_at hl 6 rfl) ?_
  refine lv_iconst (v := zi 1) hx hb dX7_lays_322 rfl ?_
  refine lv_iadd hx hb dX7_lays_323 ?_
  refine lv_imul hx hb dX7_lays_324 ?_
  refine lv_iload hx hb dX7_lays_325 (lv_at hl 7 rfl) ?_
  refine lv_iadd hx hb dX7_lays_327 ?_
  refine lv_iconst (v := zi 1) hx hb dX7_lays_328 rfl ?_
  refine lv_iadd hx hb dX7_lays_329 ?_
  refine lv_iload hx hb dX7_lays_330 (lv_at hl 0 rfl) ?_
  refine zm_as C hG 29 hf (Nat.le_of_ble_eq_true rfl) rfl dX7_lays_332 (fun S H locs hG hf => ?_)
  refine lv_iload hx hb dX7_lays_333 (lv_at hl 8 rfl) ?_
  refine lv_if_eq (tgt := 353) hx hb dX7_lays_335 (by decide) (fun c335 => ?_) (fun c335 => ?_)
  · have hf := z_t c335 hf
    refine z_iinc (fun v => [(6, .int v), (7, .int v309), (0, .ref (G_m Γ 0)), (1, .int b1), (2, .int b2), (3, .int b3), (4, .int b4), (5, .int b5), (8, .int b8)]) hx hb hf dX7_lays_353 hl (k := 7) rfl (Nat.le_of_ble_eq_true rfl) (fun _ => rfl) (fun n353 ls hf hl => ?_)
    refine lv_goto (tgt := 146) hx hb dX7_lays_356 (by decide) ?_
    obtain ⟨rfl, rfl⟩ := z_p hf
    exact kk _ _ _ ⟨ls, rfl, lv_sub hl [2, 3, 4, 5, 6, 7, 0] rfl⟩ hG
  · have hf := z_f c335 hf
    refine lv_aload_n hx hb dX7_lays_338 rfl (lv_at hl 1 rfl) ?_
    refine zm_ga C hG 28 (Nat.le_of_ble_eq_true rfl) (by decide) q1471 dX7_lays_339 ?_
    refine lv_bipush (v := zi 16) hx hb dX7_lays_342 (by decide +kernel) ?_
    refine lv_iload hx hb dX7_lays_344 (lv_at hl 6 rfl) ?_
    refine lv_imul hx hb dX7_lays_346 ?_
    refine lv_iload hx hb dX7_lays_347 (lv_at hl 7 rfl) ?_
    refine lv_iadd hx hb dX7_lays_349 ?_
    refine lv_iload hx hb dX7_lays_350 (lv_at hl 0 rfl) ?_
    refine zm_as C hG 28 hf (Nat.le_of_ble_eq_true rfl) rfl dX7_lays_352 (fun S H locs hG hf => ?_)
    refine z_iinc (fun v => [(6, .int v), (7, .int v309), (0, .ref (G_m Γ 0)), (1, .int b1), (2, .int b2), (3, .int b3), (4, .int b4), (5, .int b5), (8, .int b8)]) hx hb hf dX7_lays_353 hl (k := 7) rfl (Nat.le_of_ble_eq_true rfl) (fun _ => rfl) (fun n353 ls hf hl => ?_)
    refine lv_goto (tgt := 146) hx hb dX7_lays_356 (by decide) ?_
    obtain ⟨rfl, rfl⟩ := z_p hf
    exact kk _ _ _ ⟨ls, rfl, lv_sub hl [2, 3, 4, 5, 6, 7, 0] rfl⟩ hG
set_option maxHeartbeats 4000000 in
theorem wm_lays_l146_j235 (Γ : zG) (l : Launch) (b1 : Int32) (b2 : Int32) (b3 : Int32) (b4 : Int32) (b5 : Int32) (b6 : Int32) (b7 : Int32) (t0 : Int32) : mRg Γ l yX7_lays cX7_lays 9 none 1 22 (m_lays_l146_j235 b1 b2 b3 b4 b5 b6 b7 t0) (zAt0 9 235 [(0, .ref (G_m Γ 0)), (1, .int b1), (2, .int b2), (3, .int b3), (4, .int b4), (5, .int b5), (6, .int b6), (7, .int b7)] [.int t0]) (zLE (im_lays_l146 Γ b1 b2 b3 b4 b5) (em_lays_l146 Γ b1 b2 b3 b4 b5)) := by
  intro p e R s m args below meth c Q A S H locs x S' g C hG hI hf kk
  obtain ⟨ls, rfl, hl⟩ := hI
  obtain ⟨⟨hx, hb, hml, hown, hts⟩, hr, hlk, hK, hR1, hR2⟩ := id C
  have C : zCx Γ p R s m args meth c cX7_lays 9 RX7 none 1 22 := C
  refine lv_istore (lv' := [(8, .int t0), (0, .ref (G_m Γ 0)), (1, .int b1), (2, .int b2), (3, .int b3), (4, .int b4), (5, .int b5), (6, .int b6), (7, .int b7)]) hx hb dX7_lays_235 hl (Nat.le_of_ble_eq_true rfl) rfl (fun ls hl => ?_)
  refine lv_iload hx hb dX7_lays_237 (lv_at hl 8 rfl) ?_
  refine lv_iload hx hb dX7_lays_239 (lv_at hl 0 rfl) ?_
  refine lv_if_eq (tgt := 269) hx hb dX7_lays_241 (by decide) (fun c241 => ?_) (fun c241 => ?_)
  · have hf := z_t c241 hf
    refine lv_aload_n hx hb dX7_lays_269 rfl (lv_at hl 1 rfl) ?_
    refine zm_ga C hG 29 (Nat.le_of_ble_eq_true rfl) (by decide) q1472 dX7_lays_270 ?_
    refine lv_bipush (v := zi 17) hx hb dX7_lays_273 (by decide +kernel) ?_
    refine lv_aload_n hx hb dX7_lays_275 rfl (lv_at hl 1 rfl) ?_
    refine zm_ga C hG 25 (Nat.le_of_ble_eq_true rfl) (by decide) q1468 dX7_lays_276 ?_
    refine lv_iload hx hb dX7_lays_279 (lv_at hl 6 rfl) ?_
    refine zm_al C hG 25 hf (Nat.le_of_ble_eq_true rfl) rfl dX7_lays_281 (fun v281 hf => ?_)
    refine lv_imul hx hb dX7_lays_282 ?_
    refine lv_aload_n hx hb dX7_lays_283 rfl (lv_at hl 1 rfl) ?_
    refine zm_ga C hG 25 (Nat.le_of_ble_eq_true rfl) (by decide) q1468 dX7_lays_284 ?_
    refine lv_bipush (v := zi 16) hx hb dX7_lays_287 (by decide +kernel) ?_
    refine lv_iload hx hb dX7_lays_289 (lv_at hl 7 rfl) ?_
    refine lv_iadd hx hb dX7_lays_291 ?_
    refine zm_al C hG 25 hf (Nat.le_of_ble_eq_true rfl) rfl dX7_lays_292 (fun v292 hf => ?_)
    refine lv_iadd hx hb dX7_lays_293 ?_
    refine zm_al C hG 29 hf (Nat.le_of_ble_eq_true rfl) rfl dX7_lays_294 (fun v294 hf => ?_)
    refine lv_aload_n hx hb dX7_lays_295 rfl (lv_at hl 1 rfl) ?_
    refine zm_ga C hG 28 (Nat.le_of_ble_eq_true rfl) (by decide) q1471 dX7_lays_296 ?_
    refine lv_bipush (v := zi 16) hx hb dX7_lays_299 (by decide +kernel) ?_
    refine lv_iload hx hb dX7_lays_301 (lv_at hl 6 rfl) ?_
    refine lv_imul hx hb dX7_lays_303 ?_
    refine lv_iload hx hb dX7_lays_304 (lv_at hl 7 rfl) ?_
    refine lv_iadd hx hb dX7_lays_306 ?_
    refine zm_al C hG 28 hf (Nat.le_of_ble_eq_true rfl) rfl dX7_lays_307 (fun v307 hf => ?_)
    refine lv_iadd hx hb dX7_lays_308 ?_
    exact wm_lays_l146_j309 Γ l b1 b2 b3 b4 b5 b6 t0 (v294 + v307) b7 p e R s m args below meth c Q A _ _ _ _ _ _ C hG ⟨ls, rfl, lv_sub hl [1, 2, 3, 4, 5, 6, 7, 0] rfl⟩ hf kk
  · have hf := z_f c241 hf
    refine lv_aload_n hx hb dX7_lays_244 rfl (lv_at hl 1 rfl) ?_
    refine zm_ga C hG 29 (Nat.le_of_ble_eq_true rfl) (by decide) q1472 dX7_lays_245 ?_
    refine lv_bipush (v := zi 17) hx hb dX7_lays_248 (by decide +kernel) ?_
    refine lv_iload hx hb dX7_lays_250 (lv_at hl 6 rfl) ?_
    refine lv_imul hx hb dX7_lays_252 ?_
    refine lv_iload hx hb dX7_lays_253 (lv_at hl 7 rfl) ?_
    refine lv_iadd hx hb dX7_lays_255 ?_
    refine zm_al C hG 29 hf (Nat.le_of_ble_eq_true rfl) rfl dX7_lays_256 (fun v256 hf => ?_)
    refine lv_aload_n hx hb dX7_lays_257 rfl (lv_at hl 1 rfl) ?_
    refine lv_iload hx hb dX7_lays_258 (lv_at hl 6 rfl) ?_
    refine lv_iload hx hb dX7_lays_260 (lv_at hl 7 rfl) ?_
    refine zm_cvi (As := [.int b5, .int b6]) (rest := [.int v256, .int b7]) C hG hf (ctm_changed Γ l b5 b6) (lw_V q1791 q1793 qs66 q107 q1794) ytm_changed rfl rfl (Nat.le_of_ble_eq_true rfl) (Nat.le_of_ble_eq_true rfl) hl.1 (Nat.le_of_ble_eq_true rfl) dX7_lays_262 (fun v262 S H locs hG hf => ?_)
    refine lv_iadd hx hb dX7_lays_265 ?_
    refine lv_goto (tgt := 309) hx hb dX7_lays_266 (by decide) ?_
    exact wm_lays_l146_j309 Γ l b1 b2 b3 b4 b5 b6 t0 (v256 + v262) b7 p e R s m args below meth c Q A _ _ _ _ _ _ C hG ⟨ls, rfl, lv_sub hl [1, 2, 3, 4, 5, 6, 7, 0] rfl⟩ hf kk
set_option maxHeartbeats 4000000 in
theorem wm_lays_l146_j234 (Γ : zG) (l : Launch) (b1 : Int32) (b2 : Int32) (b3 : Int32) (b4 : Int32) (b5 : Int32) (b6 : Int32) (b7 : Int32) : mRg Γ l yX7_lays cX7_lays 9 none 1 22 (m_lays_l146_j234 b1 b2 b3 b4 b5 b6 b7) (zAt0 9 234 [(0, .ref (G_m Γ 0)), (1, .int b1), (2, .int b2), (3, .int b3), (4, .int b4), (5, .int b5), (6, .int b6), (7, .int b7)] []) (zLE (im_lays_l146 Γ b1 b2 b3 b4 b5) (em_lays_l146 Γ b1 b2 b3 b4 b5)) := by
  intro p e R s m args below meth c Q A S H locs x S' g C hG hI hf kk
  obtain ⟨ls, rfl, hl⟩ := hI
  obtain ⟨⟨hx, hb, hml, hown, hts⟩, hr, hlk, hK, hR1, hR2⟩ := id C
  have C : zCx Γ p R s m args meth c cX7_lays 9 RX7 none 1 22 := C
  refine lv_iconst (v := zi 0) hx hb dX7_lays_234 rfl ?_
  exact wm_lays_l146_j235 Γ l b1 b2 b3 b4 b5 b6 b7 (zi 0) p e R s m args below meth c Q A _ _ _ _ _ _ C hG ⟨ls, rfl, lv_sub hl [0, 1, 2, 3, 4, 5, 6, 7] rfl⟩ hf kk
set_option maxHeartbeats 4000000 in
theorem wm_lays_l146_b (Γ : zG) (l : Launch) (f1 : Int32) (f2 : Int32) (f3 : Int32) (f4 : Int32) (f5 : Int32) (s6 : Int32) : mRg Γ l yX7_lays cX7_lays 9 none 1 22 (m_lays_l146 f1 f2 f3 f4 f5 s6) (zAt0 9 146 [(0, .ref (G_m Γ 0)), (1, .int f1), (2, .int f2), (3, .int f3), (4, .int f4), (5, .int f5), (6, .int s6)] []) (zLE (im_lays_l146 Γ f1 f2 f3 f4 f5) (em_lays_l146 Γ f1 f2 f3 f4 f5)) := by
  intro p e R s m args below meth c Q A S H locs x S' g C hG hI hf kk
  obtain ⟨ls, rfl, hl⟩ := hI
  obtain ⟨⟨hx, hb, hml, hown, hts⟩, hr, hlk, hK, hR1, hR2⟩ := id C
  have C : zCx Γ p R s m args meth c cX7_lays 9 RX7 none 1 22 := C
  refine lv_iload hx hb dX7_lays_146 (lv_at hl 6 rfl) ?_
  refine lv_iload_n hx hb dX7_lays_148 rfl (lv_at hl 2 rfl) ?_
  refine lv_icmp_gt (tgt := 359) hx hb dX7_lays_149 (by decide) (fun c149 => ?_) (fun c149 => ?_)
  · have hf := z_t c149 hf
    obtain ⟨rfl, rfl⟩ := z_p hf
    exact kk _ _ _ ⟨ls, rfl, lv_sub hl [0, 1, 2, 3, 4, 5] rfl⟩ hG
  · have hf := z_f c149 hf
    refine lv_aload_n hx hb dX7_lays_152 rfl (lv_at hl 0 rfl) ?_
    refine zm_ga C hG 29 (Nat.le_of_ble_eq_true rfl) (by decide) q1472 dX7_lays_153 ?_
    refine lv_bipush (v := zi 17) hx hb dX7_lays_156 (by decide +kernel) ?_
    refine lv_iload hx hb dX7_lays_158 (lv_at hl 5 rfl) ?_
    refine lv_imul hx hb dX7_lays_160 ?_
    refine lv_iload hx hb dX7_lays_161 (lv_at hl 6 rfl) ?_
    refine lv_iadd hx hb dX7_lays_163 ?_
    refine lv_iconst (v := zi 1) hx hb dX7_lays_164 rfl ?_
    refine lv_iadd hx hb dX7_lays_165 ?_
    refine zm_al C hG 29 hf (Nat.le_of_ble_eq_true rfl) rfl dX7_lays_166 (fun v166 hf => ?_)
    refine lv_aload_n hx hb dX7_lays_167 rfl (lv_at hl 0 rfl) ?_
    refine lv_iload hx hb dX7_lays_168 (lv_at hl 5 rfl) ?_
    refine zm_cvi (As := [.int f5]) (rest := [.int v166]) C hG hf (ctm_without Γ l f5) (lw_V q1787 q1789 qs65 q107 q1790) ytm_without rfl rfl (Nat.le_of_ble_eq_true rfl) (Nat.le_of_ble_eq_true rfl) hl.1 (Nat.le_of_ble_eq_true rfl) dX7_lays_170 (fun v170 S H locs hG hf => ?_)
    refine lv_iadd hx hb dX7_lays_173 ?_
    refine lv_aload_n hx hb dX7_lays_174 rfl (lv_at hl 0 rfl) ?_
    refine zm_ga C hG 29 (Nat.le_of_ble_eq_true rfl) (by decide) q1472 dX7_lays_175 ?_
    refine lv_bipush (v := zi 17) hx hb dX7_lays_178 (by decide +kernel) ?_
    refine lv_iload hx hb dX7_lays_180 (lv_at hl 5 rfl) ?_
    refine lv_iconst (v := zi 1) hx hb dX7_lays_182 rfl ?_
    refine lv_iadd hx hb dX7_lays_183 ?_
    refine lv_imul hx hb dX7_lays_184 ?_
    refine lv_iload hx hb dX7_lays_185 (lv_at hl 6 rfl) ?_
    refine lv_iadd hx hb dX7_lays_187 ?_
    refine zm_al C hG 29 hf (Nat.le_of_ble_eq_true rfl) rfl dX7_lays_188 (fun v188 hf => ?_)
    refine lv_aload_n hx hb dX7_lays_189 rfl (lv_at hl 0 rfl) ?_
    refine lv_bipush (v := zi 16) hx hb dX7_lays_190 (by decide +kernel) ?_
    refine lv_iload hx hb dX7_lays_192 (lv_at hl 6 rfl) ?_
    refine lv_iadd hx hb dX7_lays_194 ?_
    refine zm_cvi (As := [.int ((zi 16) + s6)]) (rest := [.int v188, .int (v166 + v170)]) C hG hf (ctm_without Γ l ((zi 16) + s6)) (lw_V q1787 q1789 qs65 q107 q1790) ytm_without rfl rfl (Nat.le_of_ble_eq_true rfl) (Nat.le_of_ble_eq_true rfl) hl.1 (Nat.le_of_ble_eq_true rfl) dX7_lays_195 (fun v195 S H locs hG hf => ?_)
    refine lv_iadd hx hb dX7_lays_198 ?_
    refine zm_csi (As := [.int (v166 + v170), .int (v188 + v195)]) (rest := []) C hG hf (ctm_lesser Γ l (v166 + v170) (v188 + v195)) (lw_S q1721 q1722 q107 q1723) ytm_lesser rfl rfl (Nat.le_of_ble_eq_true rfl) (Nat.le_of_ble_eq_true rfl) hl.1 (Nat.le_of_ble_eq_true rfl) dX7_lays_199 (fun v199 S H locs hG hf => ?_)
    refine lv_istore (lv' := [(7, .int v199), (0, .ref (G_m Γ 0)), (1, .int f1), (2, .int f2), (3, .int f3), (4, .int f4), (5, .int f5), (6, .int s6)]) hx hb dX7_lays_202 hl (Nat.le_of_ble_eq_true rfl) rfl (fun ls hl => ?_)
    refine lv_aload_n hx hb dX7_lays_204 rfl (lv_at hl 1 rfl) ?_
    refine zm_ga C hG 25 (Nat.le_of_ble_eq_true rfl) (by decide) q1468 dX7_lays_205 ?_
    refine lv_iload hx hb dX7_lays_208 (lv_at hl 6 rfl) ?_
    refine zm_al C hG 25 hf (Nat.le_of_ble_eq_true rfl) rfl dX7_lays_210 (fun v210 hf => ?_)
    refine lv_iload_n hx hb dX7_lays_211 rfl (lv_at hl 4 rfl) ?_
    refine lv_icmp_ne (tgt := 234) hx hb dX7_lays_212 (by decide) (fun c212 => ?_) (fun c212 => ?_)
    · have hf := z_f c212 hf
      exact wm_lays_l146_j234 Γ l f1 f2 f3 f4 f5 s6 v199 p e R s m args below meth c Q A _ _ _ _ _ _ C hG ⟨ls, rfl, lv_sub hl [1, 2, 3, 4, 5, 6, 7, 0] rfl⟩ hf kk
    · have hf := z_t c212 hf
      refine lv_aload_n hx hb dX7_lays_215 rfl (lv_at hl 1 rfl) ?_
      refine zm_ga C hG 25 (Nat.le_of_ble_eq_true rfl) (by decide) q1468 dX7_lays_216 ?_
      refine lv_bipush (v := zi 16) hx hb dX7_lays_219 (by decide +kernel) ?_
      refine lv_iload hx hb dX7_lays_221 (lv_at hl 7 rfl) ?_
      refine lv_iadd hx hb dX7_lays_223 ?_
      refine zm_al C hG 25 hf (Nat.le_of_ble_eq_true rfl) rfl dX7_lays_224 (fun v224 hf => ?_)
      refine lv_iload hx hb dX7_lays_225 (lv_at hl 5 rfl) ?_
      refine lv_icmp_ne (tgt := 234) hx hb dX7_lays_227 (by decide) (fun c227 => ?_) (fun c227 => ?_)
      · have hf := z_f c227 hf
        exact wm_lays_l146_j234 Γ l f1 f2 f3 f4 f5 s6 v199 p e R s m args below meth c Q A _ _ _ _ _ _ C hG ⟨ls, rfl, lv_sub hl [1, 2, 3, 4, 5, 6, 7, 0] rfl⟩ hf kk
      · have hf := z_t c227 hf
        refine lv_iconst (v := zi 1) hx hb dX7_lays_230 rfl ?_
        refine lv_goto (tgt := 235) hx hb dX7_lays_231 (by decide) ?_
        exact wm_lays_l146_j235 Γ l f1 f2 f3 f4 f5 s6 v199 (zi 1) p e R s m args below meth c Q A _ _ _ _ _ _ C hG ⟨ls, rfl, lv_sub hl [1, 2, 3, 4, 5, 6, 7, 0] rfl⟩ hf kk
theorem wm_lays_l146 (Γ : zG) (l : Launch) (f1 : Int32) (f2 : Int32) (f3 : Int32) (f4 : Int32) (f5 : Int32) : ∀ s : Int32, mRg Γ l yX7_lays cX7_lays 9 none 1 22 (m_lays_l146 f1 f2 f3 f4 f5 s) (fun m => im_lays_l146 Γ f1 f2 f3 f4 f5 m s) (zLE (im_lays_l146 Γ f1 f2 f3 f4 f5) (em_lays_l146 Γ f1 f2 f3 f4 f5)) := fun s => wm_lays_l146_b Γ l f1 f2 f3 f4 f5 s
set_option maxHeartbeats 4000000 in
theorem wm_lays_l136_b (Γ : zG) (l : Launch) (f1 : Int32) (f2 : Int32) (f3 : Int32) (f4 : Int32) (s5 : Int32) : mRg Γ l yX7_lays cX7_lays 9 none 1 22 (m_lays_l136 f1 f2 f3 f4 s5) (zAt0 9 136 [(0, .ref (G_m Γ 0)), (1, .int f1), (2, .int f2), (3, .int f3), (4, .int f4), (5, .int s5)] []) (zLE (im_lays_l136 Γ f1 f2 f3 f4) (em_lays_l136 Γ f1 f2 f3 f4)) := by
  intro p e R s m args below meth c Q A S H locs x S' g C hG hI hf kk
  obtain ⟨ls, rfl, hl⟩ := hI
  obtain ⟨⟨hx, hb, hml, hown, hts⟩, hr, hlk, hK, hR1, hR2⟩ := id C
  have C : zCx Γ p R s m args meth c cX7_lays 9 RX7 none 1 22 := C
  refine lv_iload hx hb dX7_lays_136 (lv_at hl 5 rfl) ?_
  refine lv_iload_n hx hb dX7_lays_138 rfl (lv_at hl 1 rfl) ?_
  refine lv_icmp_gt (tgt := 365) hx hb dX7_lays_139 (by decide) (fun c139 => ?_) (fun c139 => ?_)
  · have hf := z_t c139 hf
    obtain ⟨rfl, rfl⟩ := z_p hf
    exact kk _ _ _ ⟨ls, rfl, lv_sub hl [0] rfl⟩ hG
  · have hf := z_f c139 hf
    refine lv_iload hx hb dX7_lays_142 (lv_at hl 4 rfl) ?_
    refine lv_istore (lv' := [(6, .int f4), (0, .ref (G_m Γ 0)), (1, .int f1), (2, .int f2), (3, .int f3), (4, .int f4), (5, .int s5)]) hx hb dX7_lays_144 hl (Nat.le_of_ble_eq_true rfl) rfl (fun ls hl => ?_)
    obtain ⟨e146, S, hlp, hf⟩ := nB_some hf
    refine mRg.loop (wm_lays_l146 Γ l f1 f2 f3 f4 s5) f4 p e R s m args below meth c Q A _ _ _ _ _ _ C hG ⟨ls, rfl, lv_sub hl [1, 2, 3, 4, 5, 6, 0] rfl⟩ hlp (fun H locs g hL hG => ?_)
    obtain ⟨ls, rfl, hl⟩ := hL
    have hl : lv_has ls 9 [(0, .ref (G_m Γ 0)), (1, .int f1), (2, .int f2), (3, .int f3), (4, .int f4), (5, .int s5)] := hl
    refine z_iinc (fun v => [(5, .int v), (0, .ref (G_m Γ 0)), (1, .int f1), (2, .int f2), (3, .int f3), (4, .int f4)]) hx hb hf dX7_lays_359 hl (k := 5) rfl (Nat.le_of_ble_eq_true rfl) (fun _ => rfl) (fun n359 ls hf hl => ?_)
    refine lv_goto (tgt := 136) hx hb dX7_lays_362 (by decide) ?_
    obtain ⟨rfl, rfl⟩ := z_p hf
    exact kk _ _ _ ⟨ls, rfl, lv_sub hl [1, 2, 3, 4, 5, 0] rfl⟩ hG
theorem wm_lays_l136 (Γ : zG) (l : Launch) (f1 : Int32) (f2 : Int32) (f3 : Int32) (f4 : Int32) : ∀ s : Int32, mRg Γ l yX7_lays cX7_lays 9 none 1 22 (m_lays_l136 f1 f2 f3 f4 s) (fun m => im_lays_l136 Γ f1 f2 f3 f4 m s) (zLE (im_lays_l136 Γ f1 f2 f3 f4) (em_lays_l136 Γ f1 f2 f3 f4)) := fun s => wm_lays_l136_b Γ l f1 f2 f3 f4 s
set_option maxHeartbeats 4000000 in
theorem wm_lays (Γ : zG) (l : Launch) (a1 : Int32) (a2 : Int32) : mRg Γ l yX7_lays cX7_lays 9 none 1 22 (m_lays a1 a2) (zAt0 9 0 (lv_args 0 [.ref (G_m Γ 0), .int a1, .int a2]) []) (zLv cX7_lays) := by
  intro p e R s m args below meth c Q A S H locs x S' g C hG hI hf kk
  obtain ⟨ls, rfl, hl⟩ := hI
  obtain ⟨⟨hx, hb, hml, hown, hts⟩, hr, hlk, hK, hR1, hR2⟩ := id C
  have C : zCx Γ p R s m args meth c cX7_lays 9 RX7 none 1 22 := C
  have hl : lv_has ls 9 [(0, .ref (G_m Γ 0)), (1, .int a1), (2, .int a2)] := hl
  refine lv_aload_n hx hb dX7_lays_0 rfl (lv_at hl 0 rfl) ?_
  refine zm_ga C hG 25 (Nat.le_of_ble_eq_true rfl) (by decide) q1468 dX7_lays_1 ?_
  refine lv_iload_n hx hb dX7_lays_4 rfl (lv_at hl 1 rfl) ?_
  refine zm_al C hG 25 hf (Nat.le_of_ble_eq_true rfl) rfl dX7_lays_5 (fun v5 hf => ?_)
  refine lv_istore_n (lv' := [(3, .int v5), (0, .ref (G_m Γ 0)), (1, .int a1), (2, .int a2)]) hx hb dX7_lays_6 rfl hl (Nat.le_of_ble_eq_true rfl) rfl (fun ls hl => ?_)
  refine lv_aload_n hx hb dX7_lays_7 rfl (lv_at hl 1 rfl) ?_
  refine zm_ga C hG 25 (Nat.le_of_ble_eq_true rfl) (by decide) q1468 dX7_lays_8 ?_
  refine lv_bipush (v := zi 16) hx hb dX7_lays_11 (by decide +kernel) ?_
  refine lv_iload_n hx hb dX7_lays_13 rfl (lv_at hl 3 rfl) ?_
  refine lv_iadd hx hb dX7_lays_14 ?_
  refine zm_al C hG 25 hf (Nat.le_of_ble_eq_true rfl) rfl dX7_lays_15 (fun v15 hf => ?_)
  refine lv_istore (lv' := [(4, .int v15), (3, .int v5), (0, .ref (G_m Γ 0)), (1, .int a1), (2, .int a2)]) hx hb dX7_lays_16 hl (Nat.le_of_ble_eq_true rfl) rfl (fun ls hl => ?_)
  refine lv_aload_n hx hb dX7_lays_18 rfl (lv_at hl 2 rfl) ?_
  refine zm_ga C hG 29 (Nat.le_of_ble_eq_true rfl) (by decide) q1472 dX7_lays_19 ?_
  refine lv_bipush (v := zi 17) hx hb dX7_lays_22 (by decide +kernel) ?_
  refine lv_iload_n hx hb dX7_lays_24 rfl (lv_at hl 1 rfl) ?_
  refine lv_imul hx hb dX7_lays_25 ?_
  refine lv_iload hx hb dX7_lays_26 (lv_at hl 0 rfl) ?_
  refine lv_iadd hx hb dX7_lays_28 ?_
  refine lv_iconst (v := zi 0) hx hb dX7_lays_29 rfl ?_
  refine zm_as C hG 29 hf (Nat.le_of_ble_eq_true rfl) rfl dX7_lays_30 (fun S H locs hG hf => ?_)
  refine lv_iload_n hx hb dX7_lays_31 rfl (lv_at hl 1 rfl) ?_
  refine lv_istore (lv' := [(5, .int v5), (4, .int v15), (3, .int v5), (0, .ref (G_m Γ 0)), (1, .int a1), (2, .int a2)]) hx hb dX7_lays_32 hl (Nat.le_of_ble_eq_true rfl) rfl (fun ls hl => ?_)
  obtain ⟨e34, S, hlp, hf⟩ := nB_some hf
  refine mRg.loop (wm_lays_l34 Γ l a1 a2 v5 v15) v5 p e R s m args below meth c Q A _ _ _ _ _ _ C hG ⟨ls, rfl, lv_sub hl [3, 4, 5, 2, 1, 0] rfl⟩ hlp (fun H locs g hL hG => ?_)
  obtain ⟨ls, rfl, hl⟩ := hL
  have hl : lv_has ls 9 [(0, .ref (G_m Γ 0)), (1, .int a1), (2, .int a2), (3, .int v5), (4, .int v15)] := hl
  refine lv_iload hx hb dX7_lays_81 (lv_at hl 4 rfl) ?_
  refine lv_istore (lv' := [(5, .int v15), (0, .ref (G_m Γ 0)), (1, .int a1), (2, .int a2), (3, .int v5), (4, .int v15)]) hx hb dX7_lays_83 hl (Nat.le_of_ble_eq_true rfl) rfl (fun ls hl => ?_)
  obtain ⟨e85, S, hlp, hf⟩ := nB_some hf
  refine mRg.loop (wm_lays_l85 Γ l a1 a2 v5 v15) v15 p e R s m args below meth c Q A _ _ _ _ _ _ C hG ⟨ls, rfl, lv_sub hl [1, 2, 3, 4, 5, 0] rfl⟩ hlp (fun H locs g hL hG => ?_)
  obtain ⟨ls, rfl, hl⟩ := hL
  have hl : lv_has ls 9 [(0, .ref (G_m Γ 0)), (1, .int a1), (2, .int a2), (3, .int v5), (4, .int v15)] := hl
  refine lv_iload_n hx hb dX7_lays_133 rfl (lv_at hl 3 rfl) ?_
  refine lv_istore (lv' := [(5, .int v5), (0, .ref (G_m Γ 0)), (1, .int a1), (2, .int a2), (3, .int v5), (4, .int v15)]) hx hb dX7_lays_134 hl (Nat.le_of_ble_eq_true rfl) rfl (fun ls hl => ?_)
  obtain ⟨e136, S, hlp, hf⟩ := nB_some hf
  refine mRg.loop (wm_lays_l136 Γ l a1 a2 v5 v15) v5 p e R s m args below meth c Q A _ _ _ _ _ _ C hG ⟨ls, rfl, lv_sub hl [1, 2, 3, 4, 5, 0] rfl⟩ hlp (fun H locs g hL hG => ?_)
  obtain ⟨ls, rfl, hl⟩ := hL
  have hl : lv_has ls 9 [(0, .ref (G_m Γ 0))] := hl
  obtain ⟨rfl, rfl⟩ := z_p hf
  exact kk _ _ _ ⟨_, _, rfl, dX7_lays_365⟩ hG
theorem ctm_lays (Γ : zG) (l : Launch) (a1 : Int32) (a2 : Int32) : mCt Γ l yX7_lays (ws_ yX7_lays cX7_lays 9 none) 1 22 [.ref (G_m Γ 0), .int a1, .int a2] (m_lays a1 a2) zov := mCt.mkv (by decide +kernel) (Nat.le_of_ble_eq_true rfl) (wm_lays Γ l a1 a2)
theorem ytm_lays : yX7_lays.cls = RX7 ∧ yX7_lays.cls ≠ "java/lang/invoke/MethodHandle" ∧ yX7_lays.cls ≠ "java/lang/invoke/VarHandle" ∧ (parseMethodDescriptor yX7_lays.desc).map (fun d => d.parameters.length) = some 2 := by decide +kernel
def im_farNow_l2 (Γ : zG) (m : MethodId) (s : Int32) (g : JFrame) : Prop := zAt0 3 2 [(0, .ref (G_m Γ 0)), (1, .int s)] [] m g
def em_farNow_l2 (Γ : zG) (m : MethodId) (e : Unit) (g : JFrame) : Prop := zAt0 3 61 [(0, .ref (G_m Γ 0))] [] m g
def im_farNow_l14 (Γ : zG) (f1 : Int32) (m : MethodId) (s : Int32) (g : JFrame) : Prop := zAt0 3 14 [(0, .ref (G_m Γ 0)), (1, .int f1), (2, .int s)] [] m g
def em_farNow_l14 (Γ : zG) (f1 : Int32) (m : MethodId) (e : Unit) (g : JFrame) : Prop := zAt0 3 55 [(0, .ref (G_m Γ 0)), (1, .int f1)] [] m g
set_option maxHeartbeats 4000000 in
theorem wm_farNow_l14_b (Γ : zG) (l : Launch) (f1 : Int32) (s2 : Int32) : mRg Γ l yX7_farNow cX7_farNow 3 (some .int) 2 50 (m_farNow_l14 f1 s2) (zAt0 3 14 [(0, .ref (G_m Γ 0)), (1, .int f1), (2, .int s2)] []) (zLE (im_farNow_l14 Γ f1) (em_farNow_l14 Γ f1)) := by
  intro p e R s m args below meth c Q A S H locs x S' g C hG hI hf kk
  obtain ⟨ls, rfl, hl⟩ := hI
  obtain ⟨⟨hx, hb, hml, hown, hts⟩, hr, hlk, hK, hR1, hR2⟩ := id C
  have C : zCx Γ p R s m args meth c cX7_farNow 3 RX7 (some .int) 2 50 := C
  refine lv_iload_n hx hb dX7_farNow_14 rfl (lv_at hl 2 rfl) ?_
  refine lv_aload_n hx hb dX7_farNow_15 rfl (lv_at hl 0 rfl) ?_
  refine zm_ga C hG 22 (Nat.le_of_ble_eq_true rfl) (by decide) q1465 dX7_farNow_16 ?_
  refine lv_iconst (v := zi 1) hx hb dX7_farNow_19 rfl ?_
  refine zm_al C hG 22 hf (Nat.le_of_ble_eq_true rfl) rfl dX7_farNow_20 (fun v20 hf => ?_)
  refine lv_icmp_ge (tgt := 55) hx hb dX7_farNow_21 (by decide) (fun c21 => ?_) (fun c21 => ?_)
  · have hf := z_t c21 hf
    obtain ⟨rfl, rfl⟩ := z_p hf
    exact kk _ _ _ ⟨ls, rfl, lv_sub hl [0, 1] rfl⟩ hG
  · have hf := z_f c21 hf
    refine lv_aload_n hx hb dX7_farNow_24 rfl (lv_at hl 0 rfl) ?_
    refine lv_iconst (v := zi 0) hx hb dX7_farNow_25 rfl ?_
    refine lv_iload_n hx hb dX7_farNow_26 rfl (lv_at hl 1 rfl) ?_
    refine zm_cvi (As := [.int (zi 0), .int f1]) (rest := []) C hG hf (ctm_isLast Γ l (zi 0) f1) (lw_V q1779 q1781 qs63 q107 q1782) ytm_isLast rfl rfl (Nat.le_of_ble_eq_true rfl) (Nat.le_of_ble_eq_true rfl) hl.1 (Nat.le_of_ble_eq_true rfl) dX7_farNow_27 (fun v27 S H locs hG hf => ?_)
    refine lv_if_eq (tgt := 49) hx hb dX7_farNow_30 (by decide) (fun c30 => ?_) (fun c30 => ?_)
    · have hf := z_t c30 hf
      refine z_iinc (fun v => [(2, .int v), (0, .ref (G_m Γ 0)), (1, .int f1)]) hx hb hf dX7_farNow_49 hl (k := 2) rfl (Nat.le_of_ble_eq_true rfl) (fun _ => rfl) (fun n49 ls hf hl => ?_)
      refine lv_goto (tgt := 14) hx hb dX7_farNow_52 (by decide) ?_
      obtain ⟨rfl, rfl⟩ := z_p hf
      exact kk _ _ _ ⟨ls, rfl, lv_sub hl [1, 2, 0] rfl⟩ hG
    · have hf := z_f c30 hf
      refine lv_aload_n hx hb dX7_farNow_33 rfl (lv_at hl 0 rfl) ?_
      refine lv_bipush (v := zi 16) hx hb dX7_farNow_34 (by decide +kernel) ?_
      refine lv_iload_n hx hb dX7_farNow_36 rfl (lv_at hl 2 rfl) ?_
      refine zm_cvi (As := [.int (zi 16), .int s2]) (rest := []) C hG hf (ctm_isLast Γ l (zi 16) s2) (lw_V q1779 q1781 qs63 q107 q1782) ytm_isLast rfl rfl (Nat.le_of_ble_eq_true rfl) (Nat.le_of_ble_eq_true rfl) hl.1 (Nat.le_of_ble_eq_true rfl) dX7_farNow_37 (fun v37 S H locs hG hf => ?_)
      refine lv_if_eq (tgt := 49) hx hb dX7_farNow_40 (by decide) (fun c40 => ?_) (fun c40 => ?_)
      · have hf := z_t c40 hf
        refine z_iinc (fun v => [(2, .int v), (0, .ref (G_m Γ 0)), (1, .int f1)]) hx hb hf dX7_farNow_49 hl (k := 2) rfl (Nat.le_of_ble_eq_true rfl) (fun _ => rfl) (fun n49 ls hf hl => ?_)
        refine lv_goto (tgt := 14) hx hb dX7_farNow_52 (by decide) ?_
        obtain ⟨rfl, rfl⟩ := z_p hf
        exact kk _ _ _ ⟨ls, rfl, lv_sub hl [1, 2, 0] rfl⟩ hG
      · have hf := z_f c40 hf
        refine lv_aload_n hx hb dX7_farNow_43 rfl (lv_at hl 0 rfl) ?_
        refine lv_iload_n hx hb dX7_farNow_44 rfl (lv_at hl 1 rfl) ?_
        refine lv_iload_n hx hb dX7_farNow_45 rfl (lv_at hl 2 rfl) ?_
        refine zm_cvv (As := [.int f1, .int s2]) (rest := []) C hG hf (ctm_lays Γ l f1 s2) (lw_V q1783 q1785 qs64 q107 q1786) ytm_lays rfl rfl (Nat.le_of_ble_eq_true rfl) (Nat.le_of_ble_eq_true rfl) hl.1 (Nat.le_of_ble_eq_true rfl) dX7_farNow_46 (fun S H locs hG hf => ?_)
        refine z_iinc (fun v => [(2, .int v), (0, .ref (G_m Γ 0)), (1, .int f1)]) hx hb hf dX7_farNow_49 hl (k := 2) rfl (Nat.le_of_ble_eq_true rfl) (fun _ => rfl) (fun n49 ls hf hl => ?_)
        refine lv_goto (tgt := 14) hx hb dX7_farNow_52 (by decide) ?_
        obtain ⟨rfl, rfl⟩ := z_p hf
        exact kk _ _ _ ⟨ls, rfl, lv_sub hl [1, 2, 0] rfl⟩ hG
theorem wm_farNow_l14 (Γ : zG) (l : Launch) (f1 : Int32) : ∀ s : Int32, mRg Γ l yX7_farNow cX7_farNow 3 (some .int) 2 50 (m_farNow_l14 f1 s) (fun m => im_farNow_l14 Γ f1 m s) (zLE (im_farNow_l14 Γ f1) (em_farNow_l14 Γ f1)) := fun s => wm_farNow_l14_b Γ l f1 s
set_option maxHeartbeats 4000000 in
theorem wm_farNow_l2_b (Γ : zG) (l : Launch) (s1 : Int32) : mRg Γ l yX7_farNow cX7_farNow 3 (some .int) 2 50 (m_farNow_l2 s1) (zAt0 3 2 [(0, .ref (G_m Γ 0)), (1, .int s1)] []) (zLE (im_farNow_l2 Γ) (em_farNow_l2 Γ)) := by
  intro p e R s m args below meth c Q A S H locs x S' g C hG hI hf kk
  obtain ⟨ls, rfl, hl⟩ := hI
  obtain ⟨⟨hx, hb, hml, hown, hts⟩, hr, hlk, hK, hR1, hR2⟩ := id C
  have C : zCx Γ p R s m args meth c cX7_farNow 3 RX7 (some .int) 2 50 := C
  refine lv_iload_n hx hb dX7_farNow_2 rfl (lv_at hl 1 rfl) ?_
  refine lv_aload_n hx hb dX7_farNow_3 rfl (lv_at hl 0 rfl) ?_
  refine zm_ga C hG 22 (Nat.le_of_ble_eq_true rfl) (by decide) q1465 dX7_farNow_4 ?_
  refine lv_iconst (v := zi 0) hx hb dX7_farNow_7 rfl ?_
  refine zm_al C hG 22 hf (Nat.le_of_ble_eq_true rfl) rfl dX7_farNow_8 (fun v8 hf => ?_)
  refine lv_icmp_ge (tgt := 61) hx hb dX7_farNow_9 (by decide) (fun c9 => ?_) (fun c9 => ?_)
  · have hf := z_t c9 hf
    obtain ⟨rfl, rfl⟩ := z_p hf
    exact kk _ _ _ ⟨ls, rfl, lv_sub hl [0] rfl⟩ hG
  · have hf := z_f c9 hf
    refine lv_iconst (v := zi 0) hx hb dX7_farNow_12 rfl ?_
    refine lv_istore_n (lv' := [(2, .int (zi 0)), (0, .ref (G_m Γ 0)), (1, .int s1)]) hx hb dX7_farNow_13 rfl hl (Nat.le_of_ble_eq_true rfl) rfl (fun ls hl => ?_)
    obtain ⟨e14, S, hlp, hf⟩ := nB_some hf
    refine mRg.loop (wm_farNow_l14 Γ l s1) (zi 0) p e R s m args below meth c Q A _ _ _ _ _ _ C hG ⟨ls, rfl, lv_sub hl [1, 2, 0] rfl⟩ hlp (fun H locs g hL hG => ?_)
    obtain ⟨ls, rfl, hl⟩ := hL
    have hl : lv_has ls 3 [(0, .ref (G_m Γ 0)), (1, .int s1)] := hl
    refine z_iinc (fun v => [(1, .int v), (0, .ref (G_m Γ 0))]) hx hb hf dX7_farNow_55 hl (k := 1) rfl (Nat.le_of_ble_eq_true rfl) (fun _ => rfl) (fun n55 ls hf hl => ?_)
    refine lv_goto (tgt := 2) hx hb dX7_farNow_58 (by decide) ?_
    obtain ⟨rfl, rfl⟩ := z_p hf
    exact kk _ _ _ ⟨ls, rfl, lv_sub hl [1, 0] rfl⟩ hG
theorem wm_farNow_l2 (Γ : zG) (l : Launch) : ∀ s : Int32, mRg Γ l yX7_farNow cX7_farNow 3 (some .int) 2 50 (m_farNow_l2 s) (fun m => im_farNow_l2 Γ m s) (zLE (im_farNow_l2 Γ) (em_farNow_l2 Γ)) := fun s => wm_farNow_l2_b Γ l s
set_option maxHeartbeats 4000000 in
theorem wm_farNow (Γ : zG) (l : Launch) : mRg Γ l yX7_farNow cX7_farNow 3 (some .int) 2 50 (m_farNow) (zAt0 3 0 (lv_args 0 [.ref (G_m Γ 0)]) []) (zLi cX7_farNow) := by
  intro p e R s m args below meth c Q A S H locs x S' g C hG hI hf kk
  obtain ⟨ls, rfl, hl⟩ := hI
  obtain ⟨⟨hx, hb, hml, hown, hts⟩, hr, hlk, hK, hR1, hR2⟩ := id C
  have C : zCx Γ p R s m args meth c cX7_farNow 3 RX7 (some .int) 2 50 := C
  have hl : lv_has ls 3 [(0, .ref (G_m Γ 0))] := hl
  refine lv_iconst (v := zi 0) hx hb dX7_farNow_0 rfl ?_
  refine lv_istore_n (lv' := [(1, .int (zi 0)), (0, .ref (G_m Γ 0))]) hx hb dX7_farNow_1 rfl hl (Nat.le_of_ble_eq_true rfl) rfl (fun ls hl => ?_)
  obtain ⟨e2, S, hlp, hf⟩ := nB_some hf
  refine mRg.loop (wm_farNow_l2 Γ l) (zi 0) p e R s m args below meth c Q A _ _ _ _ _ _ C hG ⟨ls, rfl, lv_sub hl [1, 0] rfl⟩ hlp (fun H locs g hL hG => ?_)
  obtain ⟨ls, rfl, hl⟩ := hL
  have hl : lv_has ls 3 [(0, .ref (G_m Γ 0))] := hl
  refine lv_aload_n hx hb dX7_farNow_61 rfl (lv_at hl 0 rfl) ?_
  refine zm_ga C hG 28 (Nat.le_of_ble_eq_true rfl) (by decide) q1471 dX7_farNow_62 ?_
  refine lv_bipush (v := zi 16) hx hb dX7_farNow_65 (by decide +kernel) ?_
  refine lv_aload_n hx hb dX7_farNow_67 rfl (lv_at hl 0 rfl) ?_
  refine zm_ga C hG 22 (Nat.le_of_ble_eq_true rfl) (by decide) q1465 dX7_farNow_68 ?_
  refine lv_iconst (v := zi 0) hx hb dX7_farNow_71 rfl ?_
  refine zm_al C hG 22 hf (Nat.le_of_ble_eq_true rfl) rfl dX7_farNow_72 (fun v72 hf => ?_)
  refine lv_iconst (v := zi 1) hx hb dX7_farNow_73 rfl ?_
  refine lv_isub hx hb dX7_farNow_74 ?_
  refine lv_imul hx hb dX7_farNow_75 ?_
  refine lv_aload_n hx hb dX7_farNow_76 rfl (lv_at hl 0 rfl) ?_
  refine zm_ga C hG 22 (Nat.le_of_ble_eq_true rfl) (by decide) q1465 dX7_farNow_77 ?_
  refine lv_iconst (v := zi 1) hx hb dX7_farNow_80 rfl ?_
  refine zm_al C hG 22 hf (Nat.le_of_ble_eq_true rfl) rfl dX7_farNow_81 (fun v81 hf => ?_)
  refine lv_iadd hx hb dX7_farNow_82 ?_
  refine lv_iconst (v := zi 1) hx hb dX7_farNow_83 rfl ?_
  refine lv_isub hx hb dX7_farNow_84 ?_
  refine zm_al C hG 28 hf (Nat.le_of_ble_eq_true rfl) rfl dX7_farNow_85 (fun v85 hf => ?_)
  obtain ⟨rfl, rfl⟩ := z_p hf
  exact kk _ _ _ ⟨_, _, rfl, dX7_farNow_86⟩ hG
theorem ctm_farNow (Γ : zG) (l : Launch) : mCt Γ l yX7_farNow (ws_ yX7_farNow cX7_farNow 3 (some .int)) 2 50 [.ref (G_m Γ 0)] (m_farNow) zoi := mCt.mki (by decide +kernel) (Nat.le_of_ble_eq_true rfl) (wm_farNow Γ l)
theorem ytm_farNow : yX7_farNow.cls = RX7 ∧ yX7_farNow.cls ≠ "java/lang/invoke/MethodHandle" ∧ yX7_farNow.cls ≠ "java/lang/invoke/VarHandle" ∧ (parseMethodDescriptor yX7_farNow.desc).map (fun d => d.parameters.length) = some 0 := by decide +kernel
set_option maxHeartbeats 4000000 in
theorem wm_farOf (Γ : zG) (l : Launch) (a1 : Int32) (a2 : Int32) (a3 : Int32) (a4 : Int32) (a5 : Int32) (a6 : Int32) : mRg Γ l yX7_farOf cX7_farOf 7 (some .int) 3 72 (m_farOf a1 a2 a3 a4 a5 a6) (zAt0 7 0 (lv_args 0 [.ref (G_m Γ 0), .int a1, .int a2, .int a3, .int a4, .int a5, .int a6]) []) (zLi cX7_farOf) := by
  intro p e R s m args below meth c Q A S H locs x S' g C hG hI hf kk
  obtain ⟨ls, rfl, hl⟩ := hI
  obtain ⟨⟨hx, hb, hml, hown, hts⟩, hr, hlk, hK, hR1, hR2⟩ := id C
  have C : zCx Γ p R s m args meth c cX7_farOf 7 RX7 (some .int) 3 72 := C
  have hl : lv_has ls 7 [(0, .ref (G_m Γ 0)), (1, .int a1), (2, .int a2), (3, .int a3), (4, .int a4), (5, .int a5), (6, .int a6)] := hl
  refine lv_aload_n hx hb dX7_farOf_0 rfl (lv_at hl 0 rfl) ?_
  refine lv_iload_n hx hb dX7_farOf_1 rfl (lv_at hl 1 rfl) ?_
  refine zm_cvv (As := [.int a1]) (rest := []) C hG hf (ctm_takes Γ l a1) (lw_V q1747 q1749 qs57 q107 q1750) ytm_takes rfl rfl (Nat.le_of_ble_eq_true rfl) (Nat.le_of_ble_eq_true rfl) hl.1 (Nat.le_of_ble_eq_true rfl) dX7_farOf_2 (fun S H locs hG hf => ?_)
  refine lv_aload_n hx hb dX7_farOf_5 rfl (lv_at hl 0 rfl) ?_
  refine lv_iconst (v := zi 0) hx hb dX7_farOf_6 rfl ?_
  refine lv_iload_n hx hb dX7_farOf_7 rfl (lv_at hl 2 rfl) ?_
  refine lv_iload_n hx hb dX7_farOf_8 rfl (lv_at hl 3 rfl) ?_
  refine zm_cvv (As := [.int (zi 0), .int a2, .int a3]) (rest := []) C hG hf (ctm_opens Γ l (zi 0) a2 a3) (lw_V q1755 q1757 qs59 q107 q1758) ytm_opens rfl rfl (Nat.le_of_ble_eq_true rfl) (Nat.le_of_ble_eq_true rfl) hl.1 (Nat.le_of_ble_eq_true rfl) dX7_farOf_9 (fun S H locs hG hf => ?_)
  refine lv_aload_n hx hb dX7_farOf_12 rfl (lv_at hl 0 rfl) ?_
  refine lv_iload hx hb dX7_farOf_13 (lv_at hl 4 rfl) ?_
  refine zm_cvv (As := [.int a4]) (rest := []) C hG hf (ctm_takes Γ l a4) (lw_V q1747 q1749 qs57 q107 q1750) ytm_takes rfl rfl (Nat.le_of_ble_eq_true rfl) (Nat.le_of_ble_eq_true rfl) hl.1 (Nat.le_of_ble_eq_true rfl) dX7_farOf_15 (fun S H locs hG hf => ?_)
  refine lv_aload_n hx hb dX7_farOf_18 rfl (lv_at hl 0 rfl) ?_
  refine lv_iconst (v := zi 1) hx hb dX7_farOf_19 rfl ?_
  refine lv_iload hx hb dX7_farOf_20 (lv_at hl 5 rfl) ?_
  refine lv_iload hx hb dX7_farOf_22 (lv_at hl 6 rfl) ?_
  refine zm_cvv (As := [.int (zi 1), .int a5, .int a6]) (rest := []) C hG hf (ctm_opens Γ l (zi 1) a5 a6) (lw_V q1755 q1757 qs59 q107 q1758) ytm_opens rfl rfl (Nat.le_of_ble_eq_true rfl) (Nat.le_of_ble_eq_true rfl) hl.1 (Nat.le_of_ble_eq_true rfl) dX7_farOf_24 (fun S H locs hG hf => ?_)
  refine lv_aload_n hx hb dX7_farOf_27 rfl (lv_at hl 0 rfl) ?_
  refine zm_cvi (As := []) (rest := []) C hG hf (ctm_farNow Γ l) (lw_V q1775 q1777 qs62 q107 q1778) ytm_farNow rfl rfl (Nat.le_of_ble_eq_true rfl) (Nat.le_of_ble_eq_true rfl) hl.1 (Nat.le_of_ble_eq_true rfl) dX7_farOf_28 (fun v28 S H locs hG hf => ?_)
  obtain ⟨rfl, rfl⟩ := z_p hf
  exact kk _ _ _ ⟨_, _, rfl, dX7_farOf_31⟩ hG
theorem ctm_farOf (Γ : zG) (l : Launch) (a1 : Int32) (a2 : Int32) (a3 : Int32) (a4 : Int32) (a5 : Int32) (a6 : Int32) : mCt Γ l yX7_farOf (ws_ yX7_farOf cX7_farOf 7 (some .int)) 3 72 [.ref (G_m Γ 0), .int a1, .int a2, .int a3, .int a4, .int a5, .int a6] (m_farOf a1 a2 a3 a4 a5 a6) zoi := mCt.mki (by decide +kernel) (Nat.le_of_ble_eq_true rfl) (wm_farOf Γ l a1 a2 a3 a4 a5 a6)
theorem ytm_farOf : yX7_farOf.cls = RX7 ∧ yX7_farOf.cls ≠ "java/lang/invoke/MethodHandle" ∧ yX7_farOf.cls ≠ "java/lang/invoke/VarHandle" ∧ (parseMethodDescriptor yX7_farOf.desc).map (fun d => d.parameters.length) = some 6 := by decide +kernel
set_option maxHeartbeats 4000000 in
theorem wm_far (Γ : zG) (l : Launch) (a1 : Int32) (a2 : Int32) (a3 : Int32) (a4 : Int32) : mRg Γ l yX7_far cX7_far 5 (some .int) 4 98 (m_far a1 a2 a3 a4) (zAt0 5 0 (lv_args 0 [.ref (G_m Γ 0), .int a1, .int a2, .int a3, .int a4]) []) (zLi cX7_far) := by
  intro p e R s m args below meth c Q A S H locs x S' g C hG hI hf kk
  obtain ⟨ls, rfl, hl⟩ := hI
  obtain ⟨⟨hx, hb, hml, hown, hts⟩, hr, hlk, hK, hR1, hR2⟩ := id C
  have C : zCx Γ p R s m args meth c cX7_far 5 RX7 (some .int) 4 98 := C
  have hl : lv_has ls 5 [(0, .ref (G_m Γ 0)), (1, .int a1), (2, .int a2), (3, .int a3), (4, .int a4)] := hl
  refine lv_aload_n hx hb dX7_far_0 rfl (lv_at hl 0 rfl) ?_
  refine lv_iload_n hx hb dX7_far_1 rfl (lv_at hl 1 rfl) ?_
  refine zm_cvi (As := [.int a1]) (rest := []) C hG hf (ctm_isPage Γ l a1) (lw_V q1701 q1703 qs54 q107 q1704) ytm_isPage rfl rfl (Nat.le_of_ble_eq_true rfl) (Nat.le_of_ble_eq_true rfl) hl.1 (Nat.le_of_ble_eq_true rfl) dX7_far_2 (fun v2 S H locs hG hf => ?_)
  refine lv_if_eq (tgt := 46) hx hb dX7_far_5 (by decide) (fun c5 => ?_) (fun c5 => ?_)
  · have hf := z_t c5 hf
    refine lv_iconst (v := zi (-1)) hx hb dX7_far_46 rfl ?_
    obtain ⟨rfl, rfl⟩ := z_p hf
    exact kk _ _ _ ⟨_, _, rfl, dX7_far_47⟩ hG
  · have hf := z_f c5 hf
    refine lv_aload_n hx hb dX7_far_8 rfl (lv_at hl 0 rfl) ?_
    refine lv_iload_n hx hb dX7_far_9 rfl (lv_at hl 2 rfl) ?_
    refine zm_cvi (As := [.int a2]) (rest := []) C hG hf (ctm_isPage Γ l a2) (lw_V q1701 q1703 qs54 q107 q1704) ytm_isPage rfl rfl (Nat.le_of_ble_eq_true rfl) (Nat.le_of_ble_eq_true rfl) hl.1 (Nat.le_of_ble_eq_true rfl) dX7_far_10 (fun v10 S H locs hG hf => ?_)
    refine lv_if_eq (tgt := 46) hx hb dX7_far_13 (by decide) (fun c13 => ?_) (fun c13 => ?_)
    · have hf := z_t c13 hf
      refine lv_iconst (v := zi (-1)) hx hb dX7_far_46 rfl ?_
      obtain ⟨rfl, rfl⟩ := z_p hf
      exact kk _ _ _ ⟨_, _, rfl, dX7_far_47⟩ hG
    · have hf := z_f c13 hf
      refine lv_iload_n hx hb dX7_far_16 rfl (lv_at hl 3 rfl) ?_
      refine lv_iload hx hb dX7_far_17 (lv_at hl 4 rfl) ?_
      refine zm_csi (As := [.int a3, .int a4]) (rest := []) C hG hf (ctm_isPerson Γ l a3 a4) (lw_S q1741 q1742 q107 q1743) ytm_isPerson rfl rfl (Nat.le_of_ble_eq_true rfl) (Nat.le_of_ble_eq_true rfl) hl.1 (Nat.le_of_ble_eq_true rfl) dX7_far_19 (fun v19 S H locs hG hf => ?_)
      refine lv_if_eq (tgt := 46) hx hb dX7_far_22 (by decide) (fun c22 => ?_) (fun c22 => ?_)
      · have hf := z_t c22 hf
        refine lv_iconst (v := zi (-1)) hx hb dX7_far_46 rfl ?_
        obtain ⟨rfl, rfl⟩ := z_p hf
        exact kk _ _ _ ⟨_, _, rfl, dX7_far_47⟩ hG
      · have hf := z_f c22 hf
        refine lv_aload_n hx hb dX7_far_25 rfl (lv_at hl 0 rfl) ?_
        refine lv_iload_n hx hb dX7_far_26 rfl (lv_at hl 1 rfl) ?_
        refine zm_csi (As := [.int a1]) (rest := [.ref (G_m Γ 0)]) C hG hf (ctm_treeOf Γ l a1) (lw_S q1744 q1745 q107 q1746) ytm_treeOf rfl rfl (Nat.le_of_ble_eq_true rfl) (Nat.le_of_ble_eq_true rfl) hl.1 (Nat.le_of_ble_eq_true rfl) dX7_far_27 (fun v27 S H locs hG hf => ?_)
        refine lv_iload_n hx hb dX7_far_30 rfl (lv_at hl 3 rfl) ?_
        refine lv_iload hx hb dX7_far_31 (lv_at hl 4 rfl) ?_
        refine lv_iload_n hx hb dX7_far_33 rfl (lv_at hl 2 rfl) ?_
        refine zm_csi (As := [.int a2]) (rest := [.int a4, .int a3, .int v27, .ref (G_m Γ 0)]) C hG hf (ctm_treeOf Γ l a2) (lw_S q1744 q1745 q107 q1746) ytm_treeOf rfl rfl (Nat.le_of_ble_eq_true rfl) (Nat.le_of_ble_eq_true rfl) hl.1 (Nat.le_of_ble_eq_true rfl) dX7_far_34 (fun v34 S H locs hG hf => ?_)
        refine lv_iload_n hx hb dX7_far_37 rfl (lv_at hl 3 rfl) ?_
        refine lv_iload hx hb dX7_far_38 (lv_at hl 4 rfl) ?_
        refine zm_cvi (As := [.int v27, .int a3, .int a4, .int v34, .int a3, .int a4]) (rest := []) C hG hf (ctm_farOf Γ l v27 a3 a4 v34 a3 a4) (lw_V q1771 q1773 qs61 q107 q1774) ytm_farOf rfl rfl (Nat.le_of_ble_eq_true rfl) (Nat.le_of_ble_eq_true rfl) hl.1 (Nat.le_of_ble_eq_true rfl) dX7_far_40 (fun v40 S H locs hG hf => ?_)
        refine lv_goto (tgt := 47) hx hb dX7_far_43 (by decide) ?_
        obtain ⟨rfl, rfl⟩ := z_p hf
        exact kk _ _ _ ⟨_, _, rfl, dX7_far_47⟩ hG
theorem ctm_far (Γ : zG) (l : Launch) (a1 : Int32) (a2 : Int32) (a3 : Int32) (a4 : Int32) : mCt Γ l yX7_far (ws_ yX7_far cX7_far 5 (some .int)) 4 98 [.ref (G_m Γ 0), .int a1, .int a2, .int a3, .int a4] (m_far a1 a2 a3 a4) zoi := mCt.mki (by decide +kernel) (Nat.le_of_ble_eq_true rfl) (wm_far Γ l a1 a2 a3 a4)
theorem ytm_far : yX7_far.cls = RX7 ∧ yX7_far.cls ≠ "java/lang/invoke/MethodHandle" ∧ yX7_far.cls ≠ "java/lang/invoke/VarHandle" ∧ (parseMethodDescriptor yX7_far.desc).map (fun d => d.parameters.length) = some 4 := by decide +kernel
set_option maxHeartbeats 4000000 in
theorem wm_shows (Γ : zG) (l : Launch) (a1 : Int32) (a2 : Int32) (a3 : Int32) : mRg Γ l yX7_shows cX7_shows 4 none 3 72 (m_shows a1 a2 a3) (zAt0 4 0 (lv_args 0 [.ref (G_m Γ 0), .int a1, .int a2, .int a3]) []) (zLv cX7_shows) := by
  intro p e R s m args below meth c Q A S H locs x S' g C hG hI hf kk
  obtain ⟨ls, rfl, hl⟩ := hI
  obtain ⟨⟨hx, hb, hml, hown, hts⟩, hr, hlk, hK, hR1, hR2⟩ := id C
  have C : zCx Γ p R s m args meth c cX7_shows 4 RX7 none 3 72 := C
  have hl : lv_has ls 4 [(0, .ref (G_m Γ 0)), (1, .int a1), (2, .int a2), (3, .int a3)] := hl
  refine lv_aload_n hx hb dX7_shows_0 rfl (lv_at hl 0 rfl) ?_
  refine lv_iload_n hx hb dX7_shows_1 rfl (lv_at hl 1 rfl) ?_
  refine zm_csi (As := [.int a1]) (rest := [.ref (G_m Γ 0)]) C hG hf (ctm_treeOf Γ l a1) (lw_S q1744 q1745 q107 q1746) ytm_treeOf rfl rfl (Nat.le_of_ble_eq_true rfl) (Nat.le_of_ble_eq_true rfl) hl.1 (Nat.le_of_ble_eq_true rfl) dX7_shows_2 (fun v2 S H locs hG hf => ?_)
  refine zm_cvv (As := [.int v2]) (rest := []) C hG hf (ctm_takes Γ l v2) (lw_V q1747 q1749 qs57 q107 q1750) ytm_takes rfl rfl (Nat.le_of_ble_eq_true rfl) (Nat.le_of_ble_eq_true rfl) hl.1 (Nat.le_of_ble_eq_true rfl) dX7_shows_5 (fun S H locs hG hf => ?_)
  refine lv_aload_n hx hb dX7_shows_8 rfl (lv_at hl 0 rfl) ?_
  refine lv_iconst (v := zi 0) hx hb dX7_shows_9 rfl ?_
  refine lv_iload_n hx hb dX7_shows_10 rfl (lv_at hl 2 rfl) ?_
  refine lv_iload_n hx hb dX7_shows_11 rfl (lv_at hl 3 rfl) ?_
  refine zm_cvv (As := [.int (zi 0), .int a2, .int a3]) (rest := []) C hG hf (ctm_opens Γ l (zi 0) a2 a3) (lw_V q1755 q1757 qs59 q107 q1758) ytm_opens rfl rfl (Nat.le_of_ble_eq_true rfl) (Nat.le_of_ble_eq_true rfl) hl.1 (Nat.le_of_ble_eq_true rfl) dX7_shows_12 (fun S H locs hG hf => ?_)
  obtain ⟨rfl, rfl⟩ := z_p hf
  exact kk _ _ _ ⟨_, _, rfl, dX7_shows_15⟩ hG
theorem ctm_shows (Γ : zG) (l : Launch) (a1 : Int32) (a2 : Int32) (a3 : Int32) : mCt Γ l yX7_shows (ws_ yX7_shows cX7_shows 4 none) 3 72 [.ref (G_m Γ 0), .int a1, .int a2, .int a3] (m_shows a1 a2 a3) zov := mCt.mkv (by decide +kernel) (Nat.le_of_ble_eq_true rfl) (wm_shows Γ l a1 a2 a3)
theorem ytm_shows : yX7_shows.cls = RX7 ∧ yX7_shows.cls ≠ "java/lang/invoke/MethodHandle" ∧ yX7_shows.cls ≠ "java/lang/invoke/VarHandle" ∧ (parseMethodDescriptor yX7_shows.desc).map (fun d => d.parameters.length) = some 3 := by decide +kernel
def im_lookAt_l8 (Γ : zG) (f1 : Int32) (f2 : Int32) (f3 : Int32) (m : MethodId) (s : Int32 × Int32) (g : JFrame) : Prop := zAt0 6 8 [(0, .ref (G_m Γ 0)), (1, .int f1), (2, .int f2), (3, .int f3), (4, .int s.1), (5, .int s.2)] [] m g
def em_lookAt_l8 (Γ : zG) (f1 : Int32) (f2 : Int32) (f3 : Int32) (m : MethodId) (e : Int32) (g : JFrame) : Prop := zAt0 6 59 [(0, .ref (G_m Γ 0)), (4, .int e)] [] m g
set_option maxHeartbeats 4000000 in
theorem wm_lookAt_l8_b (Γ : zG) (l : Launch) (f1 : Int32) (f2 : Int32) (f3 : Int32) (s4 : Int32) (s5 : Int32) : mRg Γ l yX7_lookAt cX7_lookAt 6 (some .int) 3 72 (m_lookAt_l8 f1 f2 f3 s4 s5) (zAt0 6 8 [(0, .ref (G_m Γ 0)), (1, .int f1), (2, .int f2), (3, .int f3), (4, .int s4), (5, .int s5)] []) (zLE (im_lookAt_l8 Γ f1 f2 f3) (em_lookAt_l8 Γ f1 f2 f3)) := by
  intro p e R s m args below meth c Q A S H locs x S' g C hG hI hf kk
  obtain ⟨ls, rfl, hl⟩ := hI
  obtain ⟨⟨hx, hb, hml, hown, hts⟩, hr, hlk, hK, hR1, hR2⟩ := id C
  have C : zCx Γ p R s m args meth c cX7_lookAt 6 RX7 (some .int) 3 72 := C
  refine lv_iload hx hb dX7_lookAt_8 (lv_at hl 5 rfl) ?_
  refine lv_aload_n hx hb dX7_lookAt_10 rfl (lv_at hl 0 rfl) ?_
  refine zm_ga C hG 0 (Nat.le_of_ble_eq_true rfl) (by decide) q1443 dX7_lookAt_11 ?_
  refine lv_iload_n hx hb dX7_lookAt_14 rfl (lv_at hl 1 rfl) ?_
  refine zm_csi (As := [.int f1]) (rest := [.ref (G_m Γ (0 + 1)), .int s5]) C hG hf (ctm_houseAt Γ l f1) (lw_S q1615 q1616 q107 q1617) ytm_houseAt rfl rfl (Nat.le_of_ble_eq_true rfl) (Nat.le_of_ble_eq_true rfl) hl.1 (Nat.le_of_ble_eq_true rfl) dX7_lookAt_15 (fun v15 S H locs hG hf => ?_)
  refine lv_bipush (v := zi 13) hx hb dX7_lookAt_18 (by decide +kernel) ?_
  refine lv_iadd hx hb dX7_lookAt_20 ?_
  refine zm_al C hG 0 hf (Nat.le_of_ble_eq_true rfl) rfl dX7_lookAt_21 (fun v21 hf => ?_)
  refine lv_icmp_ge (tgt := 59) hx hb dX7_lookAt_22 (by decide) (fun c22 => ?_) (fun c22 => ?_)
  · have hf := z_t c22 hf
    obtain ⟨rfl, rfl⟩ := z_p hf
    exact kk _ _ _ ⟨ls, rfl, lv_sub hl [0, 4] rfl⟩ hG
  · have hf := z_f c22 hf
    refine lv_aload_n hx hb dX7_lookAt_25 rfl (lv_at hl 0 rfl) ?_
    refine lv_iload_n hx hb dX7_lookAt_26 rfl (lv_at hl 1 rfl) ?_
    refine lv_iload hx hb dX7_lookAt_27 (lv_at hl 5 rfl) ?_
    refine zm_csi (As := [.int f1, .int s5]) (rest := [.ref (G_m Γ 0)]) C hG hf (ctm_ownTree Γ l f1 s5) (lw_S q1672 q1673 q107 q1674) ytm_ownTree rfl rfl (Nat.le_of_ble_eq_true rfl) (Nat.le_of_ble_eq_true rfl) hl.1 (Nat.le_of_ble_eq_true rfl) dX7_lookAt_29 (fun v29 S H locs hG hf => ?_)
    refine zm_cvv (As := [.int v29]) (rest := []) C hG hf (ctm_takes Γ l v29) (lw_V q1747 q1749 qs57 q107 q1750) ytm_takes rfl rfl (Nat.le_of_ble_eq_true rfl) (Nat.le_of_ble_eq_true rfl) hl.1 (Nat.le_of_ble_eq_true rfl) dX7_lookAt_32 (fun S H locs hG hf => ?_)
    refine lv_aload_n hx hb dX7_lookAt_35 rfl (lv_at hl 0 rfl) ?_
    refine lv_iconst (v := zi 1) hx hb dX7_lookAt_36 rfl ?_
    refine lv_iload_n hx hb dX7_lookAt_37 rfl (lv_at hl 2 rfl) ?_
    refine lv_iload_n hx hb dX7_lookAt_38 rfl (lv_at hl 3 rfl) ?_
    refine zm_cvv (As := [.int (zi 1), .int f2, .int f3]) (rest := []) C hG hf (ctm_opens Γ l (zi 1) f2 f3) (lw_V q1755 q1757 qs59 q107 q1758) ytm_opens rfl rfl (Nat.le_of_ble_eq_true rfl) (Nat.le_of_ble_eq_true rfl) hl.1 (Nat.le_of_ble_eq_true rfl) dX7_lookAt_39 (fun S H locs hG hf => ?_)
    refine lv_iload hx hb dX7_lookAt_42 (lv_at hl 4 rfl) ?_
    refine lv_aload_n hx hb dX7_lookAt_44 rfl (lv_at hl 0 rfl) ?_
    refine zm_cvi (As := []) (rest := [.int s4]) C hG hf (ctm_farNow Γ l) (lw_V q1775 q1777 qs62 q107 q1778) ytm_farNow rfl rfl (Nat.le_of_ble_eq_true rfl) (Nat.le_of_ble_eq_true rfl) hl.1 (Nat.le_of_ble_eq_true rfl) dX7_lookAt_45 (fun v45 S H locs hG hf => ?_)
    refine zm_csi (As := [.int s4, .int v45]) (rest := []) C hG hf (ctm_lesser Γ l s4 v45) (lw_S q1721 q1722 q107 q1723) ytm_lesser rfl rfl (Nat.le_of_ble_eq_true rfl) (Nat.le_of_ble_eq_true rfl) hl.1 (Nat.le_of_ble_eq_true rfl) dX7_lookAt_48 (fun v48 S H locs hG hf => ?_)
    refine lv_istore (lv' := [(4, .int v48), (0, .ref (G_m Γ 0)), (1, .int f1), (2, .int f2), (3, .int f3), (5, .int s5)]) hx hb dX7_lookAt_51 hl (Nat.le_of_ble_eq_true rfl) rfl (fun ls hl => ?_)
    refine z_iinc (fun v => [(5, .int v), (4, .int v48), (0, .ref (G_m Γ 0)), (1, .int f1), (2, .int f2), (3, .int f3)]) hx hb hf dX7_lookAt_53 hl (k := 5) rfl (Nat.le_of_ble_eq_true rfl) (fun _ => rfl) (fun n53 ls hf hl => ?_)
    refine lv_goto (tgt := 8) hx hb dX7_lookAt_56 (by decide) ?_
    obtain ⟨rfl, rfl⟩ := z_p hf
    exact kk _ _ _ ⟨ls, rfl, lv_sub hl [2, 3, 4, 5, 1, 0] rfl⟩ hG
theorem wm_lookAt_l8 (Γ : zG) (l : Launch) (f1 : Int32) (f2 : Int32) (f3 : Int32) : ∀ s : Int32 × Int32, mRg Γ l yX7_lookAt cX7_lookAt 6 (some .int) 3 72 (m_lookAt_l8 f1 f2 f3 s.1 s.2) (fun m => im_lookAt_l8 Γ f1 f2 f3 m s) (zLE (im_lookAt_l8 Γ f1 f2 f3) (em_lookAt_l8 Γ f1 f2 f3)) := fun s => wm_lookAt_l8_b Γ l f1 f2 f3 s.1 s.2
set_option maxHeartbeats 4000000 in
theorem wm_lookAt (Γ : zG) (l : Launch) (a1 : Int32) (a2 : Int32) (a3 : Int32) : mRg Γ l yX7_lookAt cX7_lookAt 6 (some .int) 3 72 (m_lookAt a1 a2 a3) (zAt0 6 0 (lv_args 0 [.ref (G_m Γ 0), .int a1, .int a2, .int a3]) []) (zLi cX7_lookAt) := by
  intro p e R s m args below meth c Q A S H locs x S' g C hG hI hf kk
  obtain ⟨ls, rfl, hl⟩ := hI
  obtain ⟨⟨hx, hb, hml, hown, hts⟩, hr, hlk, hK, hR1, hR2⟩ := id C
  have C : zCx Γ p R s m args meth c cX7_lookAt 6 RX7 (some .int) 3 72 := C
  have hl : lv_has ls 6 [(0, .ref (G_m Γ 0)), (1, .int a1), (2, .int a2), (3, .int a3)] := hl
  refine lv_sipush (v := zi 999) hx hb dX7_lookAt_0 (by decide +kernel) ?_
  refine lv_istore (lv' := [(4, .int (zi 999)), (0, .ref (G_m Γ 0)), (1, .int a1), (2, .int a2), (3, .int a3)]) hx hb dX7_lookAt_3 hl (Nat.le_of_ble_eq_true rfl) rfl (fun ls hl => ?_)
  refine lv_iconst (v := zi 0) hx hb dX7_lookAt_5 rfl ?_
  refine lv_istore (lv' := [(5, .int (zi 0)), (4, .int (zi 999)), (0, .ref (G_m Γ 0)), (1, .int a1), (2, .int a2), (3, .int a3)]) hx hb dX7_lookAt_6 hl (Nat.le_of_ble_eq_true rfl) rfl (fun ls hl => ?_)
  obtain ⟨e8, S, hlp, hf⟩ := nB_some hf
  refine mRg.loop (wm_lookAt_l8 Γ l a1 a2 a3) ((zi 999), (zi 0)) p e R s m args below meth c Q A _ _ _ _ _ _ C hG ⟨ls, rfl, lv_sub hl [2, 3, 4, 5, 1, 0] rfl⟩ hlp (fun H locs g hL hG => ?_)
  obtain ⟨ls, rfl, hl⟩ := hL
  have hl : lv_has ls 6 [(0, .ref (G_m Γ 0)), (4, .int e8)] := hl
  refine lv_iload hx hb dX7_lookAt_59 (lv_at hl 1 rfl) ?_
  obtain ⟨rfl, rfl⟩ := z_p hf
  exact kk _ _ _ ⟨_, _, rfl, dX7_lookAt_61⟩ hG
theorem ctm_lookAt (Γ : zG) (l : Launch) (a1 : Int32) (a2 : Int32) (a3 : Int32) : mCt Γ l yX7_lookAt (ws_ yX7_lookAt cX7_lookAt 6 (some .int)) 3 72 [.ref (G_m Γ 0), .int a1, .int a2, .int a3] (m_lookAt a1 a2 a3) zoi := mCt.mki (by decide +kernel) (Nat.le_of_ble_eq_true rfl) (wm_lookAt Γ l a1 a2 a3)
theorem ytm_lookAt : yX7_lookAt.cls = RX7 ∧ yX7_lookAt.cls ≠ "java/lang/invoke/MethodHandle" ∧ yX7_lookAt.cls ≠ "java/lang/invoke/VarHandle" ∧ (parseMethodDescriptor yX7_lookAt.desc).map (fun d => d.parameters.length) = some 3 := by decide +kernel
set_option maxHeartbeats 4000000 in
theorem wm_look (Γ : zG) (l : Launch) (a1 : Int32) (a2 : Int32) (a3 : Int32) (a4 : Int32) : mRg Γ l yX7_look cX7_look 5 (some .int) 4 97 (m_look a1 a2 a3 a4) (zAt0 5 0 (lv_args 0 [.ref (G_m Γ 0), .int a1, .int a2, .int a3, .int a4]) []) (zLi cX7_look) := by
  intro p e R s m args below meth c Q A S H locs x S' g C hG hI hf kk
  obtain ⟨ls, rfl, hl⟩ := hI
  obtain ⟨⟨hx, hb, hml, hown, hts⟩, hr, hlk, hK, hR1, hR2⟩ := id C
  have C : zCx Γ p R s m args meth c cX7_look 5 RX7 (some .int) 4 97 := C
  have hl : lv_has ls 5 [(0, .ref (G_m Γ 0)), (1, .int a1), (2, .int a2), (3, .int a3), (4, .int a4)] := hl
  refine lv_aload_n hx hb dX7_look_0 rfl (lv_at hl 0 rfl) ?_
  refine lv_iload_n hx hb dX7_look_1 rfl (lv_at hl 1 rfl) ?_
  refine zm_cvi (As := [.int a1]) (rest := []) C hG hf (ctm_isPage Γ l a1) (lw_V q1701 q1703 qs54 q107 q1704) ytm_isPage rfl rfl (Nat.le_of_ble_eq_true rfl) (Nat.le_of_ble_eq_true rfl) hl.1 (Nat.le_of_ble_eq_true rfl) dX7_look_2 (fun v2 S H locs hG hf => ?_)
  refine lv_if_eq (tgt := 25) hx hb dX7_look_5 (by decide) (fun c5 => ?_) (fun c5 => ?_)
  · have hf := z_t c5 hf
    refine lv_iconst (v := zi (-1)) hx hb dX7_look_25 rfl ?_
    obtain ⟨rfl, rfl⟩ := z_p hf
    exact kk _ _ _ ⟨_, _, rfl, dX7_look_26⟩ hG
  · have hf := z_f c5 hf
    refine lv_aload_n hx hb dX7_look_8 rfl (lv_at hl 0 rfl) ?_
    refine lv_iload_n hx hb dX7_look_9 rfl (lv_at hl 2 rfl) ?_
    refine zm_cvi (As := [.int a2]) (rest := []) C hG hf (ctm_isHouse Γ l a2) (lw_V q1608 q1610 qs42 q107 q1611) ytm_isHouse rfl rfl (Nat.le_of_ble_eq_true rfl) (Nat.le_of_ble_eq_true rfl) hl.1 (Nat.le_of_ble_eq_true rfl) dX7_look_10 (fun v10 S H locs hG hf => ?_)
    refine lv_if_eq (tgt := 25) hx hb dX7_look_13 (by decide) (fun c13 => ?_) (fun c13 => ?_)
    · have hf := z_t c13 hf
      refine lv_iconst (v := zi (-1)) hx hb dX7_look_25 rfl ?_
      obtain ⟨rfl, rfl⟩ := z_p hf
      exact kk _ _ _ ⟨_, _, rfl, dX7_look_26⟩ hG
    · have hf := z_f c13 hf
      refine lv_iload_n hx hb dX7_look_16 rfl (lv_at hl 3 rfl) ?_
      refine lv_iload hx hb dX7_look_17 (lv_at hl 4 rfl) ?_
      refine zm_csi (As := [.int a3, .int a4]) (rest := []) C hG hf (ctm_isPerson Γ l a3 a4) (lw_S q1741 q1742 q107 q1743) ytm_isPerson rfl rfl (Nat.le_of_ble_eq_true rfl) (Nat.le_of_ble_eq_true rfl) hl.1 (Nat.le_of_ble_eq_true rfl) dX7_look_19 (fun v19 S H locs hG hf => ?_)
      refine lv_if_ne (tgt := 27) hx hb dX7_look_22 (by decide) (fun c22 => ?_) (fun c22 => ?_)
      · have hf := z_f c22 hf
        refine lv_aload_n hx hb dX7_look_27 rfl (lv_at hl 0 rfl) ?_
        refine lv_iload_n hx hb dX7_look_28 rfl (lv_at hl 1 rfl) ?_
        refine lv_iload_n hx hb dX7_look_29 rfl (lv_at hl 3 rfl) ?_
        refine lv_iload hx hb dX7_look_30 (lv_at hl 4 rfl) ?_
        refine zm_cvv (As := [.int a1, .int a3, .int a4]) (rest := []) C hG hf (ctm_shows Γ l a1 a3 a4) (lw_V q1799 q1801 qs67 q107 q1802) ytm_shows rfl rfl (Nat.le_of_ble_eq_true rfl) (Nat.le_of_ble_eq_true rfl) hl.1 (Nat.le_of_ble_eq_true rfl) dX7_look_32 (fun S H locs hG hf => ?_)
        refine lv_aload_n hx hb dX7_look_35 rfl (lv_at hl 0 rfl) ?_
        refine lv_iload_n hx hb dX7_look_36 rfl (lv_at hl 2 rfl) ?_
        refine lv_iload_n hx hb dX7_look_37 rfl (lv_at hl 3 rfl) ?_
        refine lv_iload hx hb dX7_look_38 (lv_at hl 4 rfl) ?_
        refine zm_cvi (As := [.int a2, .int a3, .int a4]) (rest := []) C hG hf (ctm_lookAt Γ l a2 a3 a4) (lw_V q1803 q1805 qs68 q107 q1806) ytm_lookAt rfl rfl (Nat.le_of_ble_eq_true rfl) (Nat.le_of_ble_eq_true rfl) hl.1 (Nat.le_of_ble_eq_true rfl) dX7_look_40 (fun v40 S H locs hG hf => ?_)
        obtain ⟨rfl, rfl⟩ := z_p hf
        exact kk _ _ _ ⟨_, _, rfl, dX7_look_43⟩ hG
      · have hf := z_t c22 hf
        refine lv_iconst (v := zi (-1)) hx hb dX7_look_25 rfl ?_
        obtain ⟨rfl, rfl⟩ := z_p hf
        exact kk _ _ _ ⟨_, _, rfl, dX7_look_26⟩ hG
theorem ctm_look (Γ : zG) (l : Launch) (a1 : Int32) (a2 : Int32) (a3 : Int32) (a4 : Int32) : mCt Γ l yX7_look (ws_ yX7_look cX7_look 5 (some .int)) 4 97 [.ref (G_m Γ 0), .int a1, .int a2, .int a3, .int a4] (m_look a1 a2 a3 a4) zoi := mCt.mki (by decide +kernel) (Nat.le_of_ble_eq_true rfl) (wm_look Γ l a1 a2 a3 a4)
theorem ytm_look : yX7_look.cls = RX7 ∧ yX7_look.cls ≠ "java/lang/invoke/MethodHandle" ∧ yX7_look.cls ≠ "java/lang/invoke/VarHandle" ∧ (parseMethodDescriptor yX7_look.desc).map (fun d => d.parameters.length) = some 4 := by decide +kernel
def im_likeNow_l10 (Γ : zG) (f1 : Int32) (f2 : Int32) (m : MethodId) (s : Int32 × Int32) (g : JFrame) : Prop := zAt0 6 10 [(0, .ref (G_m Γ 0)), (1, .int f1), (2, .int f2), (3, .int s.1), (4, .int s.2)] [] m g
def em_likeNow_l10 (Γ : zG) (f1 : Int32) (f2 : Int32) (m : MethodId) (e : Int32) (g : JFrame) : Prop := zAt0 6 62 [(0, .ref (G_m Γ 0)), (3, .int e)] [] m g
set_option maxHeartbeats 4000000 in
theorem wm_likeNow_l10_j47 (Γ : zG) (l : Launch) (b1 : Int32) (b2 : Int32) (b4 : Int32) (b5 : Int32) : mRg Γ l yX7_likeNow cX7_likeNow 6 (some .int) 4 97 (m_likeNow_l10_j47 b1 b2 b4 b5) (zAt0 6 47 [(0, .ref (G_m Γ 0)), (1, .int b1), (2, .int b2), (4, .int b4), (5, .int b5)] []) (zLE (im_likeNow_l10 Γ b1 b2) (em_likeNow_l10 Γ b1 b2)) := by
  intro p e R s m args below meth c Q A S H locs x S' g C hG hI hf kk
  obtain ⟨ls, rfl, hl⟩ := hI
  obtain ⟨⟨hx, hb, hml, hown, hts⟩, hr, hlk, hK, hR1, hR2⟩ := id C
  have C : zCx Γ p R s m args meth c cX7_likeNow 6 RX7 (some .int) 4 97 := C
  refine lv_iload hx hb dX7_likeNow_47 (lv_at hl 3 rfl) ?_
  refine lv_istore_n (lv' := [(3, .int b4), (0, .ref (G_m Γ 0)), (1, .int b1), (2, .int b2), (4, .int b4), (5, .int b5)]) hx hb dX7_likeNow_49 rfl hl (Nat.le_of_ble_eq_true rfl) rfl (fun ls hl => ?_)
  refine lv_aload_n hx hb dX7_likeNow_50 rfl (lv_at hl 1 rfl) ?_
  refine lv_iload hx hb dX7_likeNow_51 (lv_at hl 5 rfl) ?_
  refine zm_pf C hG 30 hf (Nat.le_of_ble_eq_true rfl) rfl rfl (by decide +kernel) q1473 dX7_likeNow_53 (fun S H locs hG hf => ?_)
  refine z_iinc (fun v => [(4, .int v), (3, .int b4), (0, .ref (G_m Γ 0)), (1, .int b1), (2, .int b2), (5, .int b5)]) hx hb hf dX7_likeNow_56 hl (k := 4) rfl (Nat.le_of_ble_eq_true rfl) (fun _ => rfl) (fun n56 ls hf hl => ?_)
  refine lv_goto (tgt := 10) hx hb dX7_likeNow_59 (by decide) ?_
  obtain ⟨rfl, rfl⟩ := z_p hf
  exact kk _ _ _ ⟨ls, rfl, lv_sub hl [2, 3, 4, 1, 0] rfl⟩ hG
set_option maxHeartbeats 4000000 in
theorem wm_likeNow_l10_b (Γ : zG) (l : Launch) (f1 : Int32) (f2 : Int32) (s3 : Int32) (s4 : Int32) : mRg Γ l yX7_likeNow cX7_likeNow 6 (some .int) 4 97 (m_likeNow_l10 f1 f2 s3 s4) (zAt0 6 10 [(0, .ref (G_m Γ 0)), (1, .int f1), (2, .int f2), (3, .int s3), (4, .int s4)] []) (zLE (im_likeNow_l10 Γ f1 f2) (em_likeNow_l10 Γ f1 f2)) := by
  intro p e R s m args below meth c Q A S H locs x S' g C hG hI hf kk
  obtain ⟨ls, rfl, hl⟩ := hI
  obtain ⟨⟨hx, hb, hml, hown, hts⟩, hr, hlk, hK, hR1, hR2⟩ := id C
  have C : zCx Γ p R s m args meth c cX7_likeNow 6 RX7 (some .int) 4 97 := C
  refine lv_iload hx hb dX7_likeNow_10 (lv_at hl 4 rfl) ?_
  refine lv_aload_n hx hb dX7_likeNow_12 rfl (lv_at hl 0 rfl) ?_
  refine zm_ga C hG 0 (Nat.le_of_ble_eq_true rfl) (by decide) q1443 dX7_likeNow_13 ?_
  refine lv_iconst (v := zi 0) hx hb dX7_likeNow_16 rfl ?_
  refine zm_al C hG 0 hf (Nat.le_of_ble_eq_true rfl) rfl dX7_likeNow_17 (fun v17 hf => ?_)
  refine lv_icmp_ge (tgt := 62) hx hb dX7_likeNow_18 (by decide) (fun c18 => ?_) (fun c18 => ?_)
  · have hf := z_t c18 hf
    obtain ⟨rfl, rfl⟩ := z_p hf
    exact kk _ _ _ ⟨ls, rfl, lv_sub hl [0, 3] rfl⟩ hG
  · have hf := z_f c18 hf
    refine lv_aload_n hx hb dX7_likeNow_21 rfl (lv_at hl 0 rfl) ?_
    refine lv_iload hx hb dX7_likeNow_22 (lv_at hl 4 rfl) ?_
    refine lv_iload_n hx hb dX7_likeNow_24 rfl (lv_at hl 1 rfl) ?_
    refine lv_iload_n hx hb dX7_likeNow_25 rfl (lv_at hl 2 rfl) ?_
    refine zm_cvi (As := [.int s4, .int f1, .int f2]) (rest := []) C hG hf (ctm_lookAt Γ l s4 f1 f2) (lw_V q1803 q1805 qs68 q107 q1806) ytm_lookAt rfl rfl (Nat.le_of_ble_eq_true rfl) (Nat.le_of_ble_eq_true rfl) hl.1 (Nat.le_of_ble_eq_true rfl) dX7_likeNow_26 (fun v26 S H locs hG hf => ?_)
    refine lv_istore (lv' := [(5, .int v26), (0, .ref (G_m Γ 0)), (1, .int f1), (2, .int f2), (3, .int s3), (4, .int s4)]) hx hb dX7_likeNow_29 hl (Nat.le_of_ble_eq_true rfl) rfl (fun ls hl => ?_)
    refine lv_iload_n hx hb dX7_likeNow_31 rfl (lv_at hl 4 rfl) ?_
    refine lv_if_lt (tgt := 47) hx hb dX7_likeNow_32 (by decide) (fun c32 => ?_) (fun c32 => ?_)
    · have hf := z_t c32 hf
      exact wm_likeNow_l10_j47 Γ l f1 f2 s4 v26 p e R s m args below meth c Q A _ _ _ _ _ _ C hG ⟨ls, rfl, lv_sub hl [1, 2, 3, 5, 0] rfl⟩ hf kk
    · have hf := z_f c32 hf
      refine lv_iload hx hb dX7_likeNow_35 (lv_at hl 0 rfl) ?_
      refine lv_aload_n hx hb dX7_likeNow_37 rfl (lv_at hl 1 rfl) ?_
      refine zm_gf C hG 30 hf (Nat.le_of_ble_eq_true rfl) rfl q1473 dX7_likeNow_38 (fun v38 hf => ?_)
      refine lv_icmp_lt (tgt := 47) hx hb dX7_likeNow_41 (by decide) (fun c41 => ?_) (fun c41 => ?_)
      · have hf := z_t c41 hf
        exact wm_likeNow_l10_j47 Γ l f1 f2 s4 v26 p e R s m args below meth c Q A _ _ _ _ _ _ C hG ⟨ls, rfl, lv_sub hl [1, 2, 3, 5, 0] rfl⟩ hf kk
      · have hf := z_f c41 hf
        refine lv_goto (tgt := 56) hx hb dX7_likeNow_44 (by decide) ?_
        refine z_iinc (fun v => [(4, .int v), (5, .int v26), (0, .ref (G_m Γ 0)), (1, .int f1), (2, .int f2), (3, .int s3)]) hx hb hf dX7_likeNow_56 hl (k := 5) rfl (Nat.le_of_ble_eq_true rfl) (fun _ => rfl) (fun n56 ls hf hl => ?_)
        refine lv_goto (tgt := 10) hx hb dX7_likeNow_59 (by decide) ?_
        obtain ⟨rfl, rfl⟩ := z_p hf
        exact kk _ _ _ ⟨ls, rfl, lv_sub hl [2, 3, 4, 5, 0] rfl⟩ hG
theorem wm_likeNow_l10 (Γ : zG) (l : Launch) (f1 : Int32) (f2 : Int32) : ∀ s : Int32 × Int32, mRg Γ l yX7_likeNow cX7_likeNow 6 (some .int) 4 97 (m_likeNow_l10 f1 f2 s.1 s.2) (fun m => im_likeNow_l10 Γ f1 f2 m s) (zLE (im_likeNow_l10 Γ f1 f2) (em_likeNow_l10 Γ f1 f2)) := fun s => wm_likeNow_l10_b Γ l f1 f2 s.1 s.2
set_option maxHeartbeats 4000000 in
theorem wm_likeNow (Γ : zG) (l : Launch) (a1 : Int32) (a2 : Int32) : mRg Γ l yX7_likeNow cX7_likeNow 6 (some .int) 4 97 (m_likeNow a1 a2) (zAt0 6 0 (lv_args 0 [.ref (G_m Γ 0), .int a1, .int a2]) []) (zLi cX7_likeNow) := by
  intro p e R s m args below meth c Q A S H locs x S' g C hG hI hf kk
  obtain ⟨ls, rfl, hl⟩ := hI
  obtain ⟨⟨hx, hb, hml, hown, hts⟩, hr, hlk, hK, hR1, hR2⟩ := id C
  have C : zCx Γ p R s m args meth c cX7_likeNow 6 RX7 (some .int) 4 97 := C
  have hl : lv_has ls 6 [(0, .ref (G_m Γ 0)), (1, .int a1), (2, .int a2)] := hl
  refine lv_iconst (v := zi (-1)) hx hb dX7_likeNow_0 rfl ?_
  refine lv_istore_n (lv' := [(3, .int (zi (-1))), (0, .ref (G_m Γ 0)), (1, .int a1), (2, .int a2)]) hx hb dX7_likeNow_1 rfl hl (Nat.le_of_ble_eq_true rfl) rfl (fun ls hl => ?_)
  refine lv_aload_n hx hb dX7_likeNow_2 rfl (lv_at hl 1 rfl) ?_
  refine lv_iconst (v := zi 0) hx hb dX7_likeNow_3 rfl ?_
  refine zm_pf C hG 30 hf (Nat.le_of_ble_eq_true rfl) rfl rfl (by decide +kernel) q1473 dX7_likeNow_4 (fun S H locs hG hf => ?_)
  refine lv_iconst (v := zi 0) hx hb dX7_likeNow_7 rfl ?_
  refine lv_istore (lv' := [(4, .int (zi 0)), (3, .int (zi (-1))), (0, .ref (G_m Γ 0)), (1, .int a1), (2, .int a2)]) hx hb dX7_likeNow_8 hl (Nat.le_of_ble_eq_true rfl) rfl (fun ls hl => ?_)
  obtain ⟨e10, S, hlp, hf⟩ := nB_some hf
  refine mRg.loop (wm_likeNow_l10 Γ l a1 a2) ((zi (-1)), (zi 0)) p e R s m args below meth c Q A _ _ _ _ _ _ C hG ⟨ls, rfl, lv_sub hl [2, 3, 4, 1, 0] rfl⟩ hlp (fun H locs g hL hG => ?_)
  obtain ⟨ls, rfl, hl⟩ := hL
  have hl : lv_has ls 6 [(0, .ref (G_m Γ 0)), (3, .int e10)] := hl
  refine lv_iload_n hx hb dX7_likeNow_62 rfl (lv_at hl 1 rfl) ?_
  obtain ⟨rfl, rfl⟩ := z_p hf
  exact kk _ _ _ ⟨_, _, rfl, dX7_likeNow_63⟩ hG
theorem ctm_likeNow (Γ : zG) (l : Launch) (a1 : Int32) (a2 : Int32) : mCt Γ l yX7_likeNow (ws_ yX7_likeNow cX7_likeNow 6 (some .int)) 4 97 [.ref (G_m Γ 0), .int a1, .int a2] (m_likeNow a1 a2) zoi := mCt.mki (by decide +kernel) (Nat.le_of_ble_eq_true rfl) (wm_likeNow Γ l a1 a2)
theorem ytm_likeNow : yX7_likeNow.cls = RX7 ∧ yX7_likeNow.cls ≠ "java/lang/invoke/MethodHandle" ∧ yX7_likeNow.cls ≠ "java/lang/invoke/VarHandle" ∧ (parseMethodDescriptor yX7_likeNow.desc).map (fun d => d.parameters.length) = some 2 := by decide +kernel
set_option maxHeartbeats 4000000 in
theorem wm_like (Γ : zG) (l : Launch) (a1 : Int32) (a2 : Int32) (a3 : Int32) : mRg Γ l yX7_like cX7_like 4 (some .int) 5 122 (m_like a1 a2 a3) (zAt0 4 0 (lv_args 0 [.ref (G_m Γ 0), .int a1, .int a2, .int a3]) []) (zLi cX7_like) := by
  intro p e R s m args below meth c Q A S H locs x S' g C hG hI hf kk
  obtain ⟨ls, rfl, hl⟩ := hI
  obtain ⟨⟨hx, hb, hml, hown, hts⟩, hr, hlk, hK, hR1, hR2⟩ := id C
  have C : zCx Γ p R s m args meth c cX7_like 4 RX7 (some .int) 5 122 := C
  have hl : lv_has ls 4 [(0, .ref (G_m Γ 0)), (1, .int a1), (2, .int a2), (3, .int a3)] := hl
  refine lv_aload_n hx hb dX7_like_0 rfl (lv_at hl 0 rfl) ?_
  refine lv_iload_n hx hb dX7_like_1 rfl (lv_at hl 1 rfl) ?_
  refine zm_cvi (As := [.int a1]) (rest := []) C hG hf (ctm_isPage Γ l a1) (lw_V q1701 q1703 qs54 q107 q1704) ytm_isPage rfl rfl (Nat.le_of_ble_eq_true rfl) (Nat.le_of_ble_eq_true rfl) hl.1 (Nat.le_of_ble_eq_true rfl) dX7_like_2 (fun v2 S H locs hG hf => ?_)
  refine lv_if_eq (tgt := 16) hx hb dX7_like_5 (by decide) (fun c5 => ?_) (fun c5 => ?_)
  · have hf := z_t c5 hf
    refine lv_iconst (v := zi (-1)) hx hb dX7_like_16 rfl ?_
    obtain ⟨rfl, rfl⟩ := z_p hf
    exact kk _ _ _ ⟨_, _, rfl, dX7_like_17⟩ hG
  · have hf := z_f c5 hf
    refine lv_iload_n hx hb dX7_like_8 rfl (lv_at hl 2 rfl) ?_
    refine lv_iload_n hx hb dX7_like_9 rfl (lv_at hl 3 rfl) ?_
    refine zm_csi (As := [.int a2, .int a3]) (rest := []) C hG hf (ctm_isPerson Γ l a2 a3) (lw_S q1741 q1742 q107 q1743) ytm_isPerson rfl rfl (Nat.le_of_ble_eq_true rfl) (Nat.le_of_ble_eq_true rfl) hl.1 (Nat.le_of_ble_eq_true rfl) dX7_like_10 (fun v10 S H locs hG hf => ?_)
    refine lv_if_ne (tgt := 18) hx hb dX7_like_13 (by decide) (fun c13 => ?_) (fun c13 => ?_)
    · have hf := z_f c13 hf
      refine lv_aload_n hx hb dX7_like_18 rfl (lv_at hl 0 rfl) ?_
      refine lv_iload_n hx hb dX7_like_19 rfl (lv_at hl 1 rfl) ?_
      refine lv_iload_n hx hb dX7_like_20 rfl (lv_at hl 2 rfl) ?_
      refine lv_iload_n hx hb dX7_like_21 rfl (lv_at hl 3 rfl) ?_
      refine zm_cvv (As := [.int a1, .int a2, .int a3]) (rest := []) C hG hf (ctm_shows Γ l a1 a2 a3) (lw_V q1799 q1801 qs67 q107 q1802) ytm_shows rfl rfl (Nat.le_of_ble_eq_true rfl) (Nat.le_of_ble_eq_true rfl) hl.1 (Nat.le_of_ble_eq_true rfl) dX7_like_22 (fun S H locs hG hf => ?_)
      refine lv_aload_n hx hb dX7_like_25 rfl (lv_at hl 0 rfl) ?_
      refine lv_iload_n hx hb dX7_like_26 rfl (lv_at hl 2 rfl) ?_
      refine lv_iload_n hx hb dX7_like_27 rfl (lv_at hl 3 rfl) ?_
      refine zm_cvi (As := [.int a2, .int a3]) (rest := []) C hG hf (ctm_likeNow Γ l a2 a3) (lw_V q1811 q1813 qs69 q107 q1814) ytm_likeNow rfl rfl (Nat.le_of_ble_eq_true rfl) (Nat.le_of_ble_eq_true rfl) hl.1 (Nat.le_of_ble_eq_true rfl) dX7_like_28 (fun v28 S H locs hG hf => ?_)
      obtain ⟨rfl, rfl⟩ := z_p hf
      exact kk _ _ _ ⟨_, _, rfl, dX7_like_31⟩ hG
    · have hf := z_t c13 hf
      refine lv_iconst (v := zi (-1)) hx hb dX7_like_16 rfl ?_
      obtain ⟨rfl, rfl⟩ := z_p hf
      exact kk _ _ _ ⟨_, _, rfl, dX7_like_17⟩ hG
theorem ctm_like (Γ : zG) (l : Launch) (a1 : Int32) (a2 : Int32) (a3 : Int32) : mCt Γ l yX7_like (ws_ yX7_like cX7_like 4 (some .int)) 5 122 [.ref (G_m Γ 0), .int a1, .int a2, .int a3] (m_like a1 a2 a3) zoi := mCt.mki (by decide +kernel) (Nat.le_of_ble_eq_true rfl) (wm_like Γ l a1 a2 a3)
theorem ytm_like : yX7_like.cls = RX7 ∧ yX7_like.cls ≠ "java/lang/invoke/MethodHandle" ∧ yX7_like.cls ≠ "java/lang/invoke/VarHandle" ∧ (parseMethodDescriptor yX7_like.desc).map (fun d => d.parameters.length) = some 3 := by decide +kernel
set_option maxHeartbeats 4000000 in
theorem wm_asks (Γ : zG) (l : Launch) (a1 : Int32) (a2 : Int32) (a3 : Int32) : mRg Γ l yX7_asks cX7_asks 4 (some .int) 4 95 (m_asks a1 a2 a3) (zAt0 4 0 (lv_args 0 [.ref (G_m Γ 0), .int a1, .int a2, .int a3]) []) (zLi cX7_asks) := by
  intro p e R s m args below meth c Q A S H locs x S' g C hG hI hf kk
  obtain ⟨ls, rfl, hl⟩ := hI
  obtain ⟨⟨hx, hb, hml, hown, hts⟩, hr, hlk, hK, hR1, hR2⟩ := id C
  have C : zCx Γ p R s m args meth c cX7_asks 4 RX7 (some .int) 4 95 := C
  have hl : lv_has ls 4 [(0, .ref (G_m Γ 0)), (1, .int a1), (2, .int a2), (3, .int a3)] := hl
  refine lv_aload_n hx hb dX7_asks_0 rfl (lv_at hl 0 rfl) ?_
  refine lv_iload_n hx hb dX7_asks_1 rfl (lv_at hl 1 rfl) ?_
  refine zm_cvi (As := [.int a1]) (rest := []) C hG hf (ctm_isPage Γ l a1) (lw_V q1701 q1703 qs54 q107 q1704) ytm_isPage rfl rfl (Nat.le_of_ble_eq_true rfl) (Nat.le_of_ble_eq_true rfl) hl.1 (Nat.le_of_ble_eq_true rfl) dX7_asks_2 (fun v2 S H locs hG hf => ?_)
  refine lv_if_eq (tgt := 16) hx hb dX7_asks_5 (by decide) (fun c5 => ?_) (fun c5 => ?_)
  · have hf := z_t c5 hf
    refine lv_iconst (v := zi (-1)) hx hb dX7_asks_16 rfl ?_
    obtain ⟨rfl, rfl⟩ := z_p hf
    exact kk _ _ _ ⟨_, _, rfl, dX7_asks_17⟩ hG
  · have hf := z_f c5 hf
    refine lv_iload_n hx hb dX7_asks_8 rfl (lv_at hl 2 rfl) ?_
    refine lv_iload_n hx hb dX7_asks_9 rfl (lv_at hl 3 rfl) ?_
    refine zm_csi (As := [.int a2, .int a3]) (rest := []) C hG hf (ctm_isPerson Γ l a2 a3) (lw_S q1741 q1742 q107 q1743) ytm_isPerson rfl rfl (Nat.le_of_ble_eq_true rfl) (Nat.le_of_ble_eq_true rfl) hl.1 (Nat.le_of_ble_eq_true rfl) dX7_asks_10 (fun v10 S H locs hG hf => ?_)
    refine lv_if_ne (tgt := 18) hx hb dX7_asks_13 (by decide) (fun c13 => ?_) (fun c13 => ?_)
    · have hf := z_f c13 hf
      refine lv_aload_n hx hb dX7_asks_18 rfl (lv_at hl 0 rfl) ?_
      refine lv_iload_n hx hb dX7_asks_19 rfl (lv_at hl 1 rfl) ?_
      refine lv_iload_n hx hb dX7_asks_20 rfl (lv_at hl 2 rfl) ?_
      refine lv_iload_n hx hb dX7_asks_21 rfl (lv_at hl 3 rfl) ?_
      refine zm_cvv (As := [.int a1, .int a2, .int a3]) (rest := []) C hG hf (ctm_shows Γ l a1 a2 a3) (lw_V q1799 q1801 qs67 q107 q1802) ytm_shows rfl rfl (Nat.le_of_ble_eq_true rfl) (Nat.le_of_ble_eq_true rfl) hl.1 (Nat.le_of_ble_eq_true rfl) dX7_asks_22 (fun S H locs hG hf => ?_)
      refine lv_aload_n hx hb dX7_asks_25 rfl (lv_at hl 0 rfl) ?_
      refine zm_gf C hG 27 hf (Nat.le_of_ble_eq_true rfl) rfl q1470 dX7_asks_26 (fun v26 hf => ?_)
      obtain ⟨rfl, rfl⟩ := z_p hf
      exact kk _ _ _ ⟨_, _, rfl, dX7_asks_29⟩ hG
    · have hf := z_t c13 hf
      refine lv_iconst (v := zi (-1)) hx hb dX7_asks_16 rfl ?_
      obtain ⟨rfl, rfl⟩ := z_p hf
      exact kk _ _ _ ⟨_, _, rfl, dX7_asks_17⟩ hG
theorem ctm_asks (Γ : zG) (l : Launch) (a1 : Int32) (a2 : Int32) (a3 : Int32) : mCt Γ l yX7_asks (ws_ yX7_asks cX7_asks 4 (some .int)) 4 95 [.ref (G_m Γ 0), .int a1, .int a2, .int a3] (m_asks a1 a2 a3) zoi := mCt.mki (by decide +kernel) (Nat.le_of_ble_eq_true rfl) (wm_asks Γ l a1 a2 a3)
theorem ytm_asks : yX7_asks.cls = RX7 ∧ yX7_asks.cls ≠ "java/lang/invoke/MethodHandle" ∧ yX7_asks.cls ≠ "java/lang/invoke/VarHandle" ∧ (parseMethodDescriptor yX7_asks.desc).map (fun d => d.parameters.length) = some 3 := by decide +kernel
def im_strange_l4 (Γ : zG) (m : MethodId) (s : Int32 × Int32) (g : JFrame) : Prop := zAt0 7 4 [(0, .ref (G_m Γ 0)), (1, .int s.1), (2, .int s.2)] [] m g
def em_strange_l4 (Γ : zG) (m : MethodId) (e : Int32) (g : JFrame) : Prop := zAt0 7 120 [(0, .ref (G_m Γ 0)), (1, .int e)] [] m g
def im_strange_l16 (Γ : zG) (f2 : Int32) (m : MethodId) (s : Int32 × Int32) (g : JFrame) : Prop := zAt0 7 16 [(0, .ref (G_m Γ 0)), (1, .int s.1), (2, .int f2), (3, .int s.2)] [] m g
def em_strange_l16 (Γ : zG) (f2 : Int32) (m : MethodId) (e : Int32) (g : JFrame) : Prop := zAt0 7 114 [(0, .ref (G_m Γ 0)), (1, .int e), (2, .int f2)] [] m g
def im_strange_l24 (Γ : zG) (f2 : Int32) (f3 : Int32) (m : MethodId) (s : Int32 × Int32) (g : JFrame) : Prop := zAt0 7 24 [(0, .ref (G_m Γ 0)), (1, .int s.1), (2, .int f2), (3, .int f3), (4, .int s.2)] [] m g
def em_strange_l24 (Γ : zG) (f2 : Int32) (f3 : Int32) (m : MethodId) (e : Int32) (g : JFrame) : Prop := zAt0 7 108 [(0, .ref (G_m Γ 0)), (1, .int e), (2, .int f2), (3, .int f3)] [] m g
def im_strange_l44 (Γ : zG) (f2 : Int32) (f3 : Int32) (f4 : Int32) (m : MethodId) (s : Int32 × Int32) (g : JFrame) : Prop := zAt0 7 44 [(0, .ref (G_m Γ 0)), (1, .int s.1), (2, .int f2), (3, .int f3), (4, .int f4), (5, .int s.2)] [] m g
def em_strange_l44 (Γ : zG) (f2 : Int32) (f3 : Int32) (f4 : Int32) (m : MethodId) (e : Int32) (g : JFrame) : Prop := zAt0 7 102 [(0, .ref (G_m Γ 0)), (1, .int e), (2, .int f2), (3, .int f3), (4, .int f4)] [] m g
set_option maxHeartbeats 4000000 in
theorem wm_strange_l44_j93 (Γ : zG) (l : Launch) (b2 : Int32) (b3 : Int32) (b4 : Int32) (b5 : Int32) (b6 : Int32) : mRg Γ l yX7_strange cX7_strange 7 (some .int) 4 98 (m_strange_l44_j93 b2 b3 b4 b5 b6) (zAt0 7 93 [(0, .ref (G_m Γ 0)), (2, .int b2), (3, .int b3), (4, .int b4), (5, .int b5), (6, .int b6)] []) (zLE (im_strange_l44 Γ b2 b3 b4) (em_strange_l44 Γ b2 b3 b4)) := by
  intro p e R s m args below meth c Q A S H locs x S' g C hG hI hf kk
  obtain ⟨ls, rfl, hl⟩ := hI
  obtain ⟨⟨hx, hb, hml, hown, hts⟩, hr, hlk, hK, hR1, hR2⟩ := id C
  have C : zCx Γ p R s m args meth c cX7_strange 7 RX7 (some .int) 4 98 := C
  refine lv_iload hx hb dX7_strange_93 (lv_at hl 5 rfl) ?_
  refine lv_istore_n (lv' := [(1, .int b6), (0, .ref (G_m Γ 0)), (2, .int b2), (3, .int b3), (4, .int b4), (5, .int b5), (6, .int b6)]) hx hb dX7_strange_95 rfl hl (Nat.le_of_ble_eq_true rfl) rfl (fun ls hl => ?_)
  refine z_iinc (fun v => [(5, .int v), (1, .int b6), (0, .ref (G_m Γ 0)), (2, .int b2), (3, .int b3), (4, .int b4), (6, .int b6)]) hx hb hf dX7_strange_96 hl (k := 5) rfl (Nat.le_of_ble_eq_true rfl) (fun _ => rfl) (fun n96 ls hf hl => ?_)
  refine lv_goto (tgt := 44) hx hb dX7_strange_99 (by decide) ?_
  obtain ⟨rfl, rfl⟩ := z_p hf
  exact kk _ _ _ ⟨ls, rfl, lv_sub hl [2, 1, 3, 4, 5, 0] rfl⟩ hG
set_option maxHeartbeats 4000000 in
theorem wm_strange_l44_b (Γ : zG) (l : Launch) (f2 : Int32) (f3 : Int32) (f4 : Int32) (s1 : Int32) (s5 : Int32) : mRg Γ l yX7_strange cX7_strange 7 (some .int) 4 98 (m_strange_l44 f2 f3 f4 s1 s5) (zAt0 7 44 [(0, .ref (G_m Γ 0)), (1, .int s1), (2, .int f2), (3, .int f3), (4, .int f4), (5, .int s5)] []) (zLE (im_strange_l44 Γ f2 f3 f4) (em_strange_l44 Γ f2 f3 f4)) := by
  intro p e R s m args below meth c Q A S H locs x S' g C hG hI hf kk
  obtain ⟨ls, rfl, hl⟩ := hI
  obtain ⟨⟨hx, hb, hml, hown, hts⟩, hr, hlk, hK, hR1, hR2⟩ := id C
  have C : zCx Γ p R s m args meth c cX7_strange 7 RX7 (some .int) 4 98 := C
  refine lv_iload hx hb dX7_strange_44 (lv_at hl 5 rfl) ?_
  refine lv_aload_n hx hb dX7_strange_46 rfl (lv_at hl 0 rfl) ?_
  refine zm_ga C hG 0 (Nat.le_of_ble_eq_true rfl) (by decide) q1443 dX7_strange_47 ?_
  refine lv_iload_n hx hb dX7_strange_50 rfl (lv_at hl 3 rfl) ?_
  refine zm_csi (As := [.int f3]) (rest := [.ref (G_m Γ (0 + 1)), .int s5]) C hG hf (ctm_houseAt Γ l f3) (lw_S q1615 q1616 q107 q1617) ytm_houseAt rfl rfl (Nat.le_of_ble_eq_true rfl) (Nat.le_of_ble_eq_true rfl) hl.1 (Nat.le_of_ble_eq_true rfl) dX7_strange_51 (fun v51 S H locs hG hf => ?_)
  refine lv_bipush (v := zi 13) hx hb dX7_strange_54 (by decide +kernel) ?_
  refine lv_iadd hx hb dX7_strange_56 ?_
  refine zm_al C hG 0 hf (Nat.le_of_ble_eq_true rfl) rfl dX7_strange_57 (fun v57 hf => ?_)
  refine lv_icmp_ge (tgt := 102) hx hb dX7_strange_58 (by decide) (fun c58 => ?_) (fun c58 => ?_)
  · have hf := z_t c58 hf
    obtain ⟨rfl, rfl⟩ := z_p hf
    exact kk _ _ _ ⟨ls, rfl, lv_sub hl [0, 1, 2, 3, 4] rfl⟩ hG
  · have hf := z_f c58 hf
    refine lv_aload_n hx hb dX7_strange_61 rfl (lv_at hl 0 rfl) ?_
    refine lv_iload_n hx hb dX7_strange_62 rfl (lv_at hl 2 rfl) ?_
    refine lv_iload hx hb dX7_strange_63 (lv_at hl 4 rfl) ?_
    refine zm_csi (As := [.int f2, .int f4]) (rest := [.ref (G_m Γ 0)]) C hG hf (ctm_ownTree Γ l f2 f4) (lw_S q1672 q1673 q107 q1674) ytm_ownTree rfl rfl (Nat.le_of_ble_eq_true rfl) (Nat.le_of_ble_eq_true rfl) hl.1 (Nat.le_of_ble_eq_true rfl) dX7_strange_65 (fun v65 S H locs hG hf => ?_)
    refine lv_iconst (v := zi 0) hx hb dX7_strange_68 rfl ?_
    refine lv_iconst (v := zi 0) hx hb dX7_strange_69 rfl ?_
    refine lv_iload_n hx hb dX7_strange_70 rfl (lv_at hl 3 rfl) ?_
    refine lv_iload hx hb dX7_strange_71 (lv_at hl 5 rfl) ?_
    refine zm_csi (As := [.int f3, .int s5]) (rest := [.int (zi 0), .int (zi 0), .int v65, .ref (G_m Γ 0)]) C hG hf (ctm_ownTree Γ l f3 s5) (lw_S q1672 q1673 q107 q1674) ytm_ownTree rfl rfl (Nat.le_of_ble_eq_true rfl) (Nat.le_of_ble_eq_true rfl) hl.1 (Nat.le_of_ble_eq_true rfl) dX7_strange_73 (fun v73 S H locs hG hf => ?_)
    refine lv_iconst (v := zi 0) hx hb dX7_strange_76 rfl ?_
    refine lv_iconst (v := zi 0) hx hb dX7_strange_77 rfl ?_
    refine zm_cvi (As := [.int v65, .int (zi 0), .int (zi 0), .int v73, .int (zi 0), .int (zi 0)]) (rest := []) C hG hf (ctm_farOf Γ l v65 (zi 0) (zi 0) v73 (zi 0) (zi 0)) (lw_V q1771 q1773 qs61 q107 q1774) ytm_farOf rfl rfl (Nat.le_of_ble_eq_true rfl) (Nat.le_of_ble_eq_true rfl) hl.1 (Nat.le_of_ble_eq_true rfl) dX7_strange_78 (fun v78 S H locs hG hf => ?_)
    refine lv_istore (lv' := [(6, .int v78), (0, .ref (G_m Γ 0)), (1, .int s1), (2, .int f2), (3, .int f3), (4, .int f4), (5, .int s5)]) hx hb dX7_strange_81 hl (Nat.le_of_ble_eq_true rfl) rfl (fun ls hl => ?_)
    refine lv_iload_n hx hb dX7_strange_83 rfl (lv_at hl 2 rfl) ?_
    refine lv_if_lt (tgt := 93) hx hb dX7_strange_84 (by decide) (fun c84 => ?_) (fun c84 => ?_)
    · have hf := z_t c84 hf
      exact wm_strange_l44_j93 Γ l f2 f3 f4 s5 v78 p e R s m args below meth c Q A _ _ _ _ _ _ C hG ⟨ls, rfl, lv_sub hl [1, 3, 4, 5, 6, 0] rfl⟩ hf kk
    · have hf := z_f c84 hf
      refine lv_iload hx hb dX7_strange_87 (lv_at hl 0 rfl) ?_
      refine lv_iload_n hx hb dX7_strange_89 rfl (lv_at hl 2 rfl) ?_
      refine lv_icmp_ge (tgt := 96) hx hb dX7_strange_90 (by decide) (fun c90 => ?_) (fun c90 => ?_)
      · have hf := z_t c90 hf
        refine z_iinc (fun v => [(5, .int v), (6, .int v78), (0, .ref (G_m Γ 0)), (1, .int s1), (2, .int f2), (3, .int f3), (4, .int f4)]) hx hb hf dX7_strange_96 hl (k := 6) rfl (Nat.le_of_ble_eq_true rfl) (fun _ => rfl) (fun n96 ls hf hl => ?_)
        refine lv_goto (tgt := 44) hx hb dX7_strange_99 (by decide) ?_
        obtain ⟨rfl, rfl⟩ := z_p hf
        exact kk _ _ _ ⟨ls, rfl, lv_sub hl [2, 3, 4, 5, 6, 0] rfl⟩ hG
      · have hf := z_f c90 hf
        exact wm_strange_l44_j93 Γ l f2 f3 f4 s5 v78 p e R s m args below meth c Q A _ _ _ _ _ _ C hG ⟨ls, rfl, lv_sub hl [1, 3, 4, 5, 6, 0] rfl⟩ hf kk
theorem wm_strange_l44 (Γ : zG) (l : Launch) (f2 : Int32) (f3 : Int32) (f4 : Int32) : ∀ s : Int32 × Int32, mRg Γ l yX7_strange cX7_strange 7 (some .int) 4 98 (m_strange_l44 f2 f3 f4 s.1 s.2) (fun m => im_strange_l44 Γ f2 f3 f4 m s) (zLE (im_strange_l44 Γ f2 f3 f4) (em_strange_l44 Γ f2 f3 f4)) := fun s => wm_strange_l44_b Γ l f2 f3 f4 s.1 s.2
set_option maxHeartbeats 4000000 in
theorem wm_strange_l24_b (Γ : zG) (l : Launch) (f2 : Int32) (f3 : Int32) (s1 : Int32) (s4 : Int32) : mRg Γ l yX7_strange cX7_strange 7 (some .int) 4 98 (m_strange_l24 f2 f3 s1 s4) (zAt0 7 24 [(0, .ref (G_m Γ 0)), (1, .int s1), (2, .int f2), (3, .int f3), (4, .int s4)] []) (zLE (im_strange_l24 Γ f2 f3) (em_strange_l24 Γ f2 f3)) := by
  intro p e R s m args below meth c Q A S H locs x S' g C hG hI hf kk
  obtain ⟨ls, rfl, hl⟩ := hI
  obtain ⟨⟨hx, hb, hml, hown, hts⟩, hr, hlk, hK, hR1, hR2⟩ := id C
  have C : zCx Γ p R s m args meth c cX7_strange 7 RX7 (some .int) 4 98 := C
  refine lv_iload hx hb dX7_strange_24 (lv_at hl 4 rfl) ?_
  refine lv_aload_n hx hb dX7_strange_26 rfl (lv_at hl 0 rfl) ?_
  refine zm_ga C hG 0 (Nat.le_of_ble_eq_true rfl) (by decide) q1443 dX7_strange_27 ?_
  refine lv_iload_n hx hb dX7_strange_30 rfl (lv_at hl 2 rfl) ?_
  refine zm_csi (As := [.int f2]) (rest := [.ref (G_m Γ (0 + 1)), .int s4]) C hG hf (ctm_houseAt Γ l f2) (lw_S q1615 q1616 q107 q1617) ytm_houseAt rfl rfl (Nat.le_of_ble_eq_true rfl) (Nat.le_of_ble_eq_true rfl) hl.1 (Nat.le_of_ble_eq_true rfl) dX7_strange_31 (fun v31 S H locs hG hf => ?_)
  refine lv_bipush (v := zi 13) hx hb dX7_strange_34 (by decide +kernel) ?_
  refine lv_iadd hx hb dX7_strange_36 ?_
  refine zm_al C hG 0 hf (Nat.le_of_ble_eq_true rfl) rfl dX7_strange_37 (fun v37 hf => ?_)
  refine lv_icmp_ge (tgt := 108) hx hb dX7_strange_38 (by decide) (fun c38 => ?_) (fun c38 => ?_)
  · have hf := z_t c38 hf
    obtain ⟨rfl, rfl⟩ := z_p hf
    exact kk _ _ _ ⟨ls, rfl, lv_sub hl [0, 1, 2, 3] rfl⟩ hG
  · have hf := z_f c38 hf
    refine lv_iconst (v := zi 0) hx hb dX7_strange_41 rfl ?_
    refine lv_istore (lv' := [(5, .int (zi 0)), (0, .ref (G_m Γ 0)), (1, .int s1), (2, .int f2), (3, .int f3), (4, .int s4)]) hx hb dX7_strange_42 hl (Nat.le_of_ble_eq_true rfl) rfl (fun ls hl => ?_)
    obtain ⟨e44, S, hlp, hf⟩ := nB_some hf
    refine mRg.loop (wm_strange_l44 Γ l f2 f3 s4) (s1, (zi 0)) p e R s m args below meth c Q A _ _ _ _ _ _ C hG ⟨ls, rfl, lv_sub hl [1, 2, 3, 4, 5, 0] rfl⟩ hlp (fun H locs g hL hG => ?_)
    obtain ⟨ls, rfl, hl⟩ := hL
    have hl : lv_has ls 7 [(0, .ref (G_m Γ 0)), (1, .int e44), (2, .int f2), (3, .int f3), (4, .int s4)] := hl
    refine z_iinc (fun v => [(4, .int v), (0, .ref (G_m Γ 0)), (1, .int e44), (2, .int f2), (3, .int f3)]) hx hb hf dX7_strange_102 hl (k := 4) rfl (Nat.le_of_ble_eq_true rfl) (fun _ => rfl) (fun n102 ls hf hl => ?_)
    refine lv_goto (tgt := 24) hx hb dX7_strange_105 (by decide) ?_
    obtain ⟨rfl, rfl⟩ := z_p hf
    exact kk _ _ _ ⟨ls, rfl, lv_sub hl [1, 2, 3, 4, 0] rfl⟩ hG
theorem wm_strange_l24 (Γ : zG) (l : Launch) (f2 : Int32) (f3 : Int32) : ∀ s : Int32 × Int32, mRg Γ l yX7_strange cX7_strange 7 (some .int) 4 98 (m_strange_l24 f2 f3 s.1 s.2) (fun m => im_strange_l24 Γ f2 f3 m s) (zLE (im_strange_l24 Γ f2 f3) (em_strange_l24 Γ f2 f3)) := fun s => wm_strange_l24_b Γ l f2 f3 s.1 s.2
set_option maxHeartbeats 4000000 in
theorem wm_strange_l16_b (Γ : zG) (l : Launch) (f2 : Int32) (s1 : Int32) (s3 : Int32) : mRg Γ l yX7_strange cX7_strange 7 (some .int) 4 98 (m_strange_l16 f2 s1 s3) (zAt0 7 16 [(0, .ref (G_m Γ 0)), (1, .int s1), (2, .int f2), (3, .int s3)] []) (zLE (im_strange_l16 Γ f2) (em_strange_l16 Γ f2)) := by
  intro p e R s m args below meth c Q A S H locs x S' g C hG hI hf kk
  obtain ⟨ls, rfl, hl⟩ := hI
  obtain ⟨⟨hx, hb, hml, hown, hts⟩, hr, hlk, hK, hR1, hR2⟩ := id C
  have C : zCx Γ p R s m args meth c cX7_strange 7 RX7 (some .int) 4 98 := C
  refine lv_iload_n hx hb dX7_strange_16 rfl (lv_at hl 3 rfl) ?_
  refine lv_iload_n hx hb dX7_strange_17 rfl (lv_at hl 2 rfl) ?_
  refine lv_icmp_ge (tgt := 114) hx hb dX7_strange_18 (by decide) (fun c18 => ?_) (fun c18 => ?_)
  · have hf := z_t c18 hf
    obtain ⟨rfl, rfl⟩ := z_p hf
    exact kk _ _ _ ⟨ls, rfl, lv_sub hl [0, 1, 2] rfl⟩ hG
  · have hf := z_f c18 hf
    refine lv_iconst (v := zi 0) hx hb dX7_strange_21 rfl ?_
    refine lv_istore (lv' := [(4, .int (zi 0)), (0, .ref (G_m Γ 0)), (1, .int s1), (2, .int f2), (3, .int s3)]) hx hb dX7_strange_22 hl (Nat.le_of_ble_eq_true rfl) rfl (fun ls hl => ?_)
    obtain ⟨e24, S, hlp, hf⟩ := nB_some hf
    refine mRg.loop (wm_strange_l24 Γ l f2 s3) (s1, (zi 0)) p e R s m args below meth c Q A _ _ _ _ _ _ C hG ⟨ls, rfl, lv_sub hl [1, 2, 3, 4, 0] rfl⟩ hlp (fun H locs g hL hG => ?_)
    obtain ⟨ls, rfl, hl⟩ := hL
    have hl : lv_has ls 7 [(0, .ref (G_m Γ 0)), (1, .int e24), (2, .int f2), (3, .int s3)] := hl
    refine z_iinc (fun v => [(3, .int v), (0, .ref (G_m Γ 0)), (1, .int e24), (2, .int f2)]) hx hb hf dX7_strange_108 hl (k := 3) rfl (Nat.le_of_ble_eq_true rfl) (fun _ => rfl) (fun n108 ls hf hl => ?_)
    refine lv_goto (tgt := 16) hx hb dX7_strange_111 (by decide) ?_
    obtain ⟨rfl, rfl⟩ := z_p hf
    exact kk _ _ _ ⟨ls, rfl, lv_sub hl [1, 2, 3, 0] rfl⟩ hG
theorem wm_strange_l16 (Γ : zG) (l : Launch) (f2 : Int32) : ∀ s : Int32 × Int32, mRg Γ l yX7_strange cX7_strange 7 (some .int) 4 98 (m_strange_l16 f2 s.1 s.2) (fun m => im_strange_l16 Γ f2 m s) (zLE (im_strange_l16 Γ f2) (em_strange_l16 Γ f2)) := fun s => wm_strange_l16_b Γ l f2 s.1 s.2
set_option maxHeartbeats 4000000 in
theorem wm_strange_l4_b (Γ : zG) (l : Launch) (s1 : Int32) (s2 : Int32) : mRg Γ l yX7_strange cX7_strange 7 (some .int) 4 98 (m_strange_l4 s1 s2) (zAt0 7 4 [(0, .ref (G_m Γ 0)), (1, .int s1), (2, .int s2)] []) (zLE (im_strange_l4 Γ) (em_strange_l4 Γ)) := by
  intro p e R s m args below meth c Q A S H locs x S' g C hG hI hf kk
  obtain ⟨ls, rfl, hl⟩ := hI
  obtain ⟨⟨hx, hb, hml, hown, hts⟩, hr, hlk, hK, hR1, hR2⟩ := id C
  have C : zCx Γ p R s m args meth c cX7_strange 7 RX7 (some .int) 4 98 := C
  refine lv_iload_n hx hb dX7_strange_4 rfl (lv_at hl 2 rfl) ?_
  refine lv_aload_n hx hb dX7_strange_5 rfl (lv_at hl 0 rfl) ?_
  refine zm_ga C hG 0 (Nat.le_of_ble_eq_true rfl) (by decide) q1443 dX7_strange_6 ?_
  refine lv_iconst (v := zi 0) hx hb dX7_strange_9 rfl ?_
  refine zm_al C hG 0 hf (Nat.le_of_ble_eq_true rfl) rfl dX7_strange_10 (fun v10 hf => ?_)
  refine lv_icmp_ge (tgt := 120) hx hb dX7_strange_11 (by decide) (fun c11 => ?_) (fun c11 => ?_)
  · have hf := z_t c11 hf
    obtain ⟨rfl, rfl⟩ := z_p hf
    exact kk _ _ _ ⟨ls, rfl, lv_sub hl [0, 1] rfl⟩ hG
  · have hf := z_f c11 hf
    refine lv_iconst (v := zi 0) hx hb dX7_strange_14 rfl ?_
    refine lv_istore_n (lv' := [(3, .int (zi 0)), (0, .ref (G_m Γ 0)), (1, .int s1), (2, .int s2)]) hx hb dX7_strange_15 rfl hl (Nat.le_of_ble_eq_true rfl) rfl (fun ls hl => ?_)
    obtain ⟨e16, S, hlp, hf⟩ := nB_some hf
    refine mRg.loop (wm_strange_l16 Γ l s2) (s1, (zi 0)) p e R s m args below meth c Q A _ _ _ _ _ _ C hG ⟨ls, rfl, lv_sub hl [1, 2, 3, 0] rfl⟩ hlp (fun H locs g hL hG => ?_)
    obtain ⟨ls, rfl, hl⟩ := hL
    have hl : lv_has ls 7 [(0, .ref (G_m Γ 0)), (1, .int e16), (2, .int s2)] := hl
    refine z_iinc (fun v => [(2, .int v), (0, .ref (G_m Γ 0)), (1, .int e16)]) hx hb hf dX7_strange_114 hl (k := 2) rfl (Nat.le_of_ble_eq_true rfl) (fun _ => rfl) (fun n114 ls hf hl => ?_)
    refine lv_goto (tgt := 4) hx hb dX7_strange_117 (by decide) ?_
    obtain ⟨rfl, rfl⟩ := z_p hf
    exact kk _ _ _ ⟨ls, rfl, lv_sub hl [1, 2, 0] rfl⟩ hG
theorem wm_strange_l4 (Γ : zG) (l : Launch) : ∀ s : Int32 × Int32, mRg Γ l yX7_strange cX7_strange 7 (some .int) 4 98 (m_strange_l4 s.1 s.2) (fun m => im_strange_l4 Γ m s) (zLE (im_strange_l4 Γ) (em_strange_l4 Γ)) := fun s => wm_strange_l4_b Γ l s.1 s.2
set_option maxHeartbeats 4000000 in
theorem wm_strange (Γ : zG) (l : Launch) : mRg Γ l yX7_strange cX7_strange 7 (some .int) 4 98 (m_strange) (zAt0 7 0 (lv_args 0 [.ref (G_m Γ 0)]) []) (zLi cX7_strange) := by
  intro p e R s m args below meth c Q A S H locs x S' g C hG hI hf kk
  obtain ⟨ls, rfl, hl⟩ := hI
  obtain ⟨⟨hx, hb, hml, hown, hts⟩, hr, hlk, hK, hR1, hR2⟩ := id C
  have C : zCx Γ p R s m args meth c cX7_strange 7 RX7 (some .int) 4 98 := C
  have hl : lv_has ls 7 [(0, .ref (G_m Γ 0))] := hl
  refine lv_iconst (v := zi (-1)) hx hb dX7_strange_0 rfl ?_
  refine lv_istore_n (lv' := [(1, .int (zi (-1))), (0, .ref (G_m Γ 0))]) hx hb dX7_strange_1 rfl hl (Nat.le_of_ble_eq_true rfl) rfl (fun ls hl => ?_)
  refine lv_iconst (v := zi 0) hx hb dX7_strange_2 rfl ?_
  refine lv_istore_n (lv' := [(2, .int (zi 0)), (1, .int (zi (-1))), (0, .ref (G_m Γ 0))]) hx hb dX7_strange_3 rfl hl (Nat.le_of_ble_eq_true rfl) rfl (fun ls hl => ?_)
  obtain ⟨e4, S, hlp, hf⟩ := nB_some hf
  refine mRg.loop (wm_strange_l4 Γ l) ((zi (-1)), (zi 0)) p e R s m args below meth c Q A _ _ _ _ _ _ C hG ⟨ls, rfl, lv_sub hl [2, 1, 0] rfl⟩ hlp (fun H locs g hL hG => ?_)
  obtain ⟨ls, rfl, hl⟩ := hL
  have hl : lv_has ls 7 [(0, .ref (G_m Γ 0)), (1, .int e4)] := hl
  refine lv_iload_n hx hb dX7_strange_120 rfl (lv_at hl 1 rfl) ?_
  obtain ⟨rfl, rfl⟩ := z_p hf
  exact kk _ _ _ ⟨_, _, rfl, dX7_strange_121⟩ hG
theorem ctm_strange (Γ : zG) (l : Launch) : mCt Γ l yX7_strange (ws_ yX7_strange cX7_strange 7 (some .int)) 4 98 [.ref (G_m Γ 0)] (m_strange) zoi := mCt.mki (by decide +kernel) (Nat.le_of_ble_eq_true rfl) (wm_strange Γ l)
theorem ytm_strange : yX7_strange.cls = RX7 ∧ yX7_strange.cls ≠ "java/lang/invoke/MethodHandle" ∧ yX7_strange.cls ≠ "java/lang/invoke/VarHandle" ∧ (parseMethodDescriptor yX7_strange.desc).map (fun d => d.parameters.length) = some 0 := by decide +kernel
set_option maxHeartbeats 4000000 in
theorem wm_marks (Γ : zG) (l : Launch) (a1 : Int32) (a2 : Int32) (a3 : Int32) : mRg Γ l yX7_marks cX7_marks 4 (some .boolean) 1 22 (m_marks a1 a2 a3) (zAt0 4 0 (lv_args 0 [.ref (G_m Γ 0), .int a1, .int a2, .int a3]) []) (zLz cX7_marks) := by
  intro p e R s m args below meth c Q A S H locs x S' g C hG hI hf kk
  obtain ⟨ls, rfl, hl⟩ := hI
  obtain ⟨⟨hx, hb, hml, hown, hts⟩, hr, hlk, hK, hR1, hR2⟩ := id C
  have C : zCx Γ p R s m args meth c cX7_marks 4 RX7 (some .boolean) 1 22 := C
  have hl : lv_has ls 4 [(0, .ref (G_m Γ 0)), (1, .int a1), (2, .int a2), (3, .int a3)] := hl
  refine lv_iload_n hx hb dX7_marks_0 rfl (lv_at hl 1 rfl) ?_
  refine lv_iconst (v := zi 0) hx hb dX7_marks_1 rfl ?_
  refine lv_bipush (v := zi 60) hx hb dX7_marks_2 (by decide +kernel) ?_
  refine zm_csi (As := [.int a1, .int (zi 0), .int (zi 60)]) (rest := []) C hG hf (ctm_isIn Γ l a1 (zi 0) (zi 60)) (lw_S q1612 q1613 q107 q1614) ytm_isIn rfl rfl (Nat.le_of_ble_eq_true rfl) (Nat.le_of_ble_eq_true rfl) hl.1 (Nat.le_of_ble_eq_true rfl) dX7_marks_4 (fun v4 S H locs hG hf => ?_)
  refine lv_if_eq (tgt := 31) hx hb dX7_marks_7 (by decide) (fun c7 => ?_) (fun c7 => ?_)
  · have hf := z_t c7 hf
    refine lv_iconst (v := zi 0) hx hb dX7_marks_31 rfl ?_
    obtain ⟨rfl, rfl⟩ := z_p hf
    exact kk _ _ _ ⟨_, _, rfl, dX7_marks_32, Or.inl rfl⟩ hG
  · have hf := z_f c7 hf
    refine lv_iload_n hx hb dX7_marks_10 rfl (lv_at hl 2 rfl) ?_
    refine lv_iconst (v := zi 0) hx hb dX7_marks_11 rfl ?_
    refine lv_sipush (v := zi 200) hx hb dX7_marks_12 (by decide +kernel) ?_
    refine zm_csi (As := [.int a2, .int (zi 0), .int (zi 200)]) (rest := []) C hG hf (ctm_isIn Γ l a2 (zi 0) (zi 200)) (lw_S q1612 q1613 q107 q1614) ytm_isIn rfl rfl (Nat.le_of_ble_eq_true rfl) (Nat.le_of_ble_eq_true rfl) hl.1 (Nat.le_of_ble_eq_true rfl) dX7_marks_15 (fun v15 S H locs hG hf => ?_)
    refine lv_if_eq (tgt := 31) hx hb dX7_marks_18 (by decide) (fun c18 => ?_) (fun c18 => ?_)
    · have hf := z_t c18 hf
      refine lv_iconst (v := zi 0) hx hb dX7_marks_31 rfl ?_
      obtain ⟨rfl, rfl⟩ := z_p hf
      exact kk _ _ _ ⟨_, _, rfl, dX7_marks_32, Or.inl rfl⟩ hG
    · have hf := z_f c18 hf
      refine lv_iload_n hx hb dX7_marks_21 rfl (lv_at hl 3 rfl) ?_
      refine lv_iconst (v := zi 0) hx hb dX7_marks_22 rfl ?_
      refine lv_bipush (v := zi 99) hx hb dX7_marks_23 (by decide +kernel) ?_
      refine zm_csi (As := [.int a3, .int (zi 0), .int (zi 99)]) (rest := []) C hG hf (ctm_isIn Γ l a3 (zi 0) (zi 99)) (lw_S q1612 q1613 q107 q1614) ytm_isIn rfl rfl (Nat.le_of_ble_eq_true rfl) (Nat.le_of_ble_eq_true rfl) hl.1 (Nat.le_of_ble_eq_true rfl) dX7_marks_25 (fun v25 S H locs hG hf => ?_)
      refine lv_if_ne (tgt := 33) hx hb dX7_marks_28 (by decide) (fun c28 => ?_) (fun c28 => ?_)
      · have hf := z_f c28 hf
        refine lv_aload_n hx hb dX7_marks_33 rfl (lv_at hl 0 rfl) ?_
        refine zm_ga C hG 0 (Nat.le_of_ble_eq_true rfl) (by decide) q1443 dX7_marks_34 ?_
        refine lv_iconst (v := zi 3) hx hb dX7_marks_37 rfl ?_
        refine lv_iload_n hx hb dX7_marks_38 rfl (lv_at hl 1 rfl) ?_
        refine zm_as C hG 0 hf (Nat.le_of_ble_eq_true rfl) rfl dX7_marks_39 (fun S H locs hG hf => ?_)
        refine lv_aload_n hx hb dX7_marks_40 rfl (lv_at hl 0 rfl) ?_
        refine zm_ga C hG 0 (Nat.le_of_ble_eq_true rfl) (by decide) q1443 dX7_marks_41 ?_
        refine lv_iconst (v := zi 4) hx hb dX7_marks_44 rfl ?_
        refine lv_iload_n hx hb dX7_marks_45 rfl (lv_at hl 2 rfl) ?_
        refine zm_as C hG 0 hf (Nat.le_of_ble_eq_true rfl) rfl dX7_marks_46 (fun S H locs hG hf => ?_)
        refine lv_aload_n hx hb dX7_marks_47 rfl (lv_at hl 0 rfl) ?_
        refine zm_ga C hG 0 (Nat.le_of_ble_eq_true rfl) (by decide) q1443 dX7_marks_48 ?_
        refine lv_iconst (v := zi 5) hx hb dX7_marks_51 rfl ?_
        refine lv_iload_n hx hb dX7_marks_52 rfl (lv_at hl 3 rfl) ?_
        refine zm_as C hG 0 hf (Nat.le_of_ble_eq_true rfl) rfl dX7_marks_53 (fun S H locs hG hf => ?_)
        refine lv_iconst (v := zi 1) hx hb dX7_marks_54 rfl ?_
        obtain ⟨rfl, rfl⟩ := z_p hf
        exact kk _ _ _ ⟨_, _, rfl, dX7_marks_55, Or.inr rfl⟩ hG
      · have hf := z_t c28 hf
        refine lv_iconst (v := zi 0) hx hb dX7_marks_31 rfl ?_
        obtain ⟨rfl, rfl⟩ := z_p hf
        exact kk _ _ _ ⟨_, _, rfl, dX7_marks_32, Or.inl rfl⟩ hG
theorem ctm_marks (Γ : zG) (l : Launch) (a1 : Int32) (a2 : Int32) (a3 : Int32) : mCt Γ l yX7_marks (ws_ yX7_marks cX7_marks 4 (some .boolean)) 1 22 [.ref (G_m Γ 0), .int a1, .int a2, .int a3] (m_marks a1 a2 a3) zoi := mCt.mkz (by decide +kernel) (Nat.le_of_ble_eq_true rfl) (wm_marks Γ l a1 a2 a3)
theorem ytm_marks : yX7_marks.cls = RX7 ∧ yX7_marks.cls ≠ "java/lang/invoke/MethodHandle" ∧ yX7_marks.cls ≠ "java/lang/invoke/VarHandle" ∧ (parseMethodDescriptor yX7_marks.desc).map (fun d => d.parameters.length) = some 3 := by decide +kernel
def im_isNameOf_l30 (Γ : zG) (f1 : Int32) (f2 : Int32) (m : MethodId) (s : Int32 × Int32) (g : JFrame) : Prop := zAt0 5 30 [(0, .ref (G_m Γ 0)), (1, .int f1), (2, .int f2), (3, .int s.1), (4, .int s.2)] [] m g
def em_isNameOf_l30 (Γ : zG) (f1 : Int32) (f2 : Int32) (m : MethodId) (e : Int32) (g : JFrame) : Prop := zAt0 5 87 [(0, .ref (G_m Γ 0)), (3, .int e)] [] m g
set_option maxHeartbeats 4000000 in
theorem wm_isNameOf_l30_j80 (Γ : zG) (l : Launch) (b1 : Int32) (b2 : Int32) (b4 : Int32) (t0 : Int32) : mRg Γ l yX7_isNameOf cX7_isNameOf 5 (some .boolean) 1 20 (m_isNameOf_l30_j80 b1 b2 b4 t0) (zAt0 5 80 [(0, .ref (G_m Γ 0)), (1, .int b1), (2, .int b2), (4, .int b4)] [.int t0]) (zLE (im_isNameOf_l30 Γ b1 b2) (em_isNameOf_l30 Γ b1 b2)) := by
  intro p e R s m args below meth c Q A S H locs x S' g C hG hI hf kk
  obtain ⟨ls, rfl, hl⟩ := hI
  obtain ⟨⟨hx, hb, hml, hown, hts⟩, hr, hlk, hK, hR1, hR2⟩ := id C
  have C : zCx Γ p R s m args meth c cX7_isNameOf 5 RX7 (some .boolean) 1 20 := C
  refine lv_istore_n (lv' := [(3, .int t0), (0, .ref (G_m Γ 0)), (1, .int b1), (2, .int b2), (4, .int b4)]) hx hb dX7_isNameOf_80 rfl hl (Nat.le_of_ble_eq_true rfl) rfl (fun ls hl => ?_)
  refine z_iinc (fun v => [(4, .int v), (3, .int t0), (0, .ref (G_m Γ 0)), (1, .int b1), (2, .int b2)]) hx hb hf dX7_isNameOf_81 hl (k := 4) rfl (Nat.le_of_ble_eq_true rfl) (fun _ => rfl) (fun n81 ls hf hl => ?_)
  refine lv_goto (tgt := 30) hx hb dX7_isNameOf_84 (by decide) ?_
  obtain ⟨rfl, rfl⟩ := z_p hf
  exact kk _ _ _ ⟨ls, rfl, lv_sub hl [2, 3, 4, 1, 0] rfl⟩ hG
set_option maxHeartbeats 4000000 in
theorem wm_isNameOf_l30_j79 (Γ : zG) (l : Launch) (b1 : Int32) (b2 : Int32) (b4 : Int32) : mRg Γ l yX7_isNameOf cX7_isNameOf 5 (some .boolean) 1 20 (m_isNameOf_l30_j79 b1 b2 b4) (zAt0 5 79 [(0, .ref (G_m Γ 0)), (1, .int b1), (2, .int b2), (4, .int b4)] []) (zLE (im_isNameOf_l30 Γ b1 b2) (em_isNameOf_l30 Γ b1 b2)) := by
  intro p e R s m args below meth c Q A S H locs x S' g C hG hI hf kk
  obtain ⟨ls, rfl, hl⟩ := hI
  obtain ⟨⟨hx, hb, hml, hown, hts⟩, hr, hlk, hK, hR1, hR2⟩ := id C
  have C : zCx Γ p R s m args meth c cX7_isNameOf 5 RX7 (some .boolean) 1 20 := C
  refine lv_iconst (v := zi 0) hx hb dX7_isNameOf_79 rfl ?_
  exact wm_isNameOf_l30_j80 Γ l b1 b2 b4 (zi 0) p e R s m args below meth c Q A _ _ _ _ _ _ C hG ⟨ls, rfl, lv_sub hl [0, 1, 2, 3] rfl⟩ hf kk
set_option maxHeartbeats 4000000 in
theorem wm_isNameOf_l30_b (Γ : zG) (l : Launch) (f1 : Int32) (f2 : Int32) (s3 : Int32) (s4 : Int32) : mRg Γ l yX7_isNameOf cX7_isNameOf 5 (some .boolean) 1 20 (m_isNameOf_l30 f1 f2 s3 s4) (zAt0 5 30 [(0, .ref (G_m Γ 0)), (1, .int f1), (2, .int f2), (3, .int s3), (4, .int s4)] []) (zLE (im_isNameOf_l30 Γ f1 f2) (em_isNameOf_l30 Γ f1 f2)) := by
  intro p e R s m args below meth c Q A S H locs x S' g C hG hI hf kk
  obtain ⟨ls, rfl, hl⟩ := hI
  obtain ⟨⟨hx, hb, hml, hown, hts⟩, hr, hlk, hK, hR1, hR2⟩ := id C
  have C : zCx Γ p R s m args meth c cX7_isNameOf 5 RX7 (some .boolean) 1 20 := C
  refine lv_iload hx hb dX7_isNameOf_30 (lv_at hl 4 rfl) ?_
  refine lv_aload_n hx hb dX7_isNameOf_32 rfl (lv_at hl 0 rfl) ?_
  refine zm_ga C hG 0 (Nat.le_of_ble_eq_true rfl) (by decide) q1443 dX7_isNameOf_33 ?_
  refine lv_iload_n hx hb dX7_isNameOf_36 rfl (lv_at hl 2 rfl) ?_
  refine zm_csi (As := [.int f2]) (rest := [.ref (G_m Γ (0 + 1)), .int s4]) C hG hf (ctm_houseAt Γ l f2) (lw_S q1615 q1616 q107 q1617) ytm_houseAt rfl rfl (Nat.le_of_ble_eq_true rfl) (Nat.le_of_ble_eq_true rfl) hl.1 (Nat.le_of_ble_eq_true rfl) dX7_isNameOf_37 (fun v37 S H locs hG hf => ?_)
  refine zm_al C hG 0 hf (Nat.le_of_ble_eq_true rfl) rfl dX7_isNameOf_40 (fun v40 hf => ?_)
  refine lv_icmp_gt (tgt := 87) hx hb dX7_isNameOf_41 (by decide) (fun c41 => ?_) (fun c41 => ?_)
  · have hf := z_t c41 hf
    obtain ⟨rfl, rfl⟩ := z_p hf
    exact kk _ _ _ ⟨ls, rfl, lv_sub hl [0, 3] rfl⟩ hG
  · have hf := z_f c41 hf
    refine lv_iload_n hx hb dX7_isNameOf_44 rfl (lv_at hl 3 rfl) ?_
    refine lv_if_eq (tgt := 79) hx hb dX7_isNameOf_45 (by decide) (fun c45 => ?_) (fun c45 => ?_)
    · have hf := z_t c45 hf
      exact wm_isNameOf_l30_j79 Γ l f1 f2 s4 p e R s m args below meth c Q A _ _ _ _ _ _ C hG ⟨ls, rfl, lv_sub hl [0, 1, 2, 4] rfl⟩ hf kk
    · have hf := z_f c45 hf
      refine lv_aload_n hx hb dX7_isNameOf_48 rfl (lv_at hl 0 rfl) ?_
      refine zm_ga C hG 0 (Nat.le_of_ble_eq_true rfl) (by decide) q1443 dX7_isNameOf_49 ?_
      refine lv_iload_n hx hb dX7_isNameOf_52 rfl (lv_at hl 1 rfl) ?_
      refine zm_csi (As := [.int f1]) (rest := [.ref (G_m Γ (0 + 1))]) C hG hf (ctm_pageAt Γ l f1) (lw_S q1683 q1684 q107 q1685) ytm_pageAt rfl rfl (Nat.le_of_ble_eq_true rfl) (Nat.le_of_ble_eq_true rfl) hl.1 (Nat.le_of_ble_eq_true rfl) dX7_isNameOf_53 (fun v53 S H locs hG hf => ?_)
      refine lv_iload hx hb dX7_isNameOf_56 (lv_at hl 4 rfl) ?_
      refine lv_iadd hx hb dX7_isNameOf_58 ?_
      refine zm_al C hG 0 hf (Nat.le_of_ble_eq_true rfl) rfl dX7_isNameOf_59 (fun v59 hf => ?_)
      refine lv_aload_n hx hb dX7_isNameOf_60 rfl (lv_at hl 0 rfl) ?_
      refine zm_ga C hG 0 (Nat.le_of_ble_eq_true rfl) (by decide) q1443 dX7_isNameOf_61 ?_
      refine lv_iload_n hx hb dX7_isNameOf_64 rfl (lv_at hl 2 rfl) ?_
      refine zm_csi (As := [.int f2]) (rest := [.ref (G_m Γ (0 + 1)), .int v59]) C hG hf (ctm_houseAt Γ l f2) (lw_S q1615 q1616 q107 q1617) ytm_houseAt rfl rfl (Nat.le_of_ble_eq_true rfl) (Nat.le_of_ble_eq_true rfl) hl.1 (Nat.le_of_ble_eq_true rfl) dX7_isNameOf_65 (fun v65 S H locs hG hf => ?_)
      refine lv_iload hx hb dX7_isNameOf_68 (lv_at hl 4 rfl) ?_
      refine lv_iadd hx hb dX7_isNameOf_70 ?_
      refine zm_al C hG 0 hf (Nat.le_of_ble_eq_true rfl) rfl dX7_isNameOf_71 (fun v71 hf => ?_)
      refine lv_icmp_ne (tgt := 79) hx hb dX7_isNameOf_72 (by decide) (fun c72 => ?_) (fun c72 => ?_)
      · have hf := z_f c72 hf
        exact wm_isNameOf_l30_j79 Γ l f1 f2 s4 p e R s m args below meth c Q A _ _ _ _ _ _ C hG ⟨ls, rfl, lv_sub hl [0, 1, 2, 4] rfl⟩ hf kk
      · have hf := z_t c72 hf
        refine lv_iconst (v := zi 1) hx hb dX7_isNameOf_75 rfl ?_
        refine lv_goto (tgt := 80) hx hb dX7_isNameOf_76 (by decide) ?_
        exact wm_isNameOf_l30_j80 Γ l f1 f2 s4 (zi 1) p e R s m args below meth c Q A _ _ _ _ _ _ C hG ⟨ls, rfl, lv_sub hl [0, 1, 2, 4] rfl⟩ hf kk
theorem wm_isNameOf_l30 (Γ : zG) (l : Launch) (f1 : Int32) (f2 : Int32) : ∀ s : Int32 × Int32, mRg Γ l yX7_isNameOf cX7_isNameOf 5 (some .boolean) 1 20 (m_isNameOf_l30 f1 f2 s.1 s.2) (fun m => im_isNameOf_l30 Γ f1 f2 m s) (zLE (im_isNameOf_l30 Γ f1 f2) (em_isNameOf_l30 Γ f1 f2)) := fun s => wm_isNameOf_l30_b Γ l f1 f2 s.1 s.2
set_option maxHeartbeats 4000000 in
theorem wm_isNameOf_j26 (Γ : zG) (l : Launch) (b1 : Int32) (b2 : Int32) (t0 : Int32) : mRg Γ l yX7_isNameOf cX7_isNameOf 5 (some .boolean) 1 20 (m_isNameOf_j26 b1 b2 t0) (zAt0 5 26 [(0, .ref (G_m Γ 0)), (1, .int b1), (2, .int b2)] [.int t0]) (zLz cX7_isNameOf) := by
  intro p e R s m args below meth c Q A S H locs x S' g C hG hI hf kk
  obtain ⟨ls, rfl, hl⟩ := hI
  obtain ⟨⟨hx, hb, hml, hown, hts⟩, hr, hlk, hK, hR1, hR2⟩ := id C
  have C : zCx Γ p R s m args meth c cX7_isNameOf 5 RX7 (some .boolean) 1 20 := C
  refine lv_istore_n (lv' := [(3, .int t0), (0, .ref (G_m Γ 0)), (1, .int b1), (2, .int b2)]) hx hb dX7_isNameOf_26 rfl hl (Nat.le_of_ble_eq_true rfl) rfl (fun ls hl => ?_)
  refine lv_iconst (v := zi 1) hx hb dX7_isNameOf_27 rfl ?_
  refine lv_istore (lv' := [(4, .int (zi 1)), (3, .int t0), (0, .ref (G_m Γ 0)), (1, .int b1), (2, .int b2)]) hx hb dX7_isNameOf_28 hl (Nat.le_of_ble_eq_true rfl) rfl (fun ls hl => ?_)
  obtain ⟨e30, S, hlp, hf⟩ := nB_some hf
  refine mRg.loop (wm_isNameOf_l30 Γ l b1 b2) (t0, (zi 1)) p e R s m args below meth c Q A _ _ _ _ _ _ C hG ⟨ls, rfl, lv_sub hl [2, 3, 4, 1, 0] rfl⟩ hlp (fun H locs g hL hG => ?_)
  obtain ⟨ls, rfl, hl⟩ := hL
  have hl : lv_has ls 5 [(0, .ref (G_m Γ 0)), (3, .int e30)] := hl
  refine lv_iload_n hx hb dX7_isNameOf_87 rfl (lv_at hl 1 rfl) ?_
  obtain ⟨hz, hf⟩ := z_c hf
  obtain ⟨rfl, rfl⟩ := z_p hf
  exact kk _ _ _ ⟨_, _, rfl, dX7_isNameOf_88, hz⟩ hG
set_option maxHeartbeats 4000000 in
theorem wm_isNameOf (Γ : zG) (l : Launch) (a1 : Int32) (a2 : Int32) : mRg Γ l yX7_isNameOf cX7_isNameOf 5 (some .boolean) 1 20 (m_isNameOf a1 a2) (zAt0 5 0 (lv_args 0 [.ref (G_m Γ 0), .int a1, .int a2]) []) (zLz cX7_isNameOf) := by
  intro p e R s m args below meth c Q A S H locs x S' g C hG hI hf kk
  obtain ⟨ls, rfl, hl⟩ := hI
  obtain ⟨⟨hx, hb, hml, hown, hts⟩, hr, hlk, hK, hR1, hR2⟩ := id C
  have C : zCx Γ p R s m args meth c cX7_isNameOf 5 RX7 (some .boolean) 1 20 := C
  have hl : lv_has ls 5 [(0, .ref (G_m Γ 0)), (1, .int a1), (2, .int a2)] := hl
  refine lv_aload_n hx hb dX7_isNameOf_0 rfl (lv_at hl 0 rfl) ?_
  refine zm_ga C hG 0 (Nat.le_of_ble_eq_true rfl) (by decide) q1443 dX7_isNameOf_1 ?_
  refine lv_iload_n hx hb dX7_isNameOf_4 rfl (lv_at hl 1 rfl) ?_
  refine zm_csi (As := [.int a1]) (rest := [.ref (G_m Γ (0 + 1))]) C hG hf (ctm_pageAt Γ l a1) (lw_S q1683 q1684 q107 q1685) ytm_pageAt rfl rfl (Nat.le_of_ble_eq_true rfl) (Nat.le_of_ble_eq_true rfl) hl.1 (Nat.le_of_ble_eq_true rfl) dX7_isNameOf_5 (fun v5 S H locs hG hf => ?_)
  refine zm_al C hG 0 hf (Nat.le_of_ble_eq_true rfl) rfl dX7_isNameOf_8 (fun v8 hf => ?_)
  refine lv_aload_n hx hb dX7_isNameOf_9 rfl (lv_at hl 0 rfl) ?_
  refine zm_ga C hG 0 (Nat.le_of_ble_eq_true rfl) (by decide) q1443 dX7_isNameOf_10 ?_
  refine lv_iload_n hx hb dX7_isNameOf_13 rfl (lv_at hl 2 rfl) ?_
  refine zm_csi (As := [.int a2]) (rest := [.ref (G_m Γ (0 + 1)), .int v8]) C hG hf (ctm_houseAt Γ l a2) (lw_S q1615 q1616 q107 q1617) ytm_houseAt rfl rfl (Nat.le_of_ble_eq_true rfl) (Nat.le_of_ble_eq_true rfl) hl.1 (Nat.le_of_ble_eq_true rfl) dX7_isNameOf_14 (fun v14 S H locs hG hf => ?_)
  refine zm_al C hG 0 hf (Nat.le_of_ble_eq_true rfl) rfl dX7_isNameOf_17 (fun v17 hf => ?_)
  refine lv_icmp_ne (tgt := 25) hx hb dX7_isNameOf_18 (by decide) (fun c18 => ?_) (fun c18 => ?_)
  · have hf := z_f c18 hf
    refine lv_iconst (v := zi 0) hx hb dX7_isNameOf_25 rfl ?_
    exact wm_isNameOf_j26 Γ l a1 a2 (zi 0) p e R s m args below meth c Q A _ _ _ _ _ _ C hG ⟨ls, rfl, lv_sub hl [0, 1, 2] rfl⟩ hf kk
  · have hf := z_t c18 hf
    refine lv_iconst (v := zi 1) hx hb dX7_isNameOf_21 rfl ?_
    refine lv_goto (tgt := 26) hx hb dX7_isNameOf_22 (by decide) ?_
    exact wm_isNameOf_j26 Γ l a1 a2 (zi 1) p e R s m args below meth c Q A _ _ _ _ _ _ C hG ⟨ls, rfl, lv_sub hl [0, 1, 2] rfl⟩ hf kk
theorem ctm_isNameOf (Γ : zG) (l : Launch) (a1 : Int32) (a2 : Int32) : mCt Γ l yX7_isNameOf (ws_ yX7_isNameOf cX7_isNameOf 5 (some .boolean)) 1 20 [.ref (G_m Γ 0), .int a1, .int a2] (m_isNameOf a1 a2) zoi := mCt.mkz (by decide +kernel) (Nat.le_of_ble_eq_true rfl) (wm_isNameOf Γ l a1 a2)
theorem ytm_isNameOf : yX7_isNameOf.cls = RX7 ∧ yX7_isNameOf.cls ≠ "java/lang/invoke/MethodHandle" ∧ yX7_isNameOf.cls ≠ "java/lang/invoke/VarHandle" ∧ (parseMethodDescriptor yX7_isNameOf.desc).map (fun d => d.parameters.length) = some 2 := by decide +kernel
set_option maxHeartbeats 4000000 in
theorem wm_judges_j51 (Γ : zG) (l : Launch) (t0 : Int32) : mRg Γ l yX7_judges cX7_judges 4 none 5 122 (m_judges_j51 t0) (zAt0 4 51 [(0, .ref (G_m Γ 0))] [.int t0, .ref (G_m Γ 0)]) (zLv cX7_judges) := by
  intro p e R s m args below meth c Q A S H locs x S' g C hG hI hf kk
  obtain ⟨ls, rfl, hl⟩ := hI
  obtain ⟨⟨hx, hb, hml, hown, hts⟩, hr, hlk, hK, hR1, hR2⟩ := id C
  have C : zCx Γ p R s m args meth c cX7_judges 4 RX7 none 5 122 := C
  refine zm_pz C hG 34 hf (Nat.le_of_ble_eq_true rfl) rfl rfl (by decide +kernel) q1477 dX7_judges_51 (fun S H locs hG hf => ?_)
  obtain ⟨rfl, rfl⟩ := z_p hf
  exact kk _ _ _ ⟨_, _, rfl, dX7_judges_54⟩ hG
set_option maxHeartbeats 4000000 in
theorem wm_judges_j50 (Γ : zG) (l : Launch) : mRg Γ l yX7_judges cX7_judges 4 none 5 122 (m_judges_j50) (zAt0 4 50 [(0, .ref (G_m Γ 0))] [.ref (G_m Γ 0)]) (zLv cX7_judges) := by
  intro p e R s m args below meth c Q A S H locs x S' g C hG hI hf kk
  obtain ⟨ls, rfl, hl⟩ := hI
  obtain ⟨⟨hx, hb, hml, hown, hts⟩, hr, hlk, hK, hR1, hR2⟩ := id C
  have C : zCx Γ p R s m args meth c cX7_judges 4 RX7 none 5 122 := C
  refine lv_iconst (v := zi 0) hx hb dX7_judges_50 rfl ?_
  exact wm_judges_j51 Γ l (zi 0) p e R s m args below meth c Q A _ _ _ _ _ _ C hG ⟨ls, rfl, lv_sub hl [0] rfl⟩ hf kk
set_option maxHeartbeats 4000000 in
theorem wm_judges (Γ : zG) (l : Launch) (a1 : Int32) (a2 : Int32) (a3 : Int32) : mRg Γ l yX7_judges cX7_judges 4 none 5 122 (m_judges a1 a2 a3) (zAt0 4 0 (lv_args 0 [.ref (G_m Γ 0), .int a1, .int a2, .int a3]) []) (zLv cX7_judges) := by
  intro p e R s m args below meth c Q A S H locs x S' g C hG hI hf kk
  obtain ⟨ls, rfl, hl⟩ := hI
  obtain ⟨⟨hx, hb, hml, hown, hts⟩, hr, hlk, hK, hR1, hR2⟩ := id C
  have C : zCx Γ p R s m args meth c cX7_judges 4 RX7 none 5 122 := C
  have hl : lv_has ls 4 [(0, .ref (G_m Γ 0)), (1, .int a1), (2, .int a2), (3, .int a3)] := hl
  refine lv_aload_n hx hb dX7_judges_0 rfl (lv_at hl 0 rfl) ?_
  refine lv_aload_n hx hb dX7_judges_1 rfl (lv_at hl 0 rfl) ?_
  refine zm_gf C hG 27 hf (Nat.le_of_ble_eq_true rfl) rfl q1470 dX7_judges_2 (fun v2 hf => ?_)
  refine zm_pf C hG 33 hf (Nat.le_of_ble_eq_true rfl) rfl rfl (by decide +kernel) q1476 dX7_judges_5 (fun S H locs hG hf => ?_)
  refine lv_aload_n hx hb dX7_judges_8 rfl (lv_at hl 0 rfl) ?_
  refine lv_aload_n hx hb dX7_judges_9 rfl (lv_at hl 0 rfl) ?_
  refine lv_iload_n hx hb dX7_judges_10 rfl (lv_at hl 2 rfl) ?_
  refine lv_iload_n hx hb dX7_judges_11 rfl (lv_at hl 3 rfl) ?_
  refine zm_cvi (As := [.int a2, .int a3]) (rest := [.ref (G_m Γ 0)]) C hG hf (ctm_likeNow Γ l a2 a3) (lw_V q1811 q1813 qs69 q107 q1814) ytm_likeNow rfl rfl (Nat.le_of_ble_eq_true rfl) (Nat.le_of_ble_eq_true rfl) hl.1 (Nat.le_of_ble_eq_true rfl) dX7_judges_12 (fun v12 S H locs hG hf => ?_)
  refine zm_pf C hG 31 hf (Nat.le_of_ble_eq_true rfl) rfl rfl (by decide +kernel) q1474 dX7_judges_15 (fun S H locs hG hf => ?_)
  refine lv_aload_n hx hb dX7_judges_18 rfl (lv_at hl 0 rfl) ?_
  refine lv_aload_n hx hb dX7_judges_19 rfl (lv_at hl 0 rfl) ?_
  refine zm_gf C hG 30 hf (Nat.le_of_ble_eq_true rfl) rfl q1473 dX7_judges_20 (fun v20 hf => ?_)
  refine zm_pf C hG 32 hf (Nat.le_of_ble_eq_true rfl) rfl rfl (by decide +kernel) q1475 dX7_judges_23 (fun S H locs hG hf => ?_)
  refine lv_aload_n hx hb dX7_judges_26 rfl (lv_at hl 0 rfl) ?_
  refine lv_aload_n hx hb dX7_judges_27 rfl (lv_at hl 0 rfl) ?_
  refine zm_gf C hG 31 hf (Nat.le_of_ble_eq_true rfl) rfl q1474 dX7_judges_28 (fun v28 hf => ?_)
  refine lv_if_lt (tgt := 50) hx hb dX7_judges_31 (by decide) (fun c31 => ?_) (fun c31 => ?_)
  · have hf := z_t c31 hf
    exact wm_judges_j50 Γ l p e R s m args below meth c Q A _ _ _ _ _ _ C hG ⟨ls, rfl, lv_sub hl [0] rfl⟩ hf kk
  · have hf := z_f c31 hf
    refine lv_aload_n hx hb dX7_judges_34 rfl (lv_at hl 0 rfl) ?_
    refine lv_iload_n hx hb dX7_judges_35 rfl (lv_at hl 1 rfl) ?_
    refine lv_aload_n hx hb dX7_judges_36 rfl (lv_at hl 0 rfl) ?_
    refine zm_gf C hG 31 hf (Nat.le_of_ble_eq_true rfl) rfl q1474 dX7_judges_37 (fun v37 hf => ?_)
    refine zm_cvi (As := [.int a1, .int v37]) (rest := [.ref (G_m Γ 0)]) C hG hf (ctm_isNameOf Γ l a1 v37) (lw_V q1839 q1841 qs72 q107 q1842) ytm_isNameOf rfl rfl (Nat.le_of_ble_eq_true rfl) (Nat.le_of_ble_eq_true rfl) hl.1 (Nat.le_of_ble_eq_true rfl) dX7_judges_40 (fun v40 S H locs hG hf => ?_)
    refine lv_if_ne (tgt := 50) hx hb dX7_judges_43 (by decide) (fun c43 => ?_) (fun c43 => ?_)
    · have hf := z_f c43 hf
      exact wm_judges_j50 Γ l p e R s m args below meth c Q A _ _ _ _ _ _ C hG ⟨ls, rfl, lv_sub hl [0] rfl⟩ hf kk
    · have hf := z_t c43 hf
      refine lv_iconst (v := zi 1) hx hb dX7_judges_46 rfl ?_
      refine lv_goto (tgt := 51) hx hb dX7_judges_47 (by decide) ?_
      exact wm_judges_j51 Γ l (zi 1) p e R s m args below meth c Q A _ _ _ _ _ _ C hG ⟨ls, rfl, lv_sub hl [0] rfl⟩ hf kk
theorem ctm_judges (Γ : zG) (l : Launch) (a1 : Int32) (a2 : Int32) (a3 : Int32) : mCt Γ l yX7_judges (ws_ yX7_judges cX7_judges 4 none) 5 122 [.ref (G_m Γ 0), .int a1, .int a2, .int a3] (m_judges a1 a2 a3) zov := mCt.mkv (by decide +kernel) (Nat.le_of_ble_eq_true rfl) (wm_judges Γ l a1 a2 a3)
theorem ytm_judges : yX7_judges.cls = RX7 ∧ yX7_judges.cls ≠ "java/lang/invoke/MethodHandle" ∧ yX7_judges.cls ≠ "java/lang/invoke/VarHandle" ∧ (parseMethodDescriptor yX7_judges.desc).map (fun d => d.parameters.length) = some 3 := by decide +kernel
set_option maxHeartbeats 4000000 in
theorem wm_ageOf (Γ : zG) (l : Launch) (a1 : Int32) (a2 : Int32) : mRg Γ l yX7_ageOf cX7_ageOf 3 (some .int) 1 20 (m_ageOf a1 a2) (zAt0 3 0 (lv_args 0 [.ref (G_m Γ 0), .int a1, .int a2]) []) (zLi cX7_ageOf) := by
  intro p e R s m args below meth c Q A S H locs x S' g C hG hI hf kk
  obtain ⟨ls, rfl, hl⟩ := hI
  obtain ⟨⟨hx, hb, hml, hown, hts⟩, hr, hlk, hK, hR1, hR2⟩ := id C
  have C : zCx Γ p R s m args meth c cX7_ageOf 3 RX7 (some .int) 1 20 := C
  have hl : lv_has ls 3 [(0, .ref (G_m Γ 0)), (1, .int a1), (2, .int a2)] := hl
  refine lv_iload_n hx hb dX7_ageOf_0 rfl (lv_at hl 2 rfl) ?_
  refine lv_aload_n hx hb dX7_ageOf_1 rfl (lv_at hl 0 rfl) ?_
  refine zm_ga C hG 0 (Nat.le_of_ble_eq_true rfl) (by decide) q1443 dX7_ageOf_2 ?_
  refine lv_iload_n hx hb dX7_ageOf_5 rfl (lv_at hl 1 rfl) ?_
  refine zm_csi (As := [.int a1]) (rest := [.ref (G_m Γ (0 + 1)), .int a2]) C hG hf (ctm_pageAt Γ l a1) (lw_S q1683 q1684 q107 q1685) ytm_pageAt rfl rfl (Nat.le_of_ble_eq_true rfl) (Nat.le_of_ble_eq_true rfl) hl.1 (Nat.le_of_ble_eq_true rfl) dX7_ageOf_6 (fun v6 S H locs hG hf => ?_)
  refine lv_bipush (v := zi 13) hx hb dX7_ageOf_9 (by decide +kernel) ?_
  refine lv_iadd hx hb dX7_ageOf_11 ?_
  refine zm_al C hG 0 hf (Nat.le_of_ble_eq_true rfl) rfl dX7_ageOf_12 (fun v12 hf => ?_)
  refine lv_icmp_ge (tgt := 20) hx hb dX7_ageOf_13 (by decide) (fun c13 => ?_) (fun c13 => ?_)
  · have hf := z_t c13 hf
    refine lv_iload_n hx hb dX7_ageOf_20 rfl (lv_at hl 2 rfl) ?_
    refine lv_aload_n hx hb dX7_ageOf_21 rfl (lv_at hl 0 rfl) ?_
    refine zm_ga C hG 0 (Nat.le_of_ble_eq_true rfl) (by decide) q1443 dX7_ageOf_22 ?_
    refine lv_iload_n hx hb dX7_ageOf_25 rfl (lv_at hl 1 rfl) ?_
    refine zm_csi (As := [.int a1]) (rest := [.ref (G_m Γ (0 + 1)), .int a2]) C hG hf (ctm_pageAt Γ l a1) (lw_S q1683 q1684 q107 q1685) ytm_pageAt rfl rfl (Nat.le_of_ble_eq_true rfl) (Nat.le_of_ble_eq_true rfl) hl.1 (Nat.le_of_ble_eq_true rfl) dX7_ageOf_26 (fun v26 S H locs hG hf => ?_)
    refine lv_bipush (v := zi 13) hx hb dX7_ageOf_29 (by decide +kernel) ?_
    refine lv_iadd hx hb dX7_ageOf_31 ?_
    refine zm_al C hG 0 hf (Nat.le_of_ble_eq_true rfl) rfl dX7_ageOf_32 (fun v32 hf => ?_)
    refine lv_isub hx hb dX7_ageOf_33 ?_
    obtain ⟨rfl, rfl⟩ := z_p hf
    exact kk _ _ _ ⟨_, _, rfl, dX7_ageOf_34⟩ hG
  · have hf := z_f c13 hf
    refine lv_iconst (v := zi 0) hx hb dX7_ageOf_16 rfl ?_
    refine lv_goto (tgt := 34) hx hb dX7_ageOf_17 (by decide) ?_
    obtain ⟨rfl, rfl⟩ := z_p hf
    exact kk _ _ _ ⟨_, _, rfl, dX7_ageOf_34⟩ hG
theorem ctm_ageOf (Γ : zG) (l : Launch) (a1 : Int32) (a2 : Int32) : mCt Γ l yX7_ageOf (ws_ yX7_ageOf cX7_ageOf 3 (some .int)) 1 20 [.ref (G_m Γ 0), .int a1, .int a2] (m_ageOf a1 a2) zoi := mCt.mki (by decide +kernel) (Nat.le_of_ble_eq_true rfl) (wm_ageOf Γ l a1 a2)
theorem ytm_ageOf : yX7_ageOf.cls = RX7 ∧ yX7_ageOf.cls ≠ "java/lang/invoke/MethodHandle" ∧ yX7_ageOf.cls ≠ "java/lang/invoke/VarHandle" ∧ (parseMethodDescriptor yX7_ageOf.desc).map (fun d => d.parameters.length) = some 2 := by decide +kernel
set_option maxHeartbeats 4000000 in
theorem wm_signsBy_j43 (Γ : zG) (l : Launch) (b1 : Int32) (b2 : Int32) : mRg Γ l yX7_signsBy cX7_signsBy 3 (some .int) 0 0 (m_signsBy_j43 b1 b2) (zAt0 3 43 [(0, .ref (G_m Γ 0)), (1, .int b1), (2, .int b2)] []) (zLi cX7_signsBy) := by
  intro p e R s m args below meth c Q A S H locs x S' g C hG hI hf kk
  obtain ⟨ls, rfl, hl⟩ := hI
  obtain ⟨⟨hx, hb, hml, hown, hts⟩, hr, hlk, hK, hR1, hR2⟩ := id C
  have C : zCx Γ p R s m args meth c cX7_signsBy 3 RX7 (some .int) 0 0 := C
  refine lv_aload_n hx hb dX7_signsBy_43 rfl (lv_at hl 0 rfl) ?_
  refine zm_gf C hG 34 hf (Nat.le_of_ble_eq_true rfl) rfl q1477 dX7_signsBy_44 (fun v44 hf => ?_)
  refine lv_if_eq (tgt := 64) hx hb dX7_signsBy_47 (by decide) (fun c47 => ?_) (fun c47 => ?_)
  · have hf := z_t c47 hf
    refine lv_iload_n hx hb dX7_signsBy_64 rfl (lv_at hl 2 rfl) ?_
    obtain ⟨rfl, rfl⟩ := z_p hf
    exact kk _ _ _ ⟨_, _, rfl, dX7_signsBy_65⟩ hG
  · have hf := z_f c47 hf
    refine lv_iload_n hx hb dX7_signsBy_50 rfl (lv_at hl 1 rfl) ?_
    refine lv_aload_n hx hb dX7_signsBy_51 rfl (lv_at hl 0 rfl) ?_
    refine zm_ga C hG 0 (Nat.le_of_ble_eq_true rfl) (by decide) q1443 dX7_signsBy_52 ?_
    refine lv_iconst (v := zi 5) hx hb dX7_signsBy_55 rfl ?_
    refine zm_al C hG 0 hf (Nat.le_of_ble_eq_true rfl) rfl dX7_signsBy_56 (fun v56 hf => ?_)
    refine lv_icmp_gt (tgt := 64) hx hb dX7_signsBy_57 (by decide) (fun c57 => ?_) (fun c57 => ?_)
    · have hf := z_t c57 hf
      refine lv_iload_n hx hb dX7_signsBy_64 rfl (lv_at hl 2 rfl) ?_
      obtain ⟨rfl, rfl⟩ := z_p hf
      exact kk _ _ _ ⟨_, _, rfl, dX7_signsBy_65⟩ hG
    · have hf := z_f c57 hf
      refine lv_iload_n hx hb dX7_signsBy_60 rfl (lv_at hl 2 rfl) ?_
      refine lv_iconst (v := zi 4) hx hb dX7_signsBy_61 rfl ?_
      refine lv_ior hx hb dX7_signsBy_62 ?_
      refine z_top hf (fun n63 hf => ?_)
      refine lv_istore_n (lv' := [(2, .int n63), (0, .ref (G_m Γ 0)), (1, .int b1)]) hx hb dX7_signsBy_63 rfl hl (Nat.le_of_ble_eq_true rfl) rfl (fun ls hl => ?_)
      refine lv_iload_n hx hb dX7_signsBy_64 rfl (lv_at hl 0 rfl) ?_
      obtain ⟨rfl, rfl⟩ := z_p hf
      exact kk _ _ _ ⟨_, _, rfl, dX7_signsBy_65⟩ hG
set_option maxHeartbeats 4000000 in
theorem wm_signsBy_j25 (Γ : zG) (l : Launch) (b1 : Int32) (t0 : Int32) : mRg Γ l yX7_signsBy cX7_signsBy 3 (some .int) 0 0 (m_signsBy_j25 b1 t0) (zAt0 3 25 [(0, .ref (G_m Γ 0)), (1, .int b1)] [.int t0]) (zLi cX7_signsBy) := by
  intro p e R s m args below meth c Q A S H locs x S' g C hG hI hf kk
  obtain ⟨ls, rfl, hl⟩ := hI
  obtain ⟨⟨hx, hb, hml, hown, hts⟩, hr, hlk, hK, hR1, hR2⟩ := id C
  have C : zCx Γ p R s m args meth c cX7_signsBy 3 RX7 (some .int) 0 0 := C
  refine lv_istore_n (lv' := [(2, .int t0), (0, .ref (G_m Γ 0)), (1, .int b1)]) hx hb dX7_signsBy_25 rfl hl (Nat.le_of_ble_eq_true rfl) rfl (fun ls hl => ?_)
  refine lv_aload_n hx hb dX7_signsBy_26 rfl (lv_at hl 1 rfl) ?_
  refine zm_gf C hG 33 hf (Nat.le_of_ble_eq_true rfl) rfl q1476 dX7_signsBy_27 (fun v27 hf => ?_)
  refine lv_aload_n hx hb dX7_signsBy_30 rfl (lv_at hl 1 rfl) ?_
  refine zm_ga C hG 0 (Nat.le_of_ble_eq_true rfl) (by decide) q1443 dX7_signsBy_31 ?_
  refine lv_iconst (v := zi 4) hx hb dX7_signsBy_34 rfl ?_
  refine zm_al C hG 0 hf (Nat.le_of_ble_eq_true rfl) rfl dX7_signsBy_35 (fun v35 hf => ?_)
  refine lv_icmp_lt (tgt := 43) hx hb dX7_signsBy_36 (by decide) (fun c36 => ?_) (fun c36 => ?_)
  · have hf := z_t c36 hf
    exact wm_signsBy_j43 Γ l b1 t0 p e R s m args below meth c Q A _ _ _ _ _ _ C hG ⟨ls, rfl, lv_sub hl [1, 2, 0] rfl⟩ hf kk
  · have hf := z_f c36 hf
    refine lv_iload_n hx hb dX7_signsBy_39 rfl (lv_at hl 0 rfl) ?_
    refine lv_iconst (v := zi 2) hx hb dX7_signsBy_40 rfl ?_
    refine lv_ior hx hb dX7_signsBy_41 ?_
    refine z_top hf (fun n42 hf => ?_)
    refine lv_istore_n (lv' := [(2, .int n42), (0, .ref (G_m Γ 0)), (1, .int b1)]) hx hb dX7_signsBy_42 rfl hl (Nat.le_of_ble_eq_true rfl) rfl (fun ls hl => ?_)
    exact wm_signsBy_j43 Γ l b1 n42 p e R s m args below meth c Q A _ _ _ _ _ _ C hG ⟨ls, rfl, lv_sub hl [1, 2, 0] rfl⟩ hf kk
set_option maxHeartbeats 4000000 in
theorem wm_signsBy_j24 (Γ : zG) (l : Launch) (b1 : Int32) : mRg Γ l yX7_signsBy cX7_signsBy 3 (some .int) 0 0 (m_signsBy_j24 b1) (zAt0 3 24 [(0, .ref (G_m Γ 0)), (1, .int b1)] []) (zLi cX7_signsBy) := by
  intro p e R s m args below meth c Q A S H locs x S' g C hG hI hf kk
  obtain ⟨ls, rfl, hl⟩ := hI
  obtain ⟨⟨hx, hb, hml, hown, hts⟩, hr, hlk, hK, hR1, hR2⟩ := id C
  have C : zCx Γ p R s m args meth c cX7_signsBy 3 RX7 (some .int) 0 0 := C
  refine lv_iconst (v := zi 0) hx hb dX7_signsBy_24 rfl ?_
  exact wm_signsBy_j25 Γ l b1 (zi 0) p e R s m args below meth c Q A _ _ _ _ _ _ C hG ⟨ls, rfl, lv_sub hl [0, 1] rfl⟩ hf kk
set_option maxHeartbeats 4000000 in
theorem wm_signsBy (Γ : zG) (l : Launch) (a1 : Int32) : mRg Γ l yX7_signsBy cX7_signsBy 3 (some .int) 0 0 (m_signsBy a1) (zAt0 3 0 (lv_args 0 [.ref (G_m Γ 0), .int a1]) []) (zLi cX7_signsBy) := by
  intro p e R s m args below meth c Q A S H locs x S' g C hG hI hf kk
  obtain ⟨ls, rfl, hl⟩ := hI
  obtain ⟨⟨hx, hb, hml, hown, hts⟩, hr, hlk, hK, hR1, hR2⟩ := id C
  have C : zCx Γ p R s m args meth c cX7_signsBy 3 RX7 (some .int) 0 0 := C
  have hl : lv_has ls 3 [(0, .ref (G_m Γ 0)), (1, .int a1)] := hl
  refine lv_aload_n hx hb dX7_signsBy_0 rfl (lv_at hl 0 rfl) ?_
  refine zm_gf C hG 31 hf (Nat.le_of_ble_eq_true rfl) rfl q1474 dX7_signsBy_1 (fun v1 hf => ?_)
  refine lv_if_lt (tgt := 24) hx hb dX7_signsBy_4 (by decide) (fun c4 => ?_) (fun c4 => ?_)
  · have hf := z_t c4 hf
    exact wm_signsBy_j24 Γ l a1 p e R s m args below meth c Q A _ _ _ _ _ _ C hG ⟨ls, rfl, lv_sub hl [0, 1] rfl⟩ hf kk
  · have hf := z_f c4 hf
    refine lv_aload_n hx hb dX7_signsBy_7 rfl (lv_at hl 0 rfl) ?_
    refine zm_gf C hG 32 hf (Nat.le_of_ble_eq_true rfl) rfl q1475 dX7_signsBy_8 (fun v8 hf => ?_)
    refine lv_aload_n hx hb dX7_signsBy_11 rfl (lv_at hl 0 rfl) ?_
    refine zm_ga C hG 0 (Nat.le_of_ble_eq_true rfl) (by decide) q1443 dX7_signsBy_12 ?_
    refine lv_iconst (v := zi 3) hx hb dX7_signsBy_15 rfl ?_
    refine zm_al C hG 0 hf (Nat.le_of_ble_eq_true rfl) rfl dX7_signsBy_16 (fun v16 hf => ?_)
    refine lv_icmp_gt (tgt := 24) hx hb dX7_signsBy_17 (by decide) (fun c17 => ?_) (fun c17 => ?_)
    · have hf := z_t c17 hf
      exact wm_signsBy_j24 Γ l a1 p e R s m args below meth c Q A _ _ _ _ _ _ C hG ⟨ls, rfl, lv_sub hl [0, 1] rfl⟩ hf kk
    · have hf := z_f c17 hf
      refine lv_iconst (v := zi 1) hx hb dX7_signsBy_20 rfl ?_
      refine lv_goto (tgt := 25) hx hb dX7_signsBy_21 (by decide) ?_
      exact wm_signsBy_j25 Γ l a1 (zi 1) p e R s m args below meth c Q A _ _ _ _ _ _ C hG ⟨ls, rfl, lv_sub hl [0, 1] rfl⟩ hf kk
theorem ctm_signsBy (Γ : zG) (l : Launch) (a1 : Int32) : mCt Γ l yX7_signsBy (ws_ yX7_signsBy cX7_signsBy 3 (some .int)) 0 0 [.ref (G_m Γ 0), .int a1] (m_signsBy a1) zoi := mCt.mki (by decide +kernel) (Nat.le_of_ble_eq_true rfl) (wm_signsBy Γ l a1)
theorem ytm_signsBy : yX7_signsBy.cls = RX7 ∧ yX7_signsBy.cls ≠ "java/lang/invoke/MethodHandle" ∧ yX7_signsBy.cls ≠ "java/lang/invoke/VarHandle" ∧ (parseMethodDescriptor yX7_signsBy.desc).map (fun d => d.parameters.length) = some 1 := by decide +kernel
set_option maxHeartbeats 4000000 in
theorem wm_signsOf (Γ : zG) (l : Launch) (a1 : Int32) (a2 : Int32) (a3 : Int32) : mRg Γ l yX7_signsOf cX7_signsOf 4 (some .int) 6 145 (m_signsOf a1 a2 a3) (zAt0 4 0 (lv_args 0 [.ref (G_m Γ 0), .int a1, .int a2, .int a3]) []) (zLi cX7_signsOf) := by
  intro p e R s m args below meth c Q A S H locs x S' g C hG hI hf kk
  obtain ⟨ls, rfl, hl⟩ := hI
  obtain ⟨⟨hx, hb, hml, hown, hts⟩, hr, hlk, hK, hR1, hR2⟩ := id C
  have C : zCx Γ p R s m args meth c cX7_signsOf 4 RX7 (some .int) 6 145 := C
  have hl : lv_has ls 4 [(0, .ref (G_m Γ 0)), (1, .int a1), (2, .int a2), (3, .int a3)] := hl
  refine lv_aload_n hx hb dX7_signsOf_0 rfl (lv_at hl 0 rfl) ?_
  refine lv_iload_n hx hb dX7_signsOf_1 rfl (lv_at hl 1 rfl) ?_
  refine lv_iload_n hx hb dX7_signsOf_2 rfl (lv_at hl 2 rfl) ?_
  refine lv_iload_n hx hb dX7_signsOf_3 rfl (lv_at hl 3 rfl) ?_
  refine zm_cvv (As := [.int a1, .int a2, .int a3]) (rest := []) C hG hf (ctm_shows Γ l a1 a2 a3) (lw_V q1799 q1801 qs67 q107 q1802) ytm_shows rfl rfl (Nat.le_of_ble_eq_true rfl) (Nat.le_of_ble_eq_true rfl) hl.1 (Nat.le_of_ble_eq_true rfl) dX7_signsOf_4 (fun S H locs hG hf => ?_)
  refine lv_aload_n hx hb dX7_signsOf_7 rfl (lv_at hl 0 rfl) ?_
  refine lv_iload_n hx hb dX7_signsOf_8 rfl (lv_at hl 1 rfl) ?_
  refine lv_iload_n hx hb dX7_signsOf_9 rfl (lv_at hl 2 rfl) ?_
  refine lv_iload_n hx hb dX7_signsOf_10 rfl (lv_at hl 3 rfl) ?_
  refine zm_cvv (As := [.int a1, .int a2, .int a3]) (rest := []) C hG hf (ctm_judges Γ l a1 a2 a3) (lw_V q1835 q1837 qs71 q107 q1838) ytm_judges rfl rfl (Nat.le_of_ble_eq_true rfl) (Nat.le_of_ble_eq_true rfl) hl.1 (Nat.le_of_ble_eq_true rfl) dX7_signsOf_11 (fun S H locs hG hf => ?_)
  refine lv_aload_n hx hb dX7_signsOf_14 rfl (lv_at hl 0 rfl) ?_
  refine lv_aload_n hx hb dX7_signsOf_15 rfl (lv_at hl 0 rfl) ?_
  refine lv_iload_n hx hb dX7_signsOf_16 rfl (lv_at hl 1 rfl) ?_
  refine lv_iload_n hx hb dX7_signsOf_17 rfl (lv_at hl 3 rfl) ?_
  refine zm_cvi (As := [.int a1, .int a3]) (rest := [.ref (G_m Γ 0)]) C hG hf (ctm_ageOf Γ l a1 a3) (lw_V q1843 q1845 qs73 q107 q1846) ytm_ageOf rfl rfl (Nat.le_of_ble_eq_true rfl) (Nat.le_of_ble_eq_true rfl) hl.1 (Nat.le_of_ble_eq_true rfl) dX7_signsOf_18 (fun v18 S H locs hG hf => ?_)
  refine zm_cvi (As := [.int v18]) (rest := []) C hG hf (ctm_signsBy Γ l v18) (lw_V q1847 q1849 qs74 q107 q1850) ytm_signsBy rfl rfl (Nat.le_of_ble_eq_true rfl) (Nat.le_of_ble_eq_true rfl) hl.1 (Nat.le_of_ble_eq_true rfl) dX7_signsOf_21 (fun v21 S H locs hG hf => ?_)
  obtain ⟨rfl, rfl⟩ := z_p hf
  exact kk _ _ _ ⟨_, _, rfl, dX7_signsOf_24⟩ hG
theorem ctm_signsOf (Γ : zG) (l : Launch) (a1 : Int32) (a2 : Int32) (a3 : Int32) : mCt Γ l yX7_signsOf (ws_ yX7_signsOf cX7_signsOf 4 (some .int)) 6 145 [.ref (G_m Γ 0), .int a1, .int a2, .int a3] (m_signsOf a1 a2 a3) zoi := mCt.mki (by decide +kernel) (Nat.le_of_ble_eq_true rfl) (wm_signsOf Γ l a1 a2 a3)
theorem ytm_signsOf : yX7_signsOf.cls = RX7 ∧ yX7_signsOf.cls ≠ "java/lang/invoke/MethodHandle" ∧ yX7_signsOf.cls ≠ "java/lang/invoke/VarHandle" ∧ (parseMethodDescriptor yX7_signsOf.desc).map (fun d => d.parameters.length) = some 3 := by decide +kernel
set_option maxHeartbeats 4000000 in
theorem wm_signs (Γ : zG) (l : Launch) (a1 : Int32) (a2 : Int32) (a3 : Int32) : mRg Γ l yX7_signs cX7_signs 4 (some .int) 7 168 (m_signs a1 a2 a3) (zAt0 4 0 (lv_args 0 [.ref (G_m Γ 0), .int a1, .int a2, .int a3]) []) (zLi cX7_signs) := by
  intro p e R s m args below meth c Q A S H locs x S' g C hG hI hf kk
  obtain ⟨ls, rfl, hl⟩ := hI
  obtain ⟨⟨hx, hb, hml, hown, hts⟩, hr, hlk, hK, hR1, hR2⟩ := id C
  have C : zCx Γ p R s m args meth c cX7_signs 4 RX7 (some .int) 7 168 := C
  have hl : lv_has ls 4 [(0, .ref (G_m Γ 0)), (1, .int a1), (2, .int a2), (3, .int a3)] := hl
  refine lv_aload_n hx hb dX7_signs_0 rfl (lv_at hl 0 rfl) ?_
  refine lv_iload_n hx hb dX7_signs_1 rfl (lv_at hl 1 rfl) ?_
  refine zm_cvi (As := [.int a1]) (rest := []) C hG hf (ctm_isPage Γ l a1) (lw_V q1701 q1703 qs54 q107 q1704) ytm_isPage rfl rfl (Nat.le_of_ble_eq_true rfl) (Nat.le_of_ble_eq_true rfl) hl.1 (Nat.le_of_ble_eq_true rfl) dX7_signs_2 (fun v2 S H locs hG hf => ?_)
  refine lv_if_eq (tgt := 26) hx hb dX7_signs_5 (by decide) (fun c5 => ?_) (fun c5 => ?_)
  · have hf := z_t c5 hf
    refine lv_iconst (v := zi (-1)) hx hb dX7_signs_26 rfl ?_
    obtain ⟨rfl, rfl⟩ := z_p hf
    exact kk _ _ _ ⟨_, _, rfl, dX7_signs_27⟩ hG
  · have hf := z_f c5 hf
    refine lv_iload_n hx hb dX7_signs_8 rfl (lv_at hl 2 rfl) ?_
    refine lv_iload_n hx hb dX7_signs_9 rfl (lv_at hl 3 rfl) ?_
    refine zm_csi (As := [.int a2, .int a3]) (rest := []) C hG hf (ctm_isPerson Γ l a2 a3) (lw_S q1741 q1742 q107 q1743) ytm_isPerson rfl rfl (Nat.le_of_ble_eq_true rfl) (Nat.le_of_ble_eq_true rfl) hl.1 (Nat.le_of_ble_eq_true rfl) dX7_signs_10 (fun v10 S H locs hG hf => ?_)
    refine lv_if_eq (tgt := 26) hx hb dX7_signs_13 (by decide) (fun c13 => ?_) (fun c13 => ?_)
    · have hf := z_t c13 hf
      refine lv_iconst (v := zi (-1)) hx hb dX7_signs_26 rfl ?_
      obtain ⟨rfl, rfl⟩ := z_p hf
      exact kk _ _ _ ⟨_, _, rfl, dX7_signs_27⟩ hG
    · have hf := z_f c13 hf
      refine lv_aload_n hx hb dX7_signs_16 rfl (lv_at hl 0 rfl) ?_
      refine lv_iload_n hx hb dX7_signs_17 rfl (lv_at hl 1 rfl) ?_
      refine lv_iload_n hx hb dX7_signs_18 rfl (lv_at hl 2 rfl) ?_
      refine lv_iload_n hx hb dX7_signs_19 rfl (lv_at hl 3 rfl) ?_
      refine zm_cvi (As := [.int a1, .int a2, .int a3]) (rest := []) C hG hf (ctm_signsOf Γ l a1 a2 a3) (lw_V q1831 q1833 qs70 q107 q1834) ytm_signsOf rfl rfl (Nat.le_of_ble_eq_true rfl) (Nat.le_of_ble_eq_true rfl) hl.1 (Nat.le_of_ble_eq_true rfl) dX7_signs_20 (fun v20 S H locs hG hf => ?_)
      refine lv_goto (tgt := 27) hx hb dX7_signs_23 (by decide) ?_
      obtain ⟨rfl, rfl⟩ := z_p hf
      exact kk _ _ _ ⟨_, _, rfl, dX7_signs_27⟩ hG
theorem ctm_signs (Γ : zG) (l : Launch) (a1 : Int32) (a2 : Int32) (a3 : Int32) : mCt Γ l yX7_signs (ws_ yX7_signs cX7_signs 4 (some .int)) 7 168 [.ref (G_m Γ 0), .int a1, .int a2, .int a3] (m_signs a1 a2 a3) zoi := mCt.mki (by decide +kernel) (Nat.le_of_ble_eq_true rfl) (wm_signs Γ l a1 a2 a3)
theorem ytm_signs : yX7_signs.cls = RX7 ∧ yX7_signs.cls ≠ "java/lang/invoke/MethodHandle" ∧ yX7_signs.cls ≠ "java/lang/invoke/VarHandle" ∧ (parseMethodDescriptor yX7_signs.desc).map (fun d => d.parameters.length) = some 3 := by decide +kernel
def im_ones_l4 (Γ : zG) (m : MethodId) (s : Int32 × Int32) (g : JFrame) : Prop := zAt0 3 4 [(1, .int s.1), (2, .int s.2)] [] m g
def em_ones_l4 (Γ : zG) (m : MethodId) (e : Int32) (g : JFrame) : Prop := zAt0 3 20 [(1, .int e)] [] m g
set_option maxHeartbeats 4000000 in
theorem wm_ones_l4_b (Γ : zG) (l : Launch) (s1 : Int32) (s2 : Int32) : mRg Γ l yX7_ones cX7_ones 3 (some .int) 0 0 (m_ones_l4 s1 s2) (zAt0 3 4 [(1, .int s1), (2, .int s2)] []) (zLE (im_ones_l4 Γ) (em_ones_l4 Γ)) := by
  intro p e R s m args below meth c Q A S H locs x S' g C hG hI hf kk
  obtain ⟨ls, rfl, hl⟩ := hI
  obtain ⟨⟨hx, hb, hml, hown, hts⟩, hr, hlk, hK, hR1, hR2⟩ := id C
  have C : zCx Γ p R s m args meth c cX7_ones 3 RX7 (some .int) 0 0 := C
  refine lv_iload_n hx hb dX7_ones_4 rfl (lv_at hl 1 rfl) ?_
  refine lv_if_eq (tgt := 20) hx hb dX7_ones_5 (by decide) (fun c5 => ?_) (fun c5 => ?_)
  · have hf := z_t c5 hf
    obtain ⟨rfl, rfl⟩ := z_p hf
    exact kk _ _ _ ⟨ls, rfl, lv_sub hl [0] rfl⟩ hG
  · have hf := z_f c5 hf
    refine z_iinc (fun v => [(1, .int v), (2, .int s2)]) hx hb hf dX7_ones_8 hl (k := 0) rfl (Nat.le_of_ble_eq_true rfl) (fun _ => rfl) (fun n8 ls hf hl => ?_)
    refine lv_iload_n hx hb dX7_ones_11 rfl (lv_at hl 1 rfl) ?_
    refine lv_iload_n hx hb dX7_ones_12 rfl (lv_at hl 1 rfl) ?_
    refine lv_iconst (v := zi 1) hx hb dX7_ones_13 rfl ?_
    refine lv_isub hx hb dX7_ones_14 ?_
    refine lv_iand hx hb dX7_ones_15 ?_
    refine z_top hf (fun n16 hf => ?_)
    refine lv_istore_n (lv' := [(2, .int n16), (1, .int n8)]) hx hb dX7_ones_16 rfl hl (Nat.le_of_ble_eq_true rfl) rfl (fun ls hl => ?_)
    refine lv_goto (tgt := 4) hx hb dX7_ones_17 (by decide) ?_
    obtain ⟨rfl, rfl⟩ := z_p hf
    exact kk _ _ _ ⟨ls, rfl, lv_sub hl [1, 0] rfl⟩ hG
theorem wm_ones_l4 (Γ : zG) (l : Launch) : ∀ s : Int32 × Int32, mRg Γ l yX7_ones cX7_ones 3 (some .int) 0 0 (m_ones_l4 s.1 s.2) (fun m => im_ones_l4 Γ m s) (zLE (im_ones_l4 Γ) (em_ones_l4 Γ)) := fun s => wm_ones_l4_b Γ l s.1 s.2
set_option maxHeartbeats 4000000 in
theorem wm_ones (Γ : zG) (l : Launch) (a0 : Int32) : mRg Γ l yX7_ones cX7_ones 3 (some .int) 0 0 (m_ones a0) (zAt0 3 0 (lv_args 0 [.int a0]) []) (zLi cX7_ones) := by
  intro p e R s m args below meth c Q A S H locs x S' g C hG hI hf kk
  obtain ⟨ls, rfl, hl⟩ := hI
  obtain ⟨⟨hx, hb, hml, hown, hts⟩, hr, hlk, hK, hR1, hR2⟩ := id C
  have C : zCx Γ p R s m args meth c cX7_ones 3 RX7 (some .int) 0 0 := C
  have hl : lv_has ls 3 [(0, .int a0)] := hl
  refine lv_iconst (v := zi 0) hx hb dX7_ones_0 rfl ?_
  refine lv_istore_n (lv' := [(1, .int (zi 0)), (0, .int a0)]) hx hb dX7_ones_1 rfl hl (Nat.le_of_ble_eq_true rfl) rfl (fun ls hl => ?_)
  refine lv_iload_n hx hb dX7_ones_2 rfl (lv_at hl 1 rfl) ?_
  refine lv_istore_n (lv' := [(2, .int a0), (1, .int (zi 0)), (0, .int a0)]) hx hb dX7_ones_3 rfl hl (Nat.le_of_ble_eq_true rfl) rfl (fun ls hl => ?_)
  obtain ⟨e4, S, hlp, hf⟩ := nB_some hf
  refine mRg.loop (wm_ones_l4 Γ l) ((zi 0), a0) p e R s m args below meth c Q A _ _ _ _ _ _ C hG ⟨ls, rfl, lv_sub hl [1, 0] rfl⟩ hlp (fun H locs g hL hG => ?_)
  obtain ⟨ls, rfl, hl⟩ := hL
  have hl : lv_has ls 3 [(1, .int e4)] := hl
  refine lv_iload_n hx hb dX7_ones_20 rfl (lv_at hl 0 rfl) ?_
  obtain ⟨rfl, rfl⟩ := z_p hf
  exact kk _ _ _ ⟨_, _, rfl, dX7_ones_21⟩ hG
theorem ctm_ones (Γ : zG) (l : Launch) (a0 : Int32) : mCt Γ l yX7_ones (ws_ yX7_ones cX7_ones 3 (some .int)) 0 0 [.int a0] (m_ones a0) zoi := mCt.mki (by decide +kernel) (Nat.le_of_ble_eq_true rfl) (wm_ones Γ l a0)
theorem ytm_ones : yX7_ones.cls = RX7 ∧ yX7_ones.cls ≠ "java/lang/invoke/MethodHandle" ∧ yX7_ones.cls ≠ "java/lang/invoke/VarHandle" ∧ (parseMethodDescriptor yX7_ones.desc).map (fun d => d.parameters.length) = some 1 := by decide +kernel
set_option maxHeartbeats 4000000 in
theorem wm_sayOf (Γ : zG) (l : Launch) (a0 : Int32) : mRg Γ l yX7_sayOf cX7_sayOf 1 (some .int) 1 22 (m_sayOf a0) (zAt0 1 0 (lv_args 0 [.int a0]) []) (zLi cX7_sayOf) := by
  intro p e R s m args below meth c Q A S H locs x S' g C hG hI hf kk
  obtain ⟨ls, rfl, hl⟩ := hI
  obtain ⟨⟨hx, hb, hml, hown, hts⟩, hr, hlk, hK, hR1, hR2⟩ := id C
  have C : zCx Γ p R s m args meth c cX7_sayOf 1 RX7 (some .int) 1 22 := C
  have hl : lv_has ls 1 [(0, .int a0)] := hl
  refine lv_iload_n hx hb dX7_sayOf_0 rfl (lv_at hl 0 rfl) ?_
  refine lv_bipush (v := zi 7) hx hb dX7_sayOf_1 (by decide +kernel) ?_
  refine lv_icmp_ne (tgt := 10) hx hb dX7_sayOf_3 (by decide) (fun c3 => ?_) (fun c3 => ?_)
  · have hf := z_f c3 hf
    refine lv_iload_n hx hb dX7_sayOf_10 rfl (lv_at hl 0 rfl) ?_
    refine zm_csi (As := [.int a0]) (rest := []) C hG hf (ctm_ones Γ l a0) (lw_S q1858 q1859 q107 q1860) ytm_ones rfl rfl (Nat.le_of_ble_eq_true rfl) (Nat.le_of_ble_eq_true rfl) hl.1 (Nat.le_of_ble_eq_true rfl) dX7_sayOf_11 (fun v11 S H locs hG hf => ?_)
    refine lv_iconst (v := zi 2) hx hb dX7_sayOf_14 rfl ?_
    refine lv_icmp_ne (tgt := 22) hx hb dX7_sayOf_15 (by decide) (fun c15 => ?_) (fun c15 => ?_)
    · have hf := z_f c15 hf
      refine lv_iconst (v := zi 0) hx hb dX7_sayOf_22 rfl ?_
      obtain ⟨rfl, rfl⟩ := z_p hf
      exact kk _ _ _ ⟨_, _, rfl, dX7_sayOf_23⟩ hG
    · have hf := z_t c15 hf
      refine lv_iconst (v := zi 1) hx hb dX7_sayOf_18 rfl ?_
      refine lv_goto (tgt := 23) hx hb dX7_sayOf_19 (by decide) ?_
      obtain ⟨rfl, rfl⟩ := z_p hf
      exact kk _ _ _ ⟨_, _, rfl, dX7_sayOf_23⟩ hG
  · have hf := z_t c3 hf
    refine lv_iconst (v := zi 2) hx hb dX7_sayOf_6 rfl ?_
    refine lv_goto (tgt := 23) hx hb dX7_sayOf_7 (by decide) ?_
    obtain ⟨rfl, rfl⟩ := z_p hf
    exact kk _ _ _ ⟨_, _, rfl, dX7_sayOf_23⟩ hG
theorem ctm_sayOf (Γ : zG) (l : Launch) (a0 : Int32) : mCt Γ l yX7_sayOf (ws_ yX7_sayOf cX7_sayOf 1 (some .int)) 1 22 [.int a0] (m_sayOf a0) zoi := mCt.mki (by decide +kernel) (Nat.le_of_ble_eq_true rfl) (wm_sayOf Γ l a0)
theorem ytm_sayOf : yX7_sayOf.cls = RX7 ∧ yX7_sayOf.cls ≠ "java/lang/invoke/MethodHandle" ∧ yX7_sayOf.cls ≠ "java/lang/invoke/VarHandle" ∧ (parseMethodDescriptor yX7_sayOf.desc).map (fun d => d.parameters.length) = some 1 := by decide +kernel
set_option maxHeartbeats 4000000 in
theorem wm_say (Γ : zG) (l : Launch) (a1 : Int32) (a2 : Int32) (a3 : Int32) : mRg Γ l yX7_say cX7_say 4 (some .int) 7 168 (m_say a1 a2 a3) (zAt0 4 0 (lv_args 0 [.ref (G_m Γ 0), .int a1, .int a2, .int a3]) []) (zLi cX7_say) := by
  intro p e R s m args below meth c Q A S H locs x S' g C hG hI hf kk
  obtain ⟨ls, rfl, hl⟩ := hI
  obtain ⟨⟨hx, hb, hml, hown, hts⟩, hr, hlk, hK, hR1, hR2⟩ := id C
  have C : zCx Γ p R s m args meth c cX7_say 4 RX7 (some .int) 7 168 := C
  have hl : lv_has ls 4 [(0, .ref (G_m Γ 0)), (1, .int a1), (2, .int a2), (3, .int a3)] := hl
  refine lv_aload_n hx hb dX7_say_0 rfl (lv_at hl 0 rfl) ?_
  refine lv_iload_n hx hb dX7_say_1 rfl (lv_at hl 1 rfl) ?_
  refine zm_cvi (As := [.int a1]) (rest := []) C hG hf (ctm_isPage Γ l a1) (lw_V q1701 q1703 qs54 q107 q1704) ytm_isPage rfl rfl (Nat.le_of_ble_eq_true rfl) (Nat.le_of_ble_eq_true rfl) hl.1 (Nat.le_of_ble_eq_true rfl) dX7_say_2 (fun v2 S H locs hG hf => ?_)
  refine lv_if_eq (tgt := 29) hx hb dX7_say_5 (by decide) (fun c5 => ?_) (fun c5 => ?_)
  · have hf := z_t c5 hf
    refine lv_iconst (v := zi (-1)) hx hb dX7_say_29 rfl ?_
    obtain ⟨rfl, rfl⟩ := z_p hf
    exact kk _ _ _ ⟨_, _, rfl, dX7_say_30⟩ hG
  · have hf := z_f c5 hf
    refine lv_iload_n hx hb dX7_say_8 rfl (lv_at hl 2 rfl) ?_
    refine lv_iload_n hx hb dX7_say_9 rfl (lv_at hl 3 rfl) ?_
    refine zm_csi (As := [.int a2, .int a3]) (rest := []) C hG hf (ctm_isPerson Γ l a2 a3) (lw_S q1741 q1742 q107 q1743) ytm_isPerson rfl rfl (Nat.le_of_ble_eq_true rfl) (Nat.le_of_ble_eq_true rfl) hl.1 (Nat.le_of_ble_eq_true rfl) dX7_say_10 (fun v10 S H locs hG hf => ?_)
    refine lv_if_eq (tgt := 29) hx hb dX7_say_13 (by decide) (fun c13 => ?_) (fun c13 => ?_)
    · have hf := z_t c13 hf
      refine lv_iconst (v := zi (-1)) hx hb dX7_say_29 rfl ?_
      obtain ⟨rfl, rfl⟩ := z_p hf
      exact kk _ _ _ ⟨_, _, rfl, dX7_say_30⟩ hG
    · have hf := z_f c13 hf
      refine lv_aload_n hx hb dX7_say_16 rfl (lv_at hl 0 rfl) ?_
      refine lv_iload_n hx hb dX7_say_17 rfl (lv_at hl 1 rfl) ?_
      refine lv_iload_n hx hb dX7_say_18 rfl (lv_at hl 2 rfl) ?_
      refine lv_iload_n hx hb dX7_say_19 rfl (lv_at hl 3 rfl) ?_
      refine zm_cvi (As := [.int a1, .int a2, .int a3]) (rest := []) C hG hf (ctm_signsOf Γ l a1 a2 a3) (lw_V q1831 q1833 qs70 q107 q1834) ytm_signsOf rfl rfl (Nat.le_of_ble_eq_true rfl) (Nat.le_of_ble_eq_true rfl) hl.1 (Nat.le_of_ble_eq_true rfl) dX7_say_20 (fun v20 S H locs hG hf => ?_)
      refine zm_csi (As := [.int v20]) (rest := []) C hG hf (ctm_sayOf Γ l v20) (lw_S q1855 q1856 q107 q1857) ytm_sayOf rfl rfl (Nat.le_of_ble_eq_true rfl) (Nat.le_of_ble_eq_true rfl) hl.1 (Nat.le_of_ble_eq_true rfl) dX7_say_23 (fun v23 S H locs hG hf => ?_)
      refine lv_goto (tgt := 30) hx hb dX7_say_26 (by decide) ?_
      obtain ⟨rfl, rfl⟩ := z_p hf
      exact kk _ _ _ ⟨_, _, rfl, dX7_say_30⟩ hG
theorem ctm_say (Γ : zG) (l : Launch) (a1 : Int32) (a2 : Int32) (a3 : Int32) : mCt Γ l yX7_say (ws_ yX7_say cX7_say 4 (some .int)) 7 168 [.ref (G_m Γ 0), .int a1, .int a2, .int a3] (m_say a1 a2 a3) zoi := mCt.mki (by decide +kernel) (Nat.le_of_ble_eq_true rfl) (wm_say Γ l a1 a2 a3)
theorem ytm_say : yX7_say.cls = RX7 ∧ yX7_say.cls ≠ "java/lang/invoke/MethodHandle" ∧ yX7_say.cls ≠ "java/lang/invoke/VarHandle" ∧ (parseMethodDescriptor yX7_say.desc).map (fun d => d.parameters.length) = some 3 := by decide +kernel
set_option maxHeartbeats 4000000 in
theorem wm_differs (Γ : zG) (l : Launch) (a1 : Int32) (a2 : Int32) (a3 : Int32) (a4 : Int32) (a5 : Int32) : mRg Γ l yX7_differs cX7_differs 6 (some .int) 4 98 (m_differs a1 a2 a3 a4 a5) (zAt0 6 0 (lv_args 0 [.ref (G_m Γ 0), .int a1, .int a2, .int a3, .int a4, .int a5]) []) (zLi cX7_differs) := by
  intro p e R s m args below meth c Q A S H locs x S' g C hG hI hf kk
  obtain ⟨ls, rfl, hl⟩ := hI
  obtain ⟨⟨hx, hb, hml, hown, hts⟩, hr, hlk, hK, hR1, hR2⟩ := id C
  have C : zCx Γ p R s m args meth c cX7_differs 6 RX7 (some .int) 4 98 := C
  have hl : lv_has ls 6 [(0, .ref (G_m Γ 0)), (1, .int a1), (2, .int a2), (3, .int a3), (4, .int a4), (5, .int a5)] := hl
  refine lv_aload_n hx hb dX7_differs_0 rfl (lv_at hl 0 rfl) ?_
  refine lv_iload_n hx hb dX7_differs_1 rfl (lv_at hl 1 rfl) ?_
  refine zm_cvi (As := [.int a1]) (rest := []) C hG hf (ctm_isPage Γ l a1) (lw_V q1701 q1703 qs54 q107 q1704) ytm_isPage rfl rfl (Nat.le_of_ble_eq_true rfl) (Nat.le_of_ble_eq_true rfl) hl.1 (Nat.le_of_ble_eq_true rfl) dX7_differs_2 (fun v2 S H locs hG hf => ?_)
  refine lv_if_eq (tgt := 26) hx hb dX7_differs_5 (by decide) (fun c5 => ?_) (fun c5 => ?_)
  · have hf := z_t c5 hf
    refine lv_iconst (v := zi (-1)) hx hb dX7_differs_26 rfl ?_
    obtain ⟨rfl, rfl⟩ := z_p hf
    exact kk _ _ _ ⟨_, _, rfl, dX7_differs_27⟩ hG
  · have hf := z_f c5 hf
    refine lv_iload_n hx hb dX7_differs_8 rfl (lv_at hl 2 rfl) ?_
    refine lv_iload_n hx hb dX7_differs_9 rfl (lv_at hl 3 rfl) ?_
    refine zm_csi (As := [.int a2, .int a3]) (rest := []) C hG hf (ctm_isPerson Γ l a2 a3) (lw_S q1741 q1742 q107 q1743) ytm_isPerson rfl rfl (Nat.le_of_ble_eq_true rfl) (Nat.le_of_ble_eq_true rfl) hl.1 (Nat.le_of_ble_eq_true rfl) dX7_differs_10 (fun v10 S H locs hG hf => ?_)
    refine lv_if_eq (tgt := 26) hx hb dX7_differs_13 (by decide) (fun c13 => ?_) (fun c13 => ?_)
    · have hf := z_t c13 hf
      refine lv_iconst (v := zi (-1)) hx hb dX7_differs_26 rfl ?_
      obtain ⟨rfl, rfl⟩ := z_p hf
      exact kk _ _ _ ⟨_, _, rfl, dX7_differs_27⟩ hG
    · have hf := z_f c13 hf
      refine lv_iload hx hb dX7_differs_16 (lv_at hl 4 rfl) ?_
      refine lv_iload hx hb dX7_differs_18 (lv_at hl 5 rfl) ?_
      refine zm_csi (As := [.int a4, .int a5]) (rest := []) C hG hf (ctm_isPerson Γ l a4 a5) (lw_S q1741 q1742 q107 q1743) ytm_isPerson rfl rfl (Nat.le_of_ble_eq_true rfl) (Nat.le_of_ble_eq_true rfl) hl.1 (Nat.le_of_ble_eq_true rfl) dX7_differs_20 (fun v20 S H locs hG hf => ?_)
      refine lv_if_ne (tgt := 28) hx hb dX7_differs_23 (by decide) (fun c23 => ?_) (fun c23 => ?_)
      · have hf := z_f c23 hf
        refine lv_aload_n hx hb dX7_differs_28 rfl (lv_at hl 0 rfl) ?_
        refine lv_iload_n hx hb dX7_differs_29 rfl (lv_at hl 1 rfl) ?_
        refine zm_csi (As := [.int a1]) (rest := [.ref (G_m Γ 0)]) C hG hf (ctm_treeOf Γ l a1) (lw_S q1744 q1745 q107 q1746) ytm_treeOf rfl rfl (Nat.le_of_ble_eq_true rfl) (Nat.le_of_ble_eq_true rfl) hl.1 (Nat.le_of_ble_eq_true rfl) dX7_differs_30 (fun v30 S H locs hG hf => ?_)
        refine lv_iload_n hx hb dX7_differs_33 rfl (lv_at hl 2 rfl) ?_
        refine lv_iload_n hx hb dX7_differs_34 rfl (lv_at hl 3 rfl) ?_
        refine lv_iload_n hx hb dX7_differs_35 rfl (lv_at hl 1 rfl) ?_
        refine zm_csi (As := [.int a1]) (rest := [.int a3, .int a2, .int v30, .ref (G_m Γ 0)]) C hG hf (ctm_treeOf Γ l a1) (lw_S q1744 q1745 q107 q1746) ytm_treeOf rfl rfl (Nat.le_of_ble_eq_true rfl) (Nat.le_of_ble_eq_true rfl) hl.1 (Nat.le_of_ble_eq_true rfl) dX7_differs_36 (fun v36 S H locs hG hf => ?_)
        refine lv_iload hx hb dX7_differs_39 (lv_at hl 4 rfl) ?_
        refine lv_iload hx hb dX7_differs_41 (lv_at hl 5 rfl) ?_
        refine zm_cvi (As := [.int v30, .int a2, .int a3, .int v36, .int a4, .int a5]) (rest := []) C hG hf (ctm_farOf Γ l v30 a2 a3 v36 a4 a5) (lw_V q1771 q1773 qs61 q107 q1774) ytm_farOf rfl rfl (Nat.le_of_ble_eq_true rfl) (Nat.le_of_ble_eq_true rfl) hl.1 (Nat.le_of_ble_eq_true rfl) dX7_differs_43 (fun v43 S H locs hG hf => ?_)
        obtain ⟨rfl, rfl⟩ := z_p hf
        exact kk _ _ _ ⟨_, _, rfl, dX7_differs_46⟩ hG
      · have hf := z_t c23 hf
        refine lv_iconst (v := zi (-1)) hx hb dX7_differs_26 rfl ?_
        obtain ⟨rfl, rfl⟩ := z_p hf
        exact kk _ _ _ ⟨_, _, rfl, dX7_differs_27⟩ hG
theorem ctm_differs (Γ : zG) (l : Launch) (a1 : Int32) (a2 : Int32) (a3 : Int32) (a4 : Int32) (a5 : Int32) : mCt Γ l yX7_differs (ws_ yX7_differs cX7_differs 6 (some .int)) 4 98 [.ref (G_m Γ 0), .int a1, .int a2, .int a3, .int a4, .int a5] (m_differs a1 a2 a3 a4 a5) zoi := mCt.mki (by decide +kernel) (Nat.le_of_ble_eq_true rfl) (wm_differs Γ l a1 a2 a3 a4 a5)
theorem ytm_differs : yX7_differs.cls = RX7 ∧ yX7_differs.cls ≠ "java/lang/invoke/MethodHandle" ∧ yX7_differs.cls ≠ "java/lang/invoke/VarHandle" ∧ (parseMethodDescriptor yX7_differs.desc).map (fun d => d.parameters.length) = some 5 := by decide +kernel
def im_hides_l25 (Γ : zG) (f1 : Int32) (f2 : Int32) (m : MethodId) (s : Int32 × Int32) (g : JFrame) : Prop := zAt0 7 25 [(0, .ref (G_m Γ 0)), (1, .int f1), (2, .int f2), (3, .int s.1), (4, .int s.2)] [] m g
def em_hides_l25 (Γ : zG) (f1 : Int32) (f2 : Int32) (m : MethodId) (e : Int32) (g : JFrame) : Prop := zAt0 7 86 [(0, .ref (G_m Γ 0)), (3, .int e)] [] m g
def im_hides_l34 (Γ : zG) (f1 : Int32) (f2 : Int32) (f4 : Int32) (m : MethodId) (s : Int32 × Int32) (g : JFrame) : Prop := zAt0 7 34 [(0, .ref (G_m Γ 0)), (1, .int f1), (2, .int f2), (3, .int s.1), (4, .int f4), (5, .int s.2)] [] m g
def em_hides_l34 (Γ : zG) (f1 : Int32) (f2 : Int32) (f4 : Int32) (m : MethodId) (e : Int32) (g : JFrame) : Prop := zAt0 7 80 [(0, .ref (G_m Γ 0)), (1, .int f1), (2, .int f2), (3, .int e), (4, .int f4)] [] m g
set_option maxHeartbeats 4000000 in
theorem wm_hides_l34_j73 (Γ : zG) (l : Launch) (b1 : Int32) (b2 : Int32) (b4 : Int32) (b5 : Int32) (t0 : Int32) : mRg Γ l yX7_hides cX7_hides 7 (some .int) 4 98 (m_hides_l34_j73 b1 b2 b4 b5 t0) (zAt0 7 73 [(0, .ref (G_m Γ 0)), (1, .int b1), (2, .int b2), (4, .int b4), (5, .int b5)] [.int t0]) (zLE (im_hides_l34 Γ b1 b2 b4) (em_hides_l34 Γ b1 b2 b4)) := by
  intro p e R s m args below meth c Q A S H locs x S' g C hG hI hf kk
  obtain ⟨ls, rfl, hl⟩ := hI
  obtain ⟨⟨hx, hb, hml, hown, hts⟩, hr, hlk, hK, hR1, hR2⟩ := id C
  have C : zCx Γ p R s m args meth c cX7_hides 7 RX7 (some .int) 4 98 := C
  refine lv_istore_n (lv' := [(3, .int t0), (0, .ref (G_m Γ 0)), (1, .int b1), (2, .int b2), (4, .int b4), (5, .int b5)]) hx hb dX7_hides_73 rfl hl (Nat.le_of_ble_eq_true rfl) rfl (fun ls hl => ?_)
  refine z_iinc (fun v => [(5, .int v), (3, .int t0), (0, .ref (G_m Γ 0)), (1, .int b1), (2, .int b2), (4, .int b4)]) hx hb hf dX7_hides_74 hl (k := 5) rfl (Nat.le_of_ble_eq_true rfl) (fun _ => rfl) (fun n74 ls hf hl => ?_)
  refine lv_goto (tgt := 34) hx hb dX7_hides_77 (by decide) ?_
  obtain ⟨rfl, rfl⟩ := z_p hf
  exact kk _ _ _ ⟨ls, rfl, lv_sub hl [2, 3, 4, 1, 5, 0] rfl⟩ hG
set_option maxHeartbeats 4000000 in
theorem wm_hides_l34_b (Γ : zG) (l : Launch) (f1 : Int32) (f2 : Int32) (f4 : Int32) (s3 : Int32) (s5 : Int32) : mRg Γ l yX7_hides cX7_hides 7 (some .int) 4 98 (m_hides_l34 f1 f2 f4 s3 s5) (zAt0 7 34 [(0, .ref (G_m Γ 0)), (1, .int f1), (2, .int f2), (3, .int s3), (4, .int f4), (5, .int s5)] []) (zLE (im_hides_l34 Γ f1 f2 f4) (em_hides_l34 Γ f1 f2 f4)) := by
  intro p e R s m args below meth c Q A S H locs x S' g C hG hI hf kk
  obtain ⟨ls, rfl, hl⟩ := hI
  obtain ⟨⟨hx, hb, hml, hown, hts⟩, hr, hlk, hK, hR1, hR2⟩ := id C
  have C : zCx Γ p R s m args meth c cX7_hides 7 RX7 (some .int) 4 98 := C
  refine lv_iload hx hb dX7_hides_34 (lv_at hl 5 rfl) ?_
  refine lv_iload hx hb dX7_hides_36 (lv_at hl 4 rfl) ?_
  refine lv_icmp_ge (tgt := 80) hx hb dX7_hides_38 (by decide) (fun c38 => ?_) (fun c38 => ?_)
  · have hf := z_t c38 hf
    obtain ⟨rfl, rfl⟩ := z_p hf
    exact kk _ _ _ ⟨ls, rfl, lv_sub hl [0, 1, 2, 3, 4] rfl⟩ hG
  · have hf := z_f c38 hf
    refine lv_aload_n hx hb dX7_hides_41 rfl (lv_at hl 0 rfl) ?_
    refine lv_iload_n hx hb dX7_hides_42 rfl (lv_at hl 1 rfl) ?_
    refine zm_csi (As := [.int f1]) (rest := [.ref (G_m Γ 0)]) C hG hf (ctm_treeOf Γ l f1) (lw_S q1744 q1745 q107 q1746) ytm_treeOf rfl rfl (Nat.le_of_ble_eq_true rfl) (Nat.le_of_ble_eq_true rfl) hl.1 (Nat.le_of_ble_eq_true rfl) dX7_hides_43 (fun v43 S H locs hG hf => ?_)
    refine lv_iload hx hb dX7_hides_46 (lv_at hl 4 rfl) ?_
    refine lv_iload_n hx hb dX7_hides_48 rfl (lv_at hl 2 rfl) ?_
    refine lv_iload_n hx hb dX7_hides_49 rfl (lv_at hl 1 rfl) ?_
    refine zm_csi (As := [.int f1]) (rest := [.int f2, .int f4, .int v43, .ref (G_m Γ 0)]) C hG hf (ctm_treeOf Γ l f1) (lw_S q1744 q1745 q107 q1746) ytm_treeOf rfl rfl (Nat.le_of_ble_eq_true rfl) (Nat.le_of_ble_eq_true rfl) hl.1 (Nat.le_of_ble_eq_true rfl) dX7_hides_50 (fun v50 S H locs hG hf => ?_)
    refine lv_iload hx hb dX7_hides_53 (lv_at hl 5 rfl) ?_
    refine lv_iload_n hx hb dX7_hides_55 rfl (lv_at hl 2 rfl) ?_
    refine zm_cvi (As := [.int v43, .int f4, .int f2, .int v50, .int s5, .int f2]) (rest := []) C hG hf (ctm_farOf Γ l v43 f4 f2 v50 s5 f2) (lw_V q1771 q1773 qs61 q107 q1774) ytm_farOf rfl rfl (Nat.le_of_ble_eq_true rfl) (Nat.le_of_ble_eq_true rfl) hl.1 (Nat.le_of_ble_eq_true rfl) dX7_hides_56 (fun v56 S H locs hG hf => ?_)
    refine lv_istore (lv' := [(6, .int v56), (0, .ref (G_m Γ 0)), (1, .int f1), (2, .int f2), (3, .int s3), (4, .int f4), (5, .int s5)]) hx hb dX7_hides_59 hl (Nat.le_of_ble_eq_true rfl) rfl (fun ls hl => ?_)
    refine lv_iload hx hb dX7_hides_61 (lv_at hl 0 rfl) ?_
    refine lv_iload_n hx hb dX7_hides_63 rfl (lv_at hl 4 rfl) ?_
    refine lv_icmp_le (tgt := 72) hx hb dX7_hides_64 (by decide) (fun c64 => ?_) (fun c64 => ?_)
    · have hf := z_t c64 hf
      refine lv_iload_n hx hb dX7_hides_72 rfl (lv_at hl 4 rfl) ?_
      exact wm_hides_l34_j73 Γ l f1 f2 f4 s5 s3 p e R s m args below meth c Q A _ _ _ _ _ _ C hG ⟨ls, rfl, lv_sub hl [1, 2, 3, 5, 6] rfl⟩ hf kk
    · have hf := z_f c64 hf
      refine lv_iload hx hb dX7_hides_67 (lv_at hl 0 rfl) ?_
      refine lv_goto (tgt := 73) hx hb dX7_hides_69 (by decide) ?_
      exact wm_hides_l34_j73 Γ l f1 f2 f4 s5 v56 p e R s m args below meth c Q A _ _ _ _ _ _ C hG ⟨ls, rfl, lv_sub hl [1, 2, 3, 5, 6] rfl⟩ hf kk
theorem wm_hides_l34 (Γ : zG) (l : Launch) (f1 : Int32) (f2 : Int32) (f4 : Int32) : ∀ s : Int32 × Int32, mRg Γ l yX7_hides cX7_hides 7 (some .int) 4 98 (m_hides_l34 f1 f2 f4 s.1 s.2) (fun m => im_hides_l34 Γ f1 f2 f4 m s) (zLE (im_hides_l34 Γ f1 f2 f4) (em_hides_l34 Γ f1 f2 f4)) := fun s => wm_hides_l34_b Γ l f1 f2 f4 s.1 s.2
set_option maxHeartbeats 4000000 in
theorem wm_hides_l25_b (Γ : zG) (l : Launch) (f1 : Int32) (f2 : Int32) (s3 : Int32) (s4 : Int32) : mRg Γ l yX7_hides cX7_hides 7 (some .int) 4 98 (m_hides_l25 f1 f2 s3 s4) (zAt0 7 25 [(0, .ref (G_m Γ 0)), (1, .int f1), (2, .int f2), (3, .int s3), (4, .int s4)] []) (zLE (im_hides_l25 Γ f1 f2) (em_hides_l25 Γ f1 f2)) := by
  intro p e R s m args below meth c Q A S H locs x S' g C hG hI hf kk
  obtain ⟨ls, rfl, hl⟩ := hI
  obtain ⟨⟨hx, hb, hml, hown, hts⟩, hr, hlk, hK, hR1, hR2⟩ := id C
  have C : zCx Γ p R s m args meth c cX7_hides 7 RX7 (some .int) 4 98 := C
  refine lv_iload hx hb dX7_hides_25 (lv_at hl 4 rfl) ?_
  refine lv_iconst (v := zi 4) hx hb dX7_hides_27 rfl ?_
  refine lv_icmp_ge (tgt := 86) hx hb dX7_hides_28 (by decide) (fun c28 => ?_) (fun c28 => ?_)
  · have hf := z_t c28 hf
    obtain ⟨rfl, rfl⟩ := z_p hf
    exact kk _ _ _ ⟨ls, rfl, lv_sub hl [0, 3] rfl⟩ hG
  · have hf := z_f c28 hf
    refine lv_iconst (v := zi 0) hx hb dX7_hides_31 rfl ?_
    refine lv_istore (lv' := [(5, .int (zi 0)), (0, .ref (G_m Γ 0)), (1, .int f1), (2, .int f2), (3, .int s3), (4, .int s4)]) hx hb dX7_hides_32 hl (Nat.le_of_ble_eq_true rfl) rfl (fun ls hl => ?_)
    obtain ⟨e34, S, hlp, hf⟩ := nB_some hf
    refine mRg.loop (wm_hides_l34 Γ l f1 f2 s4) (s3, (zi 0)) p e R s m args below meth c Q A _ _ _ _ _ _ C hG ⟨ls, rfl, lv_sub hl [1, 2, 3, 4, 5, 0] rfl⟩ hlp (fun H locs g hL hG => ?_)
    obtain ⟨ls, rfl, hl⟩ := hL
    have hl : lv_has ls 7 [(0, .ref (G_m Γ 0)), (1, .int f1), (2, .int f2), (3, .int e34), (4, .int s4)] := hl
    refine z_iinc (fun v => [(4, .int v), (0, .ref (G_m Γ 0)), (1, .int f1), (2, .int f2), (3, .int e34)]) hx hb hf dX7_hides_80 hl (k := 4) rfl (Nat.le_of_ble_eq_true rfl) (fun _ => rfl) (fun n80 ls hf hl => ?_)
    refine lv_goto (tgt := 25) hx hb dX7_hides_83 (by decide) ?_
    obtain ⟨rfl, rfl⟩ := z_p hf
    exact kk _ _ _ ⟨ls, rfl, lv_sub hl [1, 2, 3, 4, 0] rfl⟩ hG
theorem wm_hides_l25 (Γ : zG) (l : Launch) (f1 : Int32) (f2 : Int32) : ∀ s : Int32 × Int32, mRg Γ l yX7_hides cX7_hides 7 (some .int) 4 98 (m_hides_l25 f1 f2 s.1 s.2) (fun m => im_hides_l25 Γ f1 f2 m s) (zLE (im_hides_l25 Γ f1 f2) (em_hides_l25 Γ f1 f2)) := fun s => wm_hides_l25_b Γ l f1 f2 s.1 s.2
set_option maxHeartbeats 4000000 in
theorem wm_hides (Γ : zG) (l : Launch) (a1 : Int32) (a2 : Int32) : mRg Γ l yX7_hides cX7_hides 7 (some .int) 4 98 (m_hides a1 a2) (zAt0 7 0 (lv_args 0 [.ref (G_m Γ 0), .int a1, .int a2]) []) (zLi cX7_hides) := by
  intro p e R s m args below meth c Q A S H locs x S' g C hG hI hf kk
  obtain ⟨ls, rfl, hl⟩ := hI
  obtain ⟨⟨hx, hb, hml, hown, hts⟩, hr, hlk, hK, hR1, hR2⟩ := id C
  have C : zCx Γ p R s m args meth c cX7_hides 7 RX7 (some .int) 4 98 := C
  have hl : lv_has ls 7 [(0, .ref (G_m Γ 0)), (1, .int a1), (2, .int a2)] := hl
  refine lv_aload_n hx hb dX7_hides_0 rfl (lv_at hl 0 rfl) ?_
  refine lv_iload_n hx hb dX7_hides_1 rfl (lv_at hl 1 rfl) ?_
  refine zm_cvi (As := [.int a1]) (rest := []) C hG hf (ctm_isPage Γ l a1) (lw_V q1701 q1703 qs54 q107 q1704) ytm_isPage rfl rfl (Nat.le_of_ble_eq_true rfl) (Nat.le_of_ble_eq_true rfl) hl.1 (Nat.le_of_ble_eq_true rfl) dX7_hides_2 (fun v2 S H locs hG hf => ?_)
  refine lv_if_eq (tgt := 18) hx hb dX7_hides_5 (by decide) (fun c5 => ?_) (fun c5 => ?_)
  · have hf := z_t c5 hf
    refine lv_iconst (v := zi (-1)) hx hb dX7_hides_18 rfl ?_
    obtain ⟨rfl, rfl⟩ := z_p hf
    exact kk _ _ _ ⟨_, _, rfl, dX7_hides_19⟩ hG
  · have hf := z_f c5 hf
    refine lv_iload_n hx hb dX7_hides_8 rfl (lv_at hl 2 rfl) ?_
    refine lv_iconst (v := zi 0) hx hb dX7_hides_9 rfl ?_
    refine lv_bipush (v := zi 99) hx hb dX7_hides_10 (by decide +kernel) ?_
    refine zm_csi (As := [.int a2, .int (zi 0), .int (zi 99)]) (rest := []) C hG hf (ctm_isIn Γ l a2 (zi 0) (zi 99)) (lw_S q1612 q1613 q107 q1614) ytm_isIn rfl rfl (Nat.le_of_ble_eq_true rfl) (Nat.le_of_ble_eq_true rfl) hl.1 (Nat.le_of_ble_eq_true rfl) dX7_hides_12 (fun v12 S H locs hG hf => ?_)
    refine lv_if_ne (tgt := 20) hx hb dX7_hides_15 (by decide) (fun c15 => ?_) (fun c15 => ?_)
    · have hf := z_f c15 hf
      refine lv_iconst (v := zi 0) hx hb dX7_hides_20 rfl ?_
      refine lv_istore_n (lv' := [(3, .int (zi 0)), (0, .ref (G_m Γ 0)), (1, .int a1), (2, .int a2)]) hx hb dX7_hides_21 rfl hl (Nat.le_of_ble_eq_true rfl) rfl (fun ls hl => ?_)
      refine lv_iconst (v := zi 0) hx hb dX7_hides_22 rfl ?_
      refine lv_istore (lv' := [(4, .int (zi 0)), (3, .int (zi 0)), (0, .ref (G_m Γ 0)), (1, .int a1), (2, .int a2)]) hx hb dX7_hides_23 hl (Nat.le_of_ble_eq_true rfl) rfl (fun ls hl => ?_)
      obtain ⟨e25, S, hlp, hf⟩ := nB_some hf
      refine mRg.loop (wm_hides_l25 Γ l a1 a2) ((zi 0), (zi 0)) p e R s m args below meth c Q A _ _ _ _ _ _ C hG ⟨ls, rfl, lv_sub hl [2, 3, 4, 1, 0] rfl⟩ hlp (fun H locs g hL hG => ?_)
      obtain ⟨ls, rfl, hl⟩ := hL
      have hl : lv_has ls 7 [(0, .ref (G_m Γ 0)), (3, .int e25)] := hl
      refine lv_iload_n hx hb dX7_hides_86 rfl (lv_at hl 1 rfl) ?_
      obtain ⟨rfl, rfl⟩ := z_p hf
      exact kk _ _ _ ⟨_, _, rfl, dX7_hides_87⟩ hG
    · have hf := z_t c15 hf
      refine lv_iconst (v := zi (-1)) hx hb dX7_hides_18 rfl ?_
      obtain ⟨rfl, rfl⟩ := z_p hf
      exact kk _ _ _ ⟨_, _, rfl, dX7_hides_19⟩ hG
theorem ctm_hides (Γ : zG) (l : Launch) (a1 : Int32) (a2 : Int32) : mCt Γ l yX7_hides (ws_ yX7_hides cX7_hides 7 (some .int)) 4 98 [.ref (G_m Γ 0), .int a1, .int a2] (m_hides a1 a2) zoi := mCt.mki (by decide +kernel) (Nat.le_of_ble_eq_true rfl) (wm_hides Γ l a1 a2)
theorem ytm_hides : yX7_hides.cls = RX7 ∧ yX7_hides.cls ≠ "java/lang/invoke/MethodHandle" ∧ yX7_hides.cls ≠ "java/lang/invoke/VarHandle" ∧ (parseMethodDescriptor yX7_hides.desc).map (fun d => d.parameters.length) = some 2 := by decide +kernel
def im_late_l34 (Γ : zG) (f1 : Int32) (f2 : Int32) (f3 : Int32) (m : MethodId) (s : Int32) (g : JFrame) : Prop := zAt0 5 34 [(0, .ref (G_m Γ 0)), (1, .int f1), (2, .int f2), (3, .int f3), (4, .int s)] [] m g
def em_late_l34 (Γ : zG) (f1 : Int32) (f2 : Int32) (f3 : Int32) (m : MethodId) (e : Int32 ⊕ (Unit)) (g : JFrame) : Prop := (Sum.elim (fun e => zAt0 5 57 [(0, .ref (G_m Γ 0)), (4, .int e)] [] m g) (fun e => zAt0 5 66 [(0, .ref (G_m Γ 0))] [] m g)) e
set_option maxHeartbeats 4000000 in
theorem wm_late_l34_b (Γ : zG) (l : Launch) (f1 : Int32) (f2 : Int32) (f3 : Int32) (s4 : Int32) : mRg Γ l yX7_late cX7_late 5 (some .int) 4 95 (m_late_l34 f1 f2 f3 s4) (zAt0 5 34 [(0, .ref (G_m Γ 0)), (1, .int f1), (2, .int f2), (3, .int f3), (4, .int s4)] []) (zLE (im_late_l34 Γ f1 f2 f3) (em_late_l34 Γ f1 f2 f3)) := by
  intro p e R s m args below meth c Q A S H locs x S' g C hG hI hf kk
  obtain ⟨ls, rfl, hl⟩ := hI
  obtain ⟨⟨hx, hb, hml, hown, hts⟩, hr, hlk, hK, hR1, hR2⟩ := id C
  have C : zCx Γ p R s m args meth c cX7_late 5 RX7 (some .int) 4 95 := C
  refine lv_iload hx hb dX7_late_34 (lv_at hl 4 rfl) ?_
  refine lv_bipush (v := zi 100) hx hb dX7_late_36 (by decide +kernel) ?_
  refine lv_icmp_ge (tgt := 66) hx hb dX7_late_38 (by decide) (fun c38 => ?_) (fun c38 => ?_)
  · have hf := z_t c38 hf
    obtain ⟨rfl, rfl⟩ := z_p hf
    exact kk _ _ _ ⟨ls, rfl, lv_sub hl [0] rfl⟩ hG
  · have hf := z_f c38 hf
    refine lv_aload_n hx hb dX7_late_41 rfl (lv_at hl 0 rfl) ?_
    refine lv_iload_n hx hb dX7_late_42 rfl (lv_at hl 1 rfl) ?_
    refine lv_iload_n hx hb dX7_late_43 rfl (lv_at hl 2 rfl) ?_
    refine lv_iload hx hb dX7_late_44 (lv_at hl 4 rfl) ?_
    refine zm_cvv (As := [.int f1, .int f2, .int s4]) (rest := []) C hG hf (ctm_shows Γ l f1 f2 s4) (lw_V q1799 q1801 qs67 q107 q1802) ytm_shows rfl rfl (Nat.le_of_ble_eq_true rfl) (Nat.le_of_ble_eq_true rfl) hl.1 (Nat.le_of_ble_eq_true rfl) dX7_late_46 (fun S H locs hG hf => ?_)
    refine lv_aload_n hx hb dX7_late_49 rfl (lv_at hl 0 rfl) ?_
    refine zm_gf C hG 26 hf (Nat.le_of_ble_eq_true rfl) rfl q1469 dX7_late_50 (fun v50 hf => ?_)
    refine lv_iload_n hx hb dX7_late_53 rfl (lv_at hl 3 rfl) ?_
    refine lv_icmp_eq (tgt := 60) hx hb dX7_late_54 (by decide) (fun c54 => ?_) (fun c54 => ?_)
    · have hf := z_t c54 hf
      refine z_iinc (fun v => [(4, .int v), (0, .ref (G_m Γ 0)), (1, .int f1), (2, .int f2), (3, .int f3)]) hx hb hf dX7_late_60 hl (k := 4) rfl (Nat.le_of_ble_eq_true rfl) (fun _ => rfl) (fun n60 ls hf hl => ?_)
      refine lv_goto (tgt := 34) hx hb dX7_late_63 (by decide) ?_
      obtain ⟨rfl, rfl⟩ := z_p hf
      exact kk _ _ _ ⟨ls, rfl, lv_sub hl [1, 2, 3, 4, 0] rfl⟩ hG
    · have hf := z_f c54 hf
      obtain ⟨rfl, rfl⟩ := z_p hf
      exact kk _ _ _ ⟨ls, rfl, lv_sub hl [0, 4] rfl⟩ hG
theorem wm_late_l34 (Γ : zG) (l : Launch) (f1 : Int32) (f2 : Int32) (f3 : Int32) : ∀ s : Int32, mRg Γ l yX7_late cX7_late 5 (some .int) 4 95 (m_late_l34 f1 f2 f3 s) (fun m => im_late_l34 Γ f1 f2 f3 m s) (zLE (im_late_l34 Γ f1 f2 f3) (em_late_l34 Γ f1 f2 f3)) := fun s => wm_late_l34_b Γ l f1 f2 f3 s
set_option maxHeartbeats 4000000 in
theorem wm_late (Γ : zG) (l : Launch) (a1 : Int32) (a2 : Int32) : mRg Γ l yX7_late cX7_late 5 (some .int) 4 95 (m_late a1 a2) (zAt0 5 0 (lv_args 0 [.ref (G_m Γ 0), .int a1, .int a2]) []) (zLi cX7_late) := by
  intro p e R s m args below meth c Q A S H locs x S' g C hG hI hf kk
  obtain ⟨ls, rfl, hl⟩ := hI
  obtain ⟨⟨hx, hb, hml, hown, hts⟩, hr, hlk, hK, hR1, hR2⟩ := id C
  have C : zCx Γ p R s m args meth c cX7_late 5 RX7 (some .int) 4 95 := C
  have hl : lv_has ls 5 [(0, .ref (G_m Γ 0)), (1, .int a1), (2, .int a2)] := hl
  refine lv_aload_n hx hb dX7_late_0 rfl (lv_at hl 0 rfl) ?_
  refine lv_iload_n hx hb dX7_late_1 rfl (lv_at hl 1 rfl) ?_
  refine zm_cvi (As := [.int a1]) (rest := []) C hG hf (ctm_isPage Γ l a1) (lw_V q1701 q1703 qs54 q107 q1704) ytm_isPage rfl rfl (Nat.le_of_ble_eq_true rfl) (Nat.le_of_ble_eq_true rfl) hl.1 (Nat.le_of_ble_eq_true rfl) dX7_late_2 (fun v2 S H locs hG hf => ?_)
  refine lv_if_eq (tgt := 17) hx hb dX7_late_5 (by decide) (fun c5 => ?_) (fun c5 => ?_)
  · have hf := z_t c5 hf
    refine lv_iconst (v := zi (-1)) hx hb dX7_late_17 rfl ?_
    obtain ⟨rfl, rfl⟩ := z_p hf
    exact kk _ _ _ ⟨_, _, rfl, dX7_late_18⟩ hG
  · have hf := z_f c5 hf
    refine lv_iload_n hx hb dX7_late_8 rfl (lv_at hl 2 rfl) ?_
    refine lv_iconst (v := zi 0) hx hb dX7_late_9 rfl ?_
    refine lv_iconst (v := zi 3) hx hb dX7_late_10 rfl ?_
    refine zm_csi (As := [.int a2, .int (zi 0), .int (zi 3)]) (rest := []) C hG hf (ctm_isIn Γ l a2 (zi 0) (zi 3)) (lw_S q1612 q1613 q107 q1614) ytm_isIn rfl rfl (Nat.le_of_ble_eq_true rfl) (Nat.le_of_ble_eq_true rfl) hl.1 (Nat.le_of_ble_eq_true rfl) dX7_late_11 (fun v11 S H locs hG hf => ?_)
    refine lv_if_ne (tgt := 19) hx hb dX7_late_14 (by decide) (fun c14 => ?_) (fun c14 => ?_)
    · have hf := z_f c14 hf
      refine lv_aload_n hx hb dX7_late_19 rfl (lv_at hl 0 rfl) ?_
      refine lv_iload_n hx hb dX7_late_20 rfl (lv_at hl 1 rfl) ?_
      refine lv_iload_n hx hb dX7_late_21 rfl (lv_at hl 2 rfl) ?_
      refine lv_iconst (v := zi 0) hx hb dX7_late_22 rfl ?_
      refine zm_cvv (As := [.int a1, .int a2, .int (zi 0)]) (rest := []) C hG hf (ctm_shows Γ l a1 a2 (zi 0)) (lw_V q1799 q1801 qs67 q107 q1802) ytm_shows rfl rfl (Nat.le_of_ble_eq_true rfl) (Nat.le_of_ble_eq_true rfl) hl.1 (Nat.le_of_ble_eq_true rfl) dX7_late_23 (fun S H locs hG hf => ?_)
      refine lv_aload_n hx hb dX7_late_26 rfl (lv_at hl 0 rfl) ?_
      refine zm_gf C hG 26 hf (Nat.le_of_ble_eq_true rfl) rfl q1469 dX7_late_27 (fun v27 hf => ?_)
      refine lv_istore_n (lv' := [(3, .int v27), (0, .ref (G_m Γ 0)), (1, .int a1), (2, .int a2)]) hx hb dX7_late_30 rfl hl (Nat.le_of_ble_eq_true rfl) rfl (fun ls hl => ?_)
      refine lv_iconst (v := zi 1) hx hb dX7_late_31 rfl ?_
      refine lv_istore (lv' := [(4, .int (zi 1)), (3, .int v27), (0, .ref (G_m Γ 0)), (1, .int a1), (2, .int a2)]) hx hb dX7_late_32 hl (Nat.le_of_ble_eq_true rfl) rfl (fun ls hl => ?_)
      obtain ⟨e34, S, hlp, hf⟩ := nB_some hf
      refine mRg.loop (wm_late_l34 Γ l a1 a2 v27) (zi 1) p e R s m args below meth c Q A _ _ _ _ _ _ C hG ⟨ls, rfl, lv_sub hl [2, 3, 4, 1, 0] rfl⟩ hlp (fun H locs g hL hG => ?_)
      rcases e34 with e34 | e34
      · have hf := z_dl hf
        obtain ⟨ls, rfl, hl⟩ := hL
        have hl : lv_has ls 5 [(0, .ref (G_m Γ 0)), (4, .int e34)] := hl
        refine lv_iload hx hb dX7_late_57 (lv_at hl 1 rfl) ?_
        obtain ⟨rfl, rfl⟩ := z_p hf
        exact kk _ _ _ ⟨_, _, rfl, dX7_late_59⟩ hG
      · have hf := z_dr hf
        obtain ⟨ls, rfl, hl⟩ := hL
        have hl : lv_has ls 5 [(0, .ref (G_m Γ 0))] := hl
        refine lv_iconst (v := zi (-1)) hx hb dX7_late_66 rfl ?_
        obtain ⟨rfl, rfl⟩ := z_p hf
        exact kk _ _ _ ⟨_, _, rfl, dX7_late_67⟩ hG
    · have hf := z_t c14 hf
      refine lv_iconst (v := zi (-1)) hx hb dX7_late_17 rfl ?_
      obtain ⟨rfl, rfl⟩ := z_p hf
      exact kk _ _ _ ⟨_, _, rfl, dX7_late_18⟩ hG
theorem ctm_late (Γ : zG) (l : Launch) (a1 : Int32) (a2 : Int32) : mCt Γ l yX7_late (ws_ yX7_late cX7_late 5 (some .int)) 4 95 [.ref (G_m Γ 0), .int a1, .int a2] (m_late a1 a2) zoi := mCt.mki (by decide +kernel) (Nat.le_of_ble_eq_true rfl) (wm_late Γ l a1 a2)
theorem ytm_late : yX7_late.cls = RX7 ∧ yX7_late.cls ≠ "java/lang/invoke/MethodHandle" ∧ yX7_late.cls ≠ "java/lang/invoke/VarHandle" ∧ (parseMethodDescriptor yX7_late.desc).map (fun d => d.parameters.length) = some 2 := by decide +kernel
set_option maxHeartbeats 4000000 in
theorem wm_keep_j79 (Γ : zG) (l : Launch) (t0 : Int32) (t1 : Int32) : mRg Γ l yX7_keep cX7_keep 5 (some .int) 2 43 (m_keep_j79 t0 t1) (zAt0 5 79 [(0, .ref (G_m Γ 0))] [.int t0, .int t1, .ref (G_m Γ (0 + 1))]) (zLi cX7_keep) := by
  intro p e R s m args below meth c Q A S H locs x S' g C hG hI hf kk
  obtain ⟨ls, rfl, hl⟩ := hI
  obtain ⟨⟨hx, hb, hml, hown, hts⟩, hr, hlk, hK, hR1, hR2⟩ := id C
  have C : zCx Γ p R s m args meth c cX7_keep 5 RX7 (some .int) 2 43 := C
  refine zm_as C hG 0 hf (Nat.le_of_ble_eq_true rfl) rfl dX7_keep_79 (fun S H locs hG hf => ?_)
  refine lv_aload_n hx hb dX7_keep_80 rfl (lv_at hl 0 rfl) ?_
  refine zm_ga C hG 0 (Nat.le_of_ble_eq_true rfl) (by decide) q1443 dX7_keep_81 ?_
  refine lv_iconst (v := zi 2) hx hb dX7_keep_84 rfl ?_
  refine lv_dup2_11 hx hb dX7_keep_85 rfl rfl ?_
  refine zm_al C hG 0 hf (Nat.le_of_ble_eq_true rfl) rfl dX7_keep_86 (fun v86 hf => ?_)
  refine lv_iconst (v := zi 1) hx hb dX7_keep_87 rfl ?_
  refine lv_iadd hx hb dX7_keep_88 ?_
  refine zm_as C hG 0 hf (Nat.le_of_ble_eq_true rfl) rfl dX7_keep_89 (fun S H locs hG hf => ?_)
  refine lv_aload_n hx hb dX7_keep_90 rfl (lv_at hl 0 rfl) ?_
  refine zm_ga C hG 0 (Nat.le_of_ble_eq_true rfl) (by decide) q1443 dX7_keep_91 ?_
  refine lv_iconst (v := zi 2) hx hb dX7_keep_94 rfl ?_
  refine zm_al C hG 0 hf (Nat.le_of_ble_eq_true rfl) rfl dX7_keep_95 (fun v95 hf => ?_)
  refine lv_iconst (v := zi 1) hx hb dX7_keep_96 rfl ?_
  refine lv_isub hx hb dX7_keep_97 ?_
  obtain ⟨rfl, rfl⟩ := z_p hf
  exact kk _ _ _ ⟨_, _, rfl, dX7_keep_98⟩ hG
set_option maxHeartbeats 4000000 in
theorem wm_keep (Γ : zG) (l : Launch) (a1 : Int32) (a2 : Int32) (a3 : Int32) : mRg Γ l yX7_keep cX7_keep 5 (some .int) 2 43 (m_keep a1 a2 a3) (zAt0 5 0 (lv_args 0 [.ref (G_m Γ 0), .int a1, .int a2, .int a3]) []) (zLi cX7_keep) := by
  intro p e R s m args below meth c Q A S H locs x S' g C hG hI hf kk
  obtain ⟨ls, rfl, hl⟩ := hI
  obtain ⟨⟨hx, hb, hml, hown, hts⟩, hr, hlk, hK, hR1, hR2⟩ := id C
  have C : zCx Γ p R s m args meth c cX7_keep 5 RX7 (some .int) 2 43 := C
  have hl : lv_has ls 5 [(0, .ref (G_m Γ 0)), (1, .int a1), (2, .int a2), (3, .int a3)] := hl
  refine lv_aload_n hx hb dX7_keep_0 rfl (lv_at hl 0 rfl) ?_
  refine zm_ga C hG 0 (Nat.le_of_ble_eq_true rfl) (by decide) q1443 dX7_keep_1 ?_
  refine lv_iconst (v := zi 2) hx hb dX7_keep_4 rfl ?_
  refine zm_al C hG 0 hf (Nat.le_of_ble_eq_true rfl) rfl dX7_keep_5 (fun v5 hf => ?_)
  refine lv_bipush (v := zi 16) hx hb dX7_keep_6 (by decide +kernel) ?_
  refine lv_icmp_eq (tgt := 29) hx hb dX7_keep_8 (by decide) (fun c8 => ?_) (fun c8 => ?_)
  · have hf := z_t c8 hf
    refine lv_iconst (v := zi (-1)) hx hb dX7_keep_29 rfl ?_
    obtain ⟨rfl, rfl⟩ := z_p hf
    exact kk _ _ _ ⟨_, _, rfl, dX7_keep_30⟩ hG
  · have hf := z_f c8 hf
    refine lv_aload_n hx hb dX7_keep_11 rfl (lv_at hl 0 rfl) ?_
    refine lv_iload_n hx hb dX7_keep_12 rfl (lv_at hl 1 rfl) ?_
    refine zm_cvi (As := [.int a1]) (rest := []) C hG hf (ctm_isPage Γ l a1) (lw_V q1701 q1703 qs54 q107 q1704) ytm_isPage rfl rfl (Nat.le_of_ble_eq_true rfl) (Nat.le_of_ble_eq_true rfl) hl.1 (Nat.le_of_ble_eq_true rfl) dX7_keep_13 (fun v13 S H locs hG hf => ?_)
    refine lv_if_eq (tgt := 29) hx hb dX7_keep_16 (by decide) (fun c16 => ?_) (fun c16 => ?_)
    · have hf := z_t c16 hf
      refine lv_iconst (v := zi (-1)) hx hb dX7_keep_29 rfl ?_
      obtain ⟨rfl, rfl⟩ := z_p hf
      exact kk _ _ _ ⟨_, _, rfl, dX7_keep_30⟩ hG
    · have hf := z_f c16 hf
      refine lv_iload_n hx hb dX7_keep_19 rfl (lv_at hl 2 rfl) ?_
      refine lv_iconst (v := zi 0) hx hb dX7_keep_20 rfl ?_
      refine lv_bipush (v := zi 99) hx hb dX7_keep_21 (by decide +kernel) ?_
      refine zm_csi (As := [.int a2, .int (zi 0), .int (zi 99)]) (rest := []) C hG hf (ctm_isIn Γ l a2 (zi 0) (zi 99)) (lw_S q1612 q1613 q107 q1614) ytm_isIn rfl rfl (Nat.le_of_ble_eq_true rfl) (Nat.le_of_ble_eq_true rfl) hl.1 (Nat.le_of_ble_eq_true rfl) dX7_keep_23 (fun v23 S H locs hG hf => ?_)
      refine lv_if_ne (tgt := 31) hx hb dX7_keep_26 (by decide) (fun c26 => ?_) (fun c26 => ?_)
      · have hf := z_f c26 hf
        refine lv_bipush (v := zi 20) hx hb dX7_keep_31 (by decide +kernel) ?_
        refine lv_iconst (v := zi 3) hx hb dX7_keep_33 rfl ?_
        refine lv_aload_n hx hb dX7_keep_34 rfl (lv_at hl 0 rfl) ?_
        refine zm_ga C hG 0 (Nat.le_of_ble_eq_true rfl) (by decide) q1443 dX7_keep_35 ?_
        refine lv_iconst (v := zi 2) hx hb dX7_keep_38 rfl ?_
        refine zm_al C hG 0 hf (Nat.le_of_ble_eq_true rfl) rfl dX7_keep_39 (fun v39 hf => ?_)
        refine lv_imul hx hb dX7_keep_40 ?_
        refine lv_iadd hx hb dX7_keep_41 ?_
        refine z_top hf (fun n42 hf => ?_)
        refine lv_istore (lv' := [(4, .int n42), (0, .ref (G_m Γ 0)), (1, .int a1), (2, .int a2), (3, .int a3)]) hx hb dX7_keep_42 hl (Nat.le_of_ble_eq_true rfl) rfl (fun ls hl => ?_)
        refine lv_aload_n hx hb dX7_keep_44 rfl (lv_at hl 1 rfl) ?_
        refine zm_ga C hG 0 (Nat.le_of_ble_eq_true rfl) (by decide) q1443 dX7_keep_45 ?_
        refine lv_iload hx hb dX7_keep_48 (lv_at hl 0 rfl) ?_
        refine lv_iload_n hx hb dX7_keep_50 rfl (lv_at hl 2 rfl) ?_
        refine zm_as C hG 0 hf (Nat.le_of_ble_eq_true rfl) rfl dX7_keep_51 (fun S H locs hG hf => ?_)
        refine lv_aload_n hx hb dX7_keep_52 rfl (lv_at hl 1 rfl) ?_
        refine zm_ga C hG 0 (Nat.le_of_ble_eq_true rfl) (by decide) q1443 dX7_keep_53 ?_
        refine lv_iload hx hb dX7_keep_56 (lv_at hl 0 rfl) ?_
        refine lv_iconst (v := zi 1) hx hb dX7_keep_58 rfl ?_
        refine lv_iadd hx hb dX7_keep_59 ?_
        refine lv_iload_n hx hb dX7_keep_60 rfl (lv_at hl 3 rfl) ?_
        refine zm_as C hG 0 hf (Nat.le_of_ble_eq_true rfl) rfl dX7_keep_61 (fun S H locs hG hf => ?_)
        refine lv_aload_n hx hb dX7_keep_62 rfl (lv_at hl 1 rfl) ?_
        refine zm_ga C hG 0 (Nat.le_of_ble_eq_true rfl) (by decide) q1443 dX7_keep_63 ?_
        refine lv_iload hx hb dX7_keep_66 (lv_at hl 0 rfl) ?_
        refine lv_iconst (v := zi 2) hx hb dX7_keep_68 rfl ?_
        refine lv_iadd hx hb dX7_keep_69 ?_
        refine lv_iload_n hx hb dX7_keep_70 rfl (lv_at hl 4 rfl) ?_
        refine lv_if_eq (tgt := 78) hx hb dX7_keep_71 (by decide) (fun c71 => ?_) (fun c71 => ?_)
        · have hf := z_t c71 hf
          refine lv_iconst (v := zi 0) hx hb dX7_keep_78 rfl ?_
          exact wm_keep_j79 Γ l (zi 0) (n42 + (zi 2)) p e R s m args below meth c Q A _ _ _ _ _ _ C hG ⟨ls, rfl, lv_sub hl [1] rfl⟩ hf kk
        · have hf := z_f c71 hf
          refine lv_iconst (v := zi 1) hx hb dX7_keep_74 rfl ?_
          refine lv_goto (tgt := 79) hx hb dX7_keep_75 (by decide) ?_
          exact wm_keep_j79 Γ l (zi 1) (n42 + (zi 2)) p e R s m args below meth c Q A _ _ _ _ _ _ C hG ⟨ls, rfl, lv_sub hl [1] rfl⟩ hf kk
      · have hf := z_t c26 hf
        refine lv_iconst (v := zi (-1)) hx hb dX7_keep_29 rfl ?_
        obtain ⟨rfl, rfl⟩ := z_p hf
        exact kk _ _ _ ⟨_, _, rfl, dX7_keep_30⟩ hG
theorem ctm_keep (Γ : zG) (l : Launch) (a1 : Int32) (a2 : Int32) (a3 : Int32) : mCt Γ l yX7_keep (ws_ yX7_keep cX7_keep 5 (some .int)) 2 43 [.ref (G_m Γ 0), .int a1, .int a2, .int a3] (m_keep a1 a2 a3) zoi := mCt.mki (by decide +kernel) (Nat.le_of_ble_eq_true rfl) (wm_keep Γ l a1 a2 a3)
theorem ytm_keep : yX7_keep.cls = RX7 ∧ yX7_keep.cls ≠ "java/lang/invoke/MethodHandle" ∧ yX7_keep.cls ≠ "java/lang/invoke/VarHandle" ∧ (parseMethodDescriptor yX7_keep.desc).map (fun d => d.parameters.length) = some 3 := by decide +kernel
def im_weighs_l2 (Γ : zG) (m : MethodId) (s : Int32) (g : JFrame) : Prop := zAt0 3 2 [(0, .ref (G_m Γ 0)), (1, .int s)] [] m g
def em_weighs_l2 (Γ : zG) (m : MethodId) (e : Unit) (g : JFrame) : Prop := zAt0 3 133 [(0, .ref (G_m Γ 0))] [] m g
set_option maxHeartbeats 4000000 in
theorem wm_weighs_l2_j126 (Γ : zG) (l : Launch) (b1 : Int32) (t0 : Int32) (t1 : Int32) : mRg Γ l yX7_weighs cX7_weighs 3 none 6 145 (m_weighs_l2_j126 b1 t0 t1) (zAt0 3 126 [(0, .ref (G_m Γ 0)), (1, .int b1)] [.int t0, .int t1, .ref (G_m Γ (37 + 1))]) (zLE (im_weighs_l2 Γ) (em_weighs_l2 Γ)) := by
  intro p e R s m args below meth c Q A S H locs x S' g C hG hI hf kk
  obtain ⟨ls, rfl, hl⟩ := hI
  obtain ⟨⟨hx, hb, hml, hown, hts⟩, hr, hlk, hK, hR1, hR2⟩ := id C
  have C : zCx Γ p R s m args meth c cX7_weighs 3 RX7 none 6 145 := C
  refine zm_as C hG 37 hf (Nat.le_of_ble_eq_true rfl) rfl dX7_weighs_126 (fun S H locs hG hf => ?_)
  refine z_iinc (fun v => [(1, .int v), (0, .ref (G_m Γ 0))]) hx hb hf dX7_weighs_127 hl (k := 1) rfl (Nat.le_of_ble_eq_true rfl) (fun _ => rfl) (fun n127 ls hf hl => ?_)
  refine lv_goto (tgt := 2) hx hb dX7_weighs_130 (by decide) ?_
  obtain ⟨rfl, rfl⟩ := z_p hf
  exact kk _ _ _ ⟨ls, rfl, lv_sub hl [1, 0] rfl⟩ hG
set_option maxHeartbeats 4000000 in
theorem wm_weighs_l2_j79 (Γ : zG) (l : Launch) (b1 : Int32) (b2 : Int32) (t0 : Int32) (t1 : Int32) : mRg Γ l yX7_weighs cX7_weighs 3 none 6 145 (m_weighs_l2_j79 b1 b2 t0 t1) (zAt0 3 79 [(0, .ref (G_m Γ 0)), (1, .int b1), (2, .int b2)] [.int t0, .int t1, .ref (G_m Γ (35 + 1))]) (zLE (im_weighs_l2 Γ) (em_weighs_l2 Γ)) := by
  intro p e R s m args below meth c Q A S H locs x S' g C hG hI hf kk
  obtain ⟨ls, rfl, hl⟩ := hI
  obtain ⟨⟨hx, hb, hml, hown, hts⟩, hr, hlk, hK, hR1, hR2⟩ := id C
  have C : zCx Γ p R s m args meth c cX7_weighs 3 RX7 none 6 145 := C
  refine zm_as C hG 35 hf (Nat.le_of_ble_eq_true rfl) rfl dX7_weighs_79 (fun S H locs hG hf => ?_)
  refine lv_aload_n hx hb dX7_weighs_80 rfl (lv_at hl 0 rfl) ?_
  refine zm_ga C hG 36 (Nat.le_of_ble_eq_true rfl) (by decide) q1479 dX7_weighs_81 ?_
  refine lv_iload_n hx hb dX7_weighs_84 rfl (lv_at hl 1 rfl) ?_
  refine lv_aload_n hx hb dX7_weighs_85 rfl (lv_at hl 0 rfl) ?_
  refine zm_gf C hG 33 hf (Nat.le_of_ble_eq_true rfl) rfl q1476 dX7_weighs_86 (fun v86 hf => ?_)
  refine zm_as C hG 36 hf (Nat.le_of_ble_eq_true rfl) rfl dX7_weighs_89 (fun S H locs hG hf => ?_)
  refine lv_aload_n hx hb dX7_weighs_90 rfl (lv_at hl 0 rfl) ?_
  refine zm_ga C hG 37 (Nat.le_of_ble_eq_true rfl) (by decide) q1480 dX7_weighs_91 ?_
  refine lv_iload_n hx hb dX7_weighs_94 rfl (lv_at hl 1 rfl) ?_
  refine lv_aload_n hx hb dX7_weighs_95 rfl (lv_at hl 0 rfl) ?_
  refine zm_gf C hG 34 hf (Nat.le_of_ble_eq_true rfl) rfl q1477 dX7_weighs_96 (fun v96 hf => ?_)
  refine lv_if_eq (tgt := 123) hx hb dX7_weighs_99 (by decide) (fun c99 => ?_) (fun c99 => ?_)
  · have hf := z_t c99 hf
    refine lv_sipush (v := zi 999) hx hb dX7_weighs_123 (by decide +kernel) ?_
    exact wm_weighs_l2_j126 Γ l b1 (zi 999) b1 p e R s m args below meth c Q A _ _ _ _ _ _ C hG ⟨ls, rfl, lv_sub hl [0, 1] rfl⟩ hf kk
  · have hf := z_f c99 hf
    refine lv_aload_n hx hb dX7_weighs_102 rfl (lv_at hl 0 rfl) ?_
    refine lv_aload_n hx hb dX7_weighs_103 rfl (lv_at hl 0 rfl) ?_
    refine zm_ga C hG 0 (Nat.le_of_ble_eq_true rfl) (by decide) q1443 dX7_weighs_104 ?_
    refine lv_iload_n hx hb dX7_weighs_107 rfl (lv_at hl 2 rfl) ?_
    refine zm_al C hG 0 hf (Nat.le_of_ble_eq_true rfl) rfl dX7_weighs_108 (fun v108 hf => ?_)
    refine lv_aload_n hx hb dX7_weighs_109 rfl (lv_at hl 0 rfl) ?_
    refine zm_ga C hG 0 (Nat.le_of_ble_eq_true rfl) (by decide) q1443 dX7_weighs_110 ?_
    refine lv_iload_n hx hb dX7_weighs_113 rfl (lv_at hl 2 rfl) ?_
    refine lv_iconst (v := zi 1) hx hb dX7_weighs_114 rfl ?_
    refine lv_iadd hx hb dX7_weighs_115 ?_
    refine zm_al C hG 0 hf (Nat.le_of_ble_eq_true rfl) rfl dX7_weighs_116 (fun v116 hf => ?_)
    refine zm_cvi (As := [.int v108, .int v116]) (rest := [.int b1, .ref (G_m Γ (37 + 1))]) C hG hf (ctm_ageOf Γ l v108 v116) (lw_V q1843 q1845 qs73 q107 q1846) ytm_ageOf rfl rfl (Nat.le_of_ble_eq_true rfl) (Nat.le_of_ble_eq_true rfl) hl.1 (Nat.le_of_ble_eq_true rfl) dX7_weighs_117 (fun v117 S H locs hG hf => ?_)
    refine lv_goto (tgt := 126) hx hb dX7_weighs_120 (by decide) ?_
    exact wm_weighs_l2_j126 Γ l b1 v117 b1 p e R s m args below meth c Q A _ _ _ _ _ _ C hG ⟨ls, rfl, lv_sub hl [0, 1] rfl⟩ hf kk
set_option maxHeartbeats 4000000 in
theorem wm_weighs_l2_b (Γ : zG) (l : Launch) (s1 : Int32) : mRg Γ l yX7_weighs cX7_weighs 3 none 6 145 (m_weighs_l2 s1) (zAt0 3 2 [(0, .ref (G_m Γ 0)), (1, .int s1)] []) (zLE (im_weighs_l2 Γ) (em_weighs_l2 Γ)) := by
  intro p e R s m args below meth c Q A S H locs x S' g C hG hI hf kk
  obtain ⟨ls, rfl, hl⟩ := hI
  obtain ⟨⟨hx, hb, hml, hown, hts⟩, hr, hlk, hK, hR1, hR2⟩ := id C
  have C : zCx Γ p R s m args meth c cX7_weighs 3 RX7 none 6 145 := C
  refine lv_iload_n hx hb dX7_weighs_2 rfl (lv_at hl 1 rfl) ?_
  refine lv_aload_n hx hb dX7_weighs_3 rfl (lv_at hl 0 rfl) ?_
  refine zm_ga C hG 0 (Nat.le_of_ble_eq_true rfl) (by decide) q1443 dX7_weighs_4 ?_
  refine lv_iconst (v := zi 2) hx hb dX7_weighs_7 rfl ?_
  refine zm_al C hG 0 hf (Nat.le_of_ble_eq_true rfl) rfl dX7_weighs_8 (fun v8 hf => ?_)
  refine lv_icmp_ge (tgt := 133) hx hb dX7_weighs_9 (by decide) (fun c9 => ?_) (fun c9 => ?_)
  · have hf := z_t c9 hf
    obtain ⟨rfl, rfl⟩ := z_p hf
    exact kk _ _ _ ⟨ls, rfl, lv_sub hl [0] rfl⟩ hG
  · have hf := z_f c9 hf
    refine lv_bipush (v := zi 20) hx hb dX7_weighs_12 (by decide +kernel) ?_
    refine lv_iconst (v := zi 3) hx hb dX7_weighs_14 rfl ?_
    refine lv_iload_n hx hb dX7_weighs_15 rfl (lv_at hl 1 rfl) ?_
    refine lv_imul hx hb dX7_weighs_16 ?_
    refine lv_iadd hx hb dX7_weighs_17 ?_
    refine z_top hf (fun n18 hf => ?_)
    refine lv_istore_n (lv' := [(2, .int n18), (0, .ref (G_m Γ 0)), (1, .int s1)]) hx hb dX7_weighs_18 rfl hl (Nat.le_of_ble_eq_true rfl) rfl (fun ls hl => ?_)
    refine lv_aload_n hx hb dX7_weighs_19 rfl (lv_at hl 1 rfl) ?_
    refine lv_aload_n hx hb dX7_weighs_20 rfl (lv_at hl 1 rfl) ?_
    refine zm_ga C hG 0 (Nat.le_of_ble_eq_true rfl) (by decide) q1443 dX7_weighs_21 ?_
    refine lv_iload_n hx hb dX7_weighs_24 rfl (lv_at hl 0 rfl) ?_
    refine zm_al C hG 0 hf (Nat.le_of_ble_eq_true rfl) rfl dX7_weighs_25 (fun v25 hf => ?_)
    refine lv_iconst (v := zi 0) hx hb dX7_weighs_26 rfl ?_
    refine lv_aload_n hx hb dX7_weighs_27 rfl (lv_at hl 1 rfl) ?_
    refine zm_ga C hG 0 (Nat.le_of_ble_eq_true rfl) (by decide) q1443 dX7_weighs_28 ?_
    refine lv_iload_n hx hb dX7_weighs_31 rfl (lv_at hl 0 rfl) ?_
    refine lv_iconst (v := zi 1) hx hb dX7_weighs_32 rfl ?_
    refine lv_iadd hx hb dX7_weighs_33 ?_
    refine zm_al C hG 0 hf (Nat.le_of_ble_eq_true rfl) rfl dX7_weighs_34 (fun v34 hf => ?_)
    refine zm_cvv (As := [.int v25, .int (zi 0), .int v34]) (rest := []) C hG hf (ctm_shows Γ l v25 (zi 0) v34) (lw_V q1799 q1801 qs67 q107 q1802) ytm_shows rfl rfl (Nat.le_of_ble_eq_true rfl) (Nat.le_of_ble_eq_true rfl) hl.1 (Nat.le_of_ble_eq_true rfl) dX7_weighs_35 (fun S H locs hG hf => ?_)
    refine lv_aload_n hx hb dX7_weighs_38 rfl (lv_at hl 1 rfl) ?_
    refine lv_aload_n hx hb dX7_weighs_39 rfl (lv_at hl 1 rfl) ?_
    refine zm_ga C hG 0 (Nat.le_of_ble_eq_true rfl) (by decide) q1443 dX7_weighs_40 ?_
    refine lv_iload_n hx hb dX7_weighs_43 rfl (lv_at hl 0 rfl) ?_
    refine zm_al C hG 0 hf (Nat.le_of_ble_eq_true rfl) rfl dX7_weighs_44 (fun v44 hf => ?_)
    refine lv_iconst (v := zi 0) hx hb dX7_weighs_45 rfl ?_
    refine lv_aload_n hx hb dX7_weighs_46 rfl (lv_at hl 1 rfl) ?_
    refine zm_ga C hG 0 (Nat.le_of_ble_eq_true rfl) (by decide) q1443 dX7_weighs_47 ?_
    refine lv_iload_n hx hb dX7_weighs_50 rfl (lv_at hl 0 rfl) ?_
    refine lv_iconst (v := zi 1) hx hb dX7_weighs_51 rfl ?_
    refine lv_iadd hx hb dX7_weighs_52 ?_
    refine zm_al C hG 0 hf (Nat.le_of_ble_eq_true rfl) rfl dX7_weighs_53 (fun v53 hf => ?_)
    refine zm_cvv (As := [.int v44, .int (zi 0), .int v53]) (rest := []) C hG hf (ctm_judges Γ l v44 (zi 0) v53) (lw_V q1835 q1837 qs71 q107 q1838) ytm_judges rfl rfl (Nat.le_of_ble_eq_true rfl) (Nat.le_of_ble_eq_true rfl) hl.1 (Nat.le_of_ble_eq_true rfl) dX7_weighs_54 (fun S H locs hG hf => ?_)
    refine lv_aload_n hx hb dX7_weighs_57 rfl (lv_at hl 1 rfl) ?_
    refine zm_ga C hG 35 (Nat.le_of_ble_eq_true rfl) (by decide) q1478 dX7_weighs_58 ?_
    refine lv_iload_n hx hb dX7_weighs_61 rfl (lv_at hl 2 rfl) ?_
    refine lv_aload_n hx hb dX7_weighs_62 rfl (lv_at hl 1 rfl) ?_
    refine zm_gf C hG 31 hf (Nat.le_of_ble_eq_true rfl) rfl q1474 dX7_weighs_63 (fun v63 hf => ?_)
    refine lv_if_ge (tgt := 75) hx hb dX7_weighs_66 (by decide) (fun c66 => ?_) (fun c66 => ?_)
    · have hf := z_t c66 hf
      refine lv_aload_n hx hb dX7_weighs_75 rfl (lv_at hl 1 rfl) ?_
      refine zm_gf C hG 32 hf (Nat.le_of_ble_eq_true rfl) rfl q1475 dX7_weighs_76 (fun v76 hf => ?_)
      exact wm_weighs_l2_j79 Γ l s1 n18 v76 s1 p e R s m args below meth c Q A _ _ _ _ _ _ C hG ⟨ls, rfl, lv_sub hl [1, 2, 0] rfl⟩ hf kk
    · have hf := z_f c66 hf
      refine lv_sipush (v := zi 999) hx hb dX7_weighs_69 (by decide +kernel) ?_
      refine lv_goto (tgt := 79) hx hb dX7_weighs_72 (by decide) ?_
      exact wm_weighs_l2_j79 Γ l s1 n18 (zi 999) s1 p e R s m args below meth c Q A _ _ _ _ _ _ C hG ⟨ls, rfl, lv_sub hl [1, 2, 0] rfl⟩ hf kk
theorem wm_weighs_l2 (Γ : zG) (l : Launch) : ∀ s : Int32, mRg Γ l yX7_weighs cX7_weighs 3 none 6 145 (m_weighs_l2 s) (fun m => im_weighs_l2 Γ m s) (zLE (im_weighs_l2 Γ) (em_weighs_l2 Γ)) := fun s => wm_weighs_l2_b Γ l s
set_option maxHeartbeats 4000000 in
theorem wm_weighs (Γ : zG) (l : Launch) : mRg Γ l yX7_weighs cX7_weighs 3 none 6 145 (m_weighs) (zAt0 3 0 (lv_args 0 [.ref (G_m Γ 0)]) []) (zLv cX7_weighs) := by
  intro p e R s m args below meth c Q A S H locs x S' g C hG hI hf kk
  obtain ⟨ls, rfl, hl⟩ := hI
  obtain ⟨⟨hx, hb, hml, hown, hts⟩, hr, hlk, hK, hR1, hR2⟩ := id C
  have C : zCx Γ p R s m args meth c cX7_weighs 3 RX7 none 6 145 := C
  have hl : lv_has ls 3 [(0, .ref (G_m Γ 0))] := hl
  refine lv_iconst (v := zi 0) hx hb dX7_weighs_0 rfl ?_
  refine lv_istore_n (lv' := [(1, .int (zi 0)), (0, .ref (G_m Γ 0))]) hx hb dX7_weighs_1 rfl hl (Nat.le_of_ble_eq_true rfl) rfl (fun ls hl => ?_)
  obtain ⟨e2, S, hlp, hf⟩ := nB_some hf
  refine mRg.loop (wm_weighs_l2 Γ l) (zi 0) p e R s m args below meth c Q A _ _ _ _ _ _ C hG ⟨ls, rfl, lv_sub hl [1, 0] rfl⟩ hlp (fun H locs g hL hG => ?_)
  obtain ⟨ls, rfl, hl⟩ := hL
  have hl : lv_has ls 3 [(0, .ref (G_m Γ 0))] := hl
  obtain ⟨rfl, rfl⟩ := z_p hf
  exact kk _ _ _ ⟨_, _, rfl, dX7_weighs_133⟩ hG
theorem ctm_weighs (Γ : zG) (l : Launch) : mCt Γ l yX7_weighs (ws_ yX7_weighs cX7_weighs 3 none) 6 145 [.ref (G_m Γ 0)] (m_weighs) zov := mCt.mkv (by decide +kernel) (Nat.le_of_ble_eq_true rfl) (wm_weighs Γ l)
theorem ytm_weighs : yX7_weighs.cls = RX7 ∧ yX7_weighs.cls ≠ "java/lang/invoke/MethodHandle" ∧ yX7_weighs.cls ≠ "java/lang/invoke/VarHandle" ∧ (parseMethodDescriptor yX7_weighs.desc).map (fun d => d.parameters.length) = some 0 := by decide +kernel
set_option maxHeartbeats 4000000 in
theorem wm_tells_j74 (Γ : zG) (l : Launch) (t0 : Int32) (t1 : Int32) : mRg Γ l yX7_tells cX7_tells 4 (some .boolean) 0 0 (m_tells_j74 t0 t1) (zAt0 4 74 [(0, .ref (G_m Γ 0))] [.int t0, .int t1]) (zLz cX7_tells) := by
  intro p e R s m args below meth c Q A S H locs x S' g C hG hI hf kk
  obtain ⟨ls, rfl, hl⟩ := hI
  obtain ⟨⟨hx, hb, hml, hown, hts⟩, hr, hlk, hK, hR1, hR2⟩ := id C
  have C : zCx Γ p R s m args meth c cX7_tells 4 RX7 (some .boolean) 0 0 := C
  refine lv_icmp_gt (tgt := 81) hx hb dX7_tells_74 (by decide) (fun c74 => ?_) (fun c74 => ?_)
  · have hf := z_t c74 hf
    refine lv_iconst (v := zi 0) hx hb dX7_tells_81 rfl ?_
    obtain ⟨rfl, rfl⟩ := z_p hf
    exact kk _ _ _ ⟨_, _, rfl, dX7_tells_82, Or.inl rfl⟩ hG
  · have hf := z_f c74 hf
    refine lv_iconst (v := zi 1) hx hb dX7_tells_77 rfl ?_
    refine lv_goto (tgt := 82) hx hb dX7_tells_78 (by decide) ?_
    obtain ⟨rfl, rfl⟩ := z_p hf
    exact kk _ _ _ ⟨_, _, rfl, dX7_tells_82, Or.inr rfl⟩ hG
set_option maxHeartbeats 4000000 in
theorem wm_tells_j43 (Γ : zG) (l : Launch) (b1 : Int32) (t0 : Int32) : mRg Γ l yX7_tells cX7_tells 4 (some .boolean) 0 0 (m_tells_j43 b1 t0) (zAt0 4 43 [(0, .ref (G_m Γ 0)), (1, .int b1)] [.int t0]) (zLz cX7_tells) := by
  intro p e R s m args below meth c Q A S H locs x S' g C hG hI hf kk
  obtain ⟨ls, rfl, hl⟩ := hI
  obtain ⟨⟨hx, hb, hml, hown, hts⟩, hr, hlk, hK, hR1, hR2⟩ := id C
  have C : zCx Γ p R s m args meth c cX7_tells 4 RX7 (some .boolean) 0 0 := C
  refine lv_istore_n (lv' := [(3, .int t0), (0, .ref (G_m Γ 0)), (1, .int b1)]) hx hb dX7_tells_43 rfl hl (Nat.le_of_ble_eq_true rfl) rfl (fun ls hl => ?_)
  refine lv_aload_n hx hb dX7_tells_44 rfl (lv_at hl 1 rfl) ?_
  refine zm_ga C hG 38 (Nat.le_of_ble_eq_true rfl) (by decide) q1481 dX7_tells_45 ?_
  refine lv_iload_n hx hb dX7_tells_48 rfl (lv_at hl 2 rfl) ?_
  refine lv_iload_n hx hb dX7_tells_49 rfl (lv_at hl 0 rfl) ?_
  refine zm_as C hG 38 hf (Nat.le_of_ble_eq_true rfl) rfl dX7_tells_50 (fun S H locs hG hf => ?_)
  refine lv_iload_n hx hb dX7_tells_51 rfl (lv_at hl 0 rfl) ?_
  refine lv_iload_n hx hb dX7_tells_52 rfl (lv_at hl 2 rfl) ?_
  refine lv_if_ne (tgt := 61) hx hb dX7_tells_53 (by decide) (fun c53 => ?_) (fun c53 => ?_)
  · have hf := z_f c53 hf
    refine lv_iload_n hx hb dX7_tells_61 rfl (lv_at hl 2 rfl) ?_
    refine lv_iconst (v := zi 1) hx hb dX7_tells_62 rfl ?_
    refine lv_icmp_ne (tgt := 72) hx hb dX7_tells_63 (by decide) (fun c63 => ?_) (fun c63 => ?_)
    · have hf := z_f c63 hf
      refine lv_bipush (v := zi 99) hx hb dX7_tells_72 (by decide +kernel) ?_
      exact wm_tells_j74 Γ l (zi 99) t0 p e R s m args below meth c Q A _ _ _ _ _ _ C hG ⟨ls, rfl, lv_sub hl [1] rfl⟩ hf kk
    · have hf := z_t c63 hf
      refine lv_sipush (v := zi 200) hx hb dX7_tells_66 (by decide +kernel) ?_
      refine lv_goto (tgt := 74) hx hb dX7_tells_69 (by decide) ?_
      exact wm_tells_j74 Γ l (zi 200) t0 p e R s m args below meth c Q A _ _ _ _ _ _ C hG ⟨ls, rfl, lv_sub hl [1] rfl⟩ hf kk
  · have hf := z_t c53 hf
    refine lv_bipush (v := zi 60) hx hb dX7_tells_56 (by decide +kernel) ?_
    refine lv_goto (tgt := 74) hx hb dX7_tells_58 (by decide) ?_
    exact wm_tells_j74 Γ l (zi 60) t0 p e R s m args below meth c Q A _ _ _ _ _ _ C hG ⟨ls, rfl, lv_sub hl [1] rfl⟩ hf kk
set_option maxHeartbeats 4000000 in
theorem wm_tells (Γ : zG) (l : Launch) (a1 : Int32) (a2 : Int32) : mRg Γ l yX7_tells cX7_tells 4 (some .boolean) 0 0 (m_tells a1 a2) (zAt0 4 0 (lv_args 0 [.ref (G_m Γ 0), .int a1, .int a2]) []) (zLz cX7_tells) := by
  intro p e R s m args below meth c Q A S H locs x S' g C hG hI hf kk
  obtain ⟨ls, rfl, hl⟩ := hI
  obtain ⟨⟨hx, hb, hml, hown, hts⟩, hr, hlk, hK, hR1, hR2⟩ := id C
  have C : zCx Γ p R s m args meth c cX7_tells 4 RX7 (some .boolean) 0 0 := C
  have hl : lv_has ls 4 [(0, .ref (G_m Γ 0)), (1, .int a1), (2, .int a2)] := hl
  refine lv_iload_n hx hb dX7_tells_0 rfl (lv_at hl 2 rfl) ?_
  refine lv_if_ge (tgt := 8) hx hb dX7_tells_1 (by decide) (fun c1 => ?_) (fun c1 => ?_)
  · have hf := z_t c1 hf
    refine lv_iload_n hx hb dX7_tells_8 rfl (lv_at hl 1 rfl) ?_
    refine lv_if_ne (tgt := 21) hx hb dX7_tells_9 (by decide) (fun c9 => ?_) (fun c9 => ?_)
    · have hf := z_f c9 hf
      refine lv_iload_n hx hb dX7_tells_21 rfl (lv_at hl 1 rfl) ?_
      refine lv_iconst (v := zi 1) hx hb dX7_tells_22 rfl ?_
      refine lv_icmp_ne (tgt := 37) hx hb dX7_tells_23 (by decide) (fun c23 => ?_) (fun c23 => ?_)
      · have hf := z_f c23 hf
        refine lv_aload_n hx hb dX7_tells_37 rfl (lv_at hl 0 rfl) ?_
        refine zm_ga C hG 37 (Nat.le_of_ble_eq_true rfl) (by decide) q1480 dX7_tells_38 ?_
        refine lv_iload_n hx hb dX7_tells_41 rfl (lv_at hl 2 rfl) ?_
        refine zm_al C hG 37 hf (Nat.le_of_ble_eq_true rfl) rfl dX7_tells_42 (fun v42 hf => ?_)
        exact wm_tells_j43 Γ l a1 v42 p e R s m args below meth c Q A _ _ _ _ _ _ C hG ⟨ls, rfl, lv_sub hl [0, 1] rfl⟩ hf kk
      · have hf := z_t c23 hf
        refine lv_aload_n hx hb dX7_tells_26 rfl (lv_at hl 0 rfl) ?_
        refine zm_ga C hG 36 (Nat.le_of_ble_eq_true rfl) (by decide) q1479 dX7_tells_27 ?_
        refine lv_iload_n hx hb dX7_tells_30 rfl (lv_at hl 2 rfl) ?_
        refine zm_al C hG 36 hf (Nat.le_of_ble_eq_true rfl) rfl dX7_tells_31 (fun v31 hf => ?_)
        refine lv_iconst (v := zi 1) hx hb dX7_tells_32 rfl ?_
        refine lv_iadd hx hb dX7_tells_33 ?_
        refine lv_goto (tgt := 43) hx hb dX7_tells_34 (by decide) ?_
        exact wm_tells_j43 Γ l a1 (v31 + (zi 1)) p e R s m args below meth c Q A _ _ _ _ _ _ C hG ⟨ls, rfl, lv_sub hl [0, 1] rfl⟩ hf kk
    · have hf := z_t c9 hf
      refine lv_aload_n hx hb dX7_tells_12 rfl (lv_at hl 0 rfl) ?_
      refine zm_ga C hG 35 (Nat.le_of_ble_eq_true rfl) (by decide) q1478 dX7_tells_13 ?_
      refine lv_iload_n hx hb dX7_tells_16 rfl (lv_at hl 2 rfl) ?_
      refine zm_al C hG 35 hf (Nat.le_of_ble_eq_true rfl) rfl dX7_tells_17 (fun v17 hf => ?_)
      refine lv_goto (tgt := 43) hx hb dX7_tells_18 (by decide) ?_
      exact wm_tells_j43 Γ l a1 v17 p e R s m args below meth c Q A _ _ _ _ _ _ C hG ⟨ls, rfl, lv_sub hl [0, 1] rfl⟩ hf kk
  · have hf := z_f c1 hf
    refine lv_iconst (v := zi 0) hx hb dX7_tells_4 rfl ?_
    refine lv_goto (tgt := 43) hx hb dX7_tells_5 (by decide) ?_
    exact wm_tells_j43 Γ l a1 (zi 0) p e R s m args below meth c Q A _ _ _ _ _ _ C hG ⟨ls, rfl, lv_sub hl [0, 1] rfl⟩ hf kk
theorem ctm_tells (Γ : zG) (l : Launch) (a1 : Int32) (a2 : Int32) : mCt Γ l yX7_tells (ws_ yX7_tells cX7_tells 4 (some .boolean)) 0 0 [.ref (G_m Γ 0), .int a1, .int a2] (m_tells a1 a2) zoi := mCt.mkz (by decide +kernel) (Nat.le_of_ble_eq_true rfl) (wm_tells Γ l a1 a2)
theorem ytm_tells : yX7_tells.cls = RX7 ∧ yX7_tells.cls ≠ "java/lang/invoke/MethodHandle" ∧ yX7_tells.cls ≠ "java/lang/invoke/VarHandle" ∧ (parseMethodDescriptor yX7_tells.desc).map (fun d => d.parameters.length) = some 2 := by decide +kernel
def im_missed_l4 (Γ : zG) (f1 : Int32) (m : MethodId) (s : Int32 × Int32) (g : JFrame) : Prop := zAt0 6 4 [(0, .ref (G_m Γ 0)), (1, .int f1), (2, .int s.1), (3, .int s.2)] [] m g
def em_missed_l4 (Γ : zG) (f1 : Int32) (m : MethodId) (e : Int32) (g : JFrame) : Prop := zAt0 6 136 [(0, .ref (G_m Γ 0)), (2, .int e)] [] m g
set_option maxHeartbeats 4000000 in
theorem wm_missed_l4_j128 (Γ : zG) (l : Launch) (b1 : Int32) (b3 : Int32) (t0 : Int32) (t1 : Int32) : mRg Γ l yX7_missed cX7_missed 6 (some .int) 0 0 (m_missed_l4_j128 b1 b3 t0 t1) (zAt0 6 128 [(0, .ref (G_m Γ 0)), (1, .int b1), (3, .int b3)] [.int t0, .int t1]) (zLE (im_missed_l4 Γ b1) (em_missed_l4 Γ b1)) := by
  intro p e R s m args below meth c Q A S H locs x S' g C hG hI hf kk
  obtain ⟨ls, rfl, hl⟩ := hI
  obtain ⟨⟨hx, hb, hml, hown, hts⟩, hr, hlk, hK, hR1, hR2⟩ := id C
  have C : zCx Γ p R s m args meth c cX7_missed 6 RX7 (some .int) 0 0 := C
  refine lv_iadd hx hb dX7_missed_128 ?_
  refine z_top hf (fun n129 hf => ?_)
  refine lv_istore_n (lv' := [(2, .int n129), (0, .ref (G_m Γ 0)), (1, .int b1), (3, .int b3)]) hx hb dX7_missed_129 rfl hl (Nat.le_of_ble_eq_true rfl) rfl (fun ls hl => ?_)
  refine z_iinc (fun v => [(3, .int v), (2, .int n129), (0, .ref (G_m Γ 0)), (1, .int b1)]) hx hb hf dX7_missed_130 hl (k := 3) rfl (Nat.le_of_ble_eq_true rfl) (fun _ => rfl) (fun n130 ls hf hl => ?_)
  refine lv_goto (tgt := 4) hx hb dX7_missed_133 (by decide) ?_
  obtain ⟨rfl, rfl⟩ := z_p hf
  exact kk _ _ _ ⟨ls, rfl, lv_sub hl [2, 3, 1, 0] rfl⟩ hG
set_option maxHeartbeats 4000000 in
theorem wm_missed_l4_j127 (Γ : zG) (l : Launch) (b1 : Int32) (b3 : Int32) (t0 : Int32) : mRg Γ l yX7_missed cX7_missed 6 (some .int) 0 0 (m_missed_l4_j127 b1 b3 t0) (zAt0 6 127 [(0, .ref (G_m Γ 0)), (1, .int b1), (3, .int b3)] [.int t0]) (zLE (im_missed_l4 Γ b1) (em_missed_l4 Γ b1)) := by
  intro p e R s m args below meth c Q A S H locs x S' g C hG hI hf kk
  obtain ⟨ls, rfl, hl⟩ := hI
  obtain ⟨⟨hx, hb, hml, hown, hts⟩, hr, hlk, hK, hR1, hR2⟩ := id C
  have C : zCx Γ p R s m args meth c cX7_missed 6 RX7 (some .int) 0 0 := C
  refine lv_iconst (v := zi 0) hx hb dX7_missed_127 rfl ?_
  exact wm_missed_l4_j128 Γ l b1 b3 (zi 0) t0 p e R s m args below meth c Q A _ _ _ _ _ _ C hG ⟨ls, rfl, lv_sub hl [0, 1, 2] rfl⟩ hf kk
set_option maxHeartbeats 4000000 in
theorem wm_missed_l4_j109 (Γ : zG) (l : Launch) (b1 : Int32) (b3 : Int32) (t0 : Int32) : mRg Γ l yX7_missed cX7_missed 6 (some .int) 0 0 (m_missed_l4_j109 b1 b3 t0) (zAt0 6 109 [(0, .ref (G_m Γ 0)), (1, .int b1), (3, .int b3)] [.int t0]) (zLE (im_missed_l4 Γ b1) (em_missed_l4 Γ b1)) := by
  intro p e R s m args below meth c Q A S H locs x S' g C hG hI hf kk
  obtain ⟨ls, rfl, hl⟩ := hI
  obtain ⟨⟨hx, hb, hml, hown, hts⟩, hr, hlk, hK, hR1, hR2⟩ := id C
  have C : zCx Γ p R s m args meth c cX7_missed 6 RX7 (some .int) 0 0 := C
  refine lv_iconst (v := zi 0) hx hb dX7_missed_109 rfl ?_
  refine lv_goto (tgt := 128) hx hb dX7_missed_110 (by decide) ?_
  exact wm_missed_l4_j128 Γ l b1 b3 (zi 0) t0 p e R s m args below meth c Q A _ _ _ _ _ _ C hG ⟨ls, rfl, lv_sub hl [0, 1, 2] rfl⟩ hf kk
set_option maxHeartbeats 4000000 in
theorem wm_missed_l4_j88 (Γ : zG) (l : Launch) (b1 : Int32) (b2 : Int32) (b3 : Int32) (b4 : Int32) (t0 : Int32) : mRg Γ l yX7_missed cX7_missed 6 (some .int) 0 0 (m_missed_l4_j88 b1 b2 b3 b4 t0) (zAt0 6 88 [(0, .ref (G_m Γ 0)), (1, .int b1), (2, .int b2), (3, .int b3), (4, .int b4)] [.int t0]) (zLE (im_missed_l4 Γ b1) (em_missed_l4 Γ b1)) := by
  intro p e R s m args below meth c Q A S H locs x S' g C hG hI hf kk
  obtain ⟨ls, rfl, hl⟩ := hI
  obtain ⟨⟨hx, hb, hml, hown, hts⟩, hr, hlk, hK, hR1, hR2⟩ := id C
  have C : zCx Γ p R s m args meth c cX7_missed 6 RX7 (some .int) 0 0 := C
  refine lv_istore (lv' := [(5, .int t0), (0, .ref (G_m Γ 0)), (1, .int b1), (2, .int b2), (3, .int b3), (4, .int b4)]) hx hb dX7_missed_88 hl (Nat.le_of_ble_eq_true rfl) rfl (fun ls hl => ?_)
  refine lv_iload_n hx hb dX7_missed_90 rfl (lv_at hl 3 rfl) ?_
  refine lv_iload_n hx hb dX7_missed_91 rfl (lv_at hl 2 rfl) ?_
  refine lv_if_eq (tgt := 113) hx hb dX7_missed_92 (by decide) (fun c92 => ?_) (fun c92 => ?_)
  · have hf := z_t c92 hf
    refine lv_iload hx hb dX7_missed_113 (lv_at hl 0 rfl) ?_
    refine lv_if_eq (tgt := 127) hx hb dX7_missed_115 (by decide) (fun c115 => ?_) (fun c115 => ?_)
    · have hf := z_t c115 hf
      exact wm_missed_l4_j127 Γ l b1 b3 b2 p e R s m args below meth c Q A _ _ _ _ _ _ C hG ⟨ls, rfl, lv_sub hl [1, 2, 4] rfl⟩ hf kk
    · have hf := z_f c115 hf
      refine lv_iload hx hb dX7_missed_118 (lv_at hl 5 rfl) ?_
      refine lv_if_ne (tgt := 127) hx hb dX7_missed_120 (by decide) (fun c120 => ?_) (fun c120 => ?_)
      · have hf := z_f c120 hf
        exact wm_missed_l4_j127 Γ l b1 b3 b2 p e R s m args below meth c Q A _ _ _ _ _ _ C hG ⟨ls, rfl, lv_sub hl [1, 2, 4] rfl⟩ hf kk
      · have hf := z_t c120 hf
        refine lv_iconst (v := zi 1) hx hb dX7_missed_123 rfl ?_
        refine lv_goto (tgt := 128) hx hb dX7_missed_124 (by decide) ?_
        exact wm_missed_l4_j128 Γ l b1 b3 (zi 1) b2 p e R s m args below meth c Q A _ _ _ _ _ _ C hG ⟨ls, rfl, lv_sub hl [1, 2, 4] rfl⟩ hf kk
  · have hf := z_f c92 hf
    refine lv_iload hx hb dX7_missed_95 (lv_at hl 0 rfl) ?_
    refine lv_if_ne (tgt := 109) hx hb dX7_missed_97 (by decide) (fun c97 => ?_) (fun c97 => ?_)
    · have hf := z_f c97 hf
      exact wm_missed_l4_j109 Γ l b1 b3 b2 p e R s m args below meth c Q A _ _ _ _ _ _ C hG ⟨ls, rfl, lv_sub hl [1, 2, 4] rfl⟩ hf kk
    · have hf := z_t c97 hf
      refine lv_iload hx hb dX7_missed_100 (lv_at hl 5 rfl) ?_
      refine lv_if_eq (tgt := 109) hx hb dX7_missed_102 (by decide) (fun c102 => ?_) (fun c102 => ?_)
      · have hf := z_t c102 hf
        exact wm_missed_l4_j109 Γ l b1 b3 b2 p e R s m args below meth c Q A _ _ _ _ _ _ C hG ⟨ls, rfl, lv_sub hl [1, 2, 4] rfl⟩ hf kk
      · have hf := z_f c102 hf
        refine lv_iconst (v := zi 1) hx hb dX7_missed_105 rfl ?_
        refine lv_goto (tgt := 128) hx hb dX7_missed_106 (by decide) ?_
        exact wm_missed_l4_j128 Γ l b1 b3 (zi 1) b2 p e R s m args below meth c Q A _ _ _ _ _ _ C hG ⟨ls, rfl, lv_sub hl [1, 2, 4] rfl⟩ hf kk
set_option maxHeartbeats 4000000 in
theorem wm_missed_l4_j64 (Γ : zG) (l : Launch) (b1 : Int32) (b2 : Int32) (b3 : Int32) (t0 : Int32) : mRg Γ l yX7_missed cX7_missed 6 (some .int) 0 0 (m_missed_l4_j64 b1 b2 b3 t0) (zAt0 6 64 [(0, .ref (G_m Γ 0)), (1, .int b1), (2, .int b2), (3, .int b3)] [.int t0]) (zLE (im_missed_l4 Γ b1) (em_missed_l4 Γ b1)) := by
  intro p e R s m args below meth c Q A S H locs x S' g C hG hI hf kk
  obtain ⟨ls, rfl, hl⟩ := hI
  obtain ⟨⟨hx, hb, hml, hown, hts⟩, hr, hlk, hK, hR1, hR2⟩ := id C
  have C : zCx Γ p R s m args meth c cX7_missed 6 RX7 (some .int) 0 0 := C
  refine lv_istore (lv' := [(4, .int t0), (0, .ref (G_m Γ 0)), (1, .int b1), (2, .int b2), (3, .int b3)]) hx hb dX7_missed_64 hl (Nat.le_of_ble_eq_true rfl) rfl (fun ls hl => ?_)
  refine lv_aload_n hx hb dX7_missed_66 rfl (lv_at hl 1 rfl) ?_
  refine zm_ga C hG 0 (Nat.le_of_ble_eq_true rfl) (by decide) q1443 dX7_missed_67 ?_
  refine lv_bipush (v := zi 20) hx hb dX7_missed_70 (by decide +kernel) ?_
  refine lv_iconst (v := zi 3) hx hb dX7_missed_72 rfl ?_
  refine lv_iload_n hx hb dX7_missed_73 rfl (lv_at hl 4 rfl) ?_
  refine lv_imul hx hb dX7_missed_74 ?_
  refine lv_iadd hx hb dX7_missed_75 ?_
  refine lv_iconst (v := zi 2) hx hb dX7_missed_76 rfl ?_
  refine lv_iadd hx hb dX7_missed_77 ?_
  refine zm_al C hG 0 hf (Nat.le_of_ble_eq_true rfl) rfl dX7_missed_78 (fun v78 hf => ?_)
  refine lv_iconst (v := zi 1) hx hb dX7_missed_79 rfl ?_
  refine lv_icmp_ne (tgt := 87) hx hb dX7_missed_80 (by decide) (fun c80 => ?_) (fun c80 => ?_)
  · have hf := z_f c80 hf
    refine lv_iconst (v := zi 0) hx hb dX7_missed_87 rfl ?_
    exact wm_missed_l4_j88 Γ l b1 b2 b3 t0 (zi 0) p e R s m args below meth c Q A _ _ _ _ _ _ C hG ⟨ls, rfl, lv_sub hl [1, 2, 3, 4, 0] rfl⟩ hf kk
  · have hf := z_t c80 hf
    refine lv_iconst (v := zi 1) hx hb dX7_missed_83 rfl ?_
    refine lv_goto (tgt := 88) hx hb dX7_missed_84 (by decide) ?_
    exact wm_missed_l4_j88 Γ l b1 b2 b3 t0 (zi 1) p e R s m args below meth c Q A _ _ _ _ _ _ C hG ⟨ls, rfl, lv_sub hl [1, 2, 3, 4, 0] rfl⟩ hf kk
set_option maxHeartbeats 4000000 in
theorem wm_missed_l4_j63 (Γ : zG) (l : Launch) (b1 : Int32) (b2 : Int32) (b3 : Int32) : mRg Γ l yX7_missed cX7_missed 6 (some .int) 0 0 (m_missed_l4_j63 b1 b2 b3) (zAt0 6 63 [(0, .ref (G_m Γ 0)), (1, .int b1), (2, .int b2), (3, .int b3)] []) (zLE (im_missed_l4 Γ b1) (em_missed_l4 Γ b1)) := by
  intro p e R s m args below meth c Q A S H locs x S' g C hG hI hf kk
  obtain ⟨ls, rfl, hl⟩ := hI
  obtain ⟨⟨hx, hb, hml, hown, hts⟩, hr, hlk, hK, hR1, hR2⟩ := id C
  have C : zCx Γ p R s m args meth c cX7_missed 6 RX7 (some .int) 0 0 := C
  refine lv_iconst (v := zi 0) hx hb dX7_missed_63 rfl ?_
  exact wm_missed_l4_j64 Γ l b1 b2 b3 (zi 0) p e R s m args below meth c Q A _ _ _ _ _ _ C hG ⟨ls, rfl, lv_sub hl [0, 1, 2, 3] rfl⟩ hf kk
set_option maxHeartbeats 4000000 in
theorem wm_missed_l4_b (Γ : zG) (l : Launch) (f1 : Int32) (s2 : Int32) (s3 : Int32) : mRg Γ l yX7_missed cX7_missed 6 (some .int) 0 0 (m_missed_l4 f1 s2 s3) (zAt0 6 4 [(0, .ref (G_m Γ 0)), (1, .int f1), (2, .int s2), (3, .int s3)] []) (zLE (im_missed_l4 Γ f1) (em_missed_l4 Γ f1)) := by
  intro p e R s m args below meth c Q A S H locs x S' g C hG hI hf kk
  obtain ⟨ls, rfl, hl⟩ := hI
  obtain ⟨⟨hx, hb, hml, hown, hts⟩, hr, hlk, hK, hR1, hR2⟩ := id C
  have C : zCx Γ p R s m args meth c cX7_missed 6 RX7 (some .int) 0 0 := C
  refine lv_iload_n hx hb dX7_missed_4 rfl (lv_at hl 3 rfl) ?_
  refine lv_aload_n hx hb dX7_missed_5 rfl (lv_at hl 0 rfl) ?_
  refine zm_ga C hG 0 (Nat.le_of_ble_eq_true rfl) (by decide) q1443 dX7_missed_6 ?_
  refine lv_iconst (v := zi 2) hx hb dX7_missed_9 rfl ?_
  refine zm_al C hG 0 hf (Nat.le_of_ble_eq_true rfl) rfl dX7_missed_10 (fun v10 hf => ?_)
  refine lv_icmp_ge (tgt := 136) hx hb dX7_missed_11 (by decide) (fun c11 => ?_) (fun c11 => ?_)
  · have hf := z_t c11 hf
    obtain ⟨rfl, rfl⟩ := z_p hf
    exact kk _ _ _ ⟨ls, rfl, lv_sub hl [0, 2] rfl⟩ hG
  · have hf := z_f c11 hf
    refine lv_aload_n hx hb dX7_missed_14 rfl (lv_at hl 0 rfl) ?_
    refine zm_ga C hG 35 (Nat.le_of_ble_eq_true rfl) (by decide) q1478 dX7_missed_15 ?_
    refine lv_iload_n hx hb dX7_missed_18 rfl (lv_at hl 3 rfl) ?_
    refine zm_al C hG 35 hf (Nat.le_of_ble_eq_true rfl) rfl dX7_missed_19 (fun v19 hf => ?_)
    refine lv_aload_n hx hb dX7_missed_20 rfl (lv_at hl 0 rfl) ?_
    refine zm_ga C hG 38 (Nat.le_of_ble_eq_true rfl) (by decide) q1481 dX7_missed_21 ?_
    refine lv_iconst (v := zi 0) hx hb dX7_missed_24 rfl ?_
    refine zm_al C hG 38 hf (Nat.le_of_ble_eq_true rfl) rfl dX7_missed_25 (fun v25 hf => ?_)
    refine lv_icmp_gt (tgt := 63) hx hb dX7_missed_26 (by decide) (fun c26 => ?_) (fun c26 => ?_)
    · have hf := z_t c26 hf
      exact wm_missed_l4_j63 Γ l f1 s2 s3 p e R s m args below meth c Q A _ _ _ _ _ _ C hG ⟨ls, rfl, lv_sub hl [0, 1, 2, 3] rfl⟩ hf kk
    · have hf := z_f c26 hf
      refine lv_aload_n hx hb dX7_missed_29 rfl (lv_at hl 0 rfl) ?_
      refine zm_ga C hG 36 (Nat.le_of_ble_eq_true rfl) (by decide) q1479 dX7_missed_30 ?_
      refine lv_iload_n hx hb dX7_missed_33 rfl (lv_at hl 3 rfl) ?_
      refine zm_al C hG 36 hf (Nat.le_of_ble_eq_true rfl) rfl dX7_missed_34 (fun v34 hf => ?_)
      refine lv_aload_n hx hb dX7_missed_35 rfl (lv_at hl 0 rfl) ?_
      refine zm_ga C hG 38 (Nat.le_of_ble_eq_true rfl) (by decide) q1481 dX7_missed_36 ?_
      refine lv_iconst (v := zi 1) hx hb dX7_missed_39 rfl ?_
      refine zm_al C hG 38 hf (Nat.le_of_ble_eq_true rfl) rfl dX7_missed_40 (fun v40 hf => ?_)
      refine lv_icmp_lt (tgt := 63) hx hb dX7_missed_41 (by decide) (fun c41 => ?_) (fun c41 => ?_)
      · have hf := z_t c41 hf
        exact wm_missed_l4_j63 Γ l f1 s2 s3 p e R s m args below meth c Q A _ _ _ _ _ _ C hG ⟨ls, rfl, lv_sub hl [0, 1, 2, 3] rfl⟩ hf kk
      · have hf := z_f c41 hf
        refine lv_aload_n hx hb dX7_missed_44 rfl (lv_at hl 0 rfl) ?_
        refine zm_ga C hG 37 (Nat.le_of_ble_eq_true rfl) (by decide) q1480 dX7_missed_45 ?_
        refine lv_iload_n hx hb dX7_missed_48 rfl (lv_at hl 3 rfl) ?_
        refine zm_al C hG 37 hf (Nat.le_of_ble_eq_true rfl) rfl dX7_missed_49 (fun v49 hf => ?_)
        refine lv_aload_n hx hb dX7_missed_50 rfl (lv_at hl 0 rfl) ?_
        refine zm_ga C hG 38 (Nat.le_of_ble_eq_true rfl) (by decide) q1481 dX7_missed_51 ?_
        refine lv_iconst (v := zi 2) hx hb dX7_missed_54 rfl ?_
        refine zm_al C hG 38 hf (Nat.le_of_ble_eq_true rfl) rfl dX7_missed_55 (fun v55 hf => ?_)
        refine lv_icmp_gt (tgt := 63) hx hb dX7_missed_56 (by decide) (fun c56 => ?_) (fun c56 => ?_)
        · have hf := z_t c56 hf
          exact wm_missed_l4_j63 Γ l f1 s2 s3 p e R s m args below meth c Q A _ _ _ _ _ _ C hG ⟨ls, rfl, lv_sub hl [0, 1, 2, 3] rfl⟩ hf kk
        · have hf := z_f c56 hf
          refine lv_iconst (v := zi 1) hx hb dX7_missed_59 rfl ?_
          refine lv_goto (tgt := 64) hx hb dX7_missed_60 (by decide) ?_
          exact wm_missed_l4_j64 Γ l f1 s2 s3 (zi 1) p e R s m args below meth c Q A _ _ _ _ _ _ C hG ⟨ls, rfl, lv_sub hl [0, 1, 2, 3] rfl⟩ hf kk
theorem wm_missed_l4 (Γ : zG) (l : Launch) (f1 : Int32) : ∀ s : Int32 × Int32, mRg Γ l yX7_missed cX7_missed 6 (some .int) 0 0 (m_missed_l4 f1 s.1 s.2) (fun m => im_missed_l4 Γ f1 m s) (zLE (im_missed_l4 Γ f1) (em_missed_l4 Γ f1)) := fun s => wm_missed_l4_b Γ l f1 s.1 s.2
set_option maxHeartbeats 4000000 in
theorem wm_missed (Γ : zG) (l : Launch) (a1 : Int32) : mRg Γ l yX7_missed cX7_missed 6 (some .int) 0 0 (m_missed a1) (zAt0 6 0 (lv_args 0 [.ref (G_m Γ 0), .int a1]) []) (zLi cX7_missed) := by
  intro p e R s m args below meth c Q A S H locs x S' g C hG hI hf kk
  obtain ⟨ls, rfl, hl⟩ := hI
  obtain ⟨⟨hx, hb, hml, hown, hts⟩, hr, hlk, hK, hR1, hR2⟩ := id C
  have C : zCx Γ p R s m args meth c cX7_missed 6 RX7 (some .int) 0 0 := C
  have hl : lv_has ls 6 [(0, .ref (G_m Γ 0)), (1, .int a1)] := hl
  refine lv_iconst (v := zi 0) hx hb dX7_missed_0 rfl ?_
  refine lv_istore_n (lv' := [(2, .int (zi 0)), (0, .ref (G_m Γ 0)), (1, .int a1)]) hx hb dX7_missed_1 rfl hl (Nat.le_of_ble_eq_true rfl) rfl (fun ls hl => ?_)
  refine lv_iconst (v := zi 0) hx hb dX7_missed_2 rfl ?_
  refine lv_istore_n (lv' := [(3, .int (zi 0)), (2, .int (zi 0)), (0, .ref (G_m Γ 0)), (1, .int a1)]) hx hb dX7_missed_3 rfl hl (Nat.le_of_ble_eq_true rfl) rfl (fun ls hl => ?_)
  obtain ⟨e4, S, hlp, hf⟩ := nB_some hf
  refine mRg.loop (wm_missed_l4 Γ l a1) ((zi 0), (zi 0)) p e R s m args below meth c Q A _ _ _ _ _ _ C hG ⟨ls, rfl, lv_sub hl [2, 3, 1, 0] rfl⟩ hlp (fun H locs g hL hG => ?_)
  obtain ⟨ls, rfl, hl⟩ := hL
  have hl : lv_has ls 6 [(0, .ref (G_m Γ 0)), (2, .int e4)] := hl
  refine lv_iload_n hx hb dX7_missed_136 rfl (lv_at hl 1 rfl) ?_
  obtain ⟨rfl, rfl⟩ := z_p hf
  exact kk _ _ _ ⟨_, _, rfl, dX7_missed_137⟩ hG
theorem ctm_missed (Γ : zG) (l : Launch) (a1 : Int32) : mCt Γ l yX7_missed (ws_ yX7_missed cX7_missed 6 (some .int)) 0 0 [.ref (G_m Γ 0), .int a1] (m_missed a1) zoi := mCt.mki (by decide +kernel) (Nat.le_of_ble_eq_true rfl) (wm_missed Γ l a1)
theorem ytm_missed : yX7_missed.cls = RX7 ∧ yX7_missed.cls ≠ "java/lang/invoke/MethodHandle" ∧ yX7_missed.cls ≠ "java/lang/invoke/VarHandle" ∧ (parseMethodDescriptor yX7_missed.desc).map (fun d => d.parameters.length) = some 1 := by decide +kernel
set_option maxHeartbeats 4000000 in
theorem wm_isAhead_j19 (Γ : zG) (l : Launch) (b1 : Int32) : mRg Γ l yX7_isAhead cX7_isAhead 3 (some .boolean) 0 0 (m_isAhead_j19 b1) (zAt0 3 19 [(0, .ref (G_m Γ 0)), (1, .int b1)] []) (zLz cX7_isAhead) := by
  intro p e R s m args below meth c Q A S H locs x S' g C hG hI hf kk
  obtain ⟨ls, rfl, hl⟩ := hI
  obtain ⟨⟨hx, hb, hml, hown, hts⟩, hr, hlk, hK, hR1, hR2⟩ := id C
  have C : zCx Γ p R s m args meth c cX7_isAhead 3 RX7 (some .boolean) 0 0 := C
  refine lv_aload_n hx hb dX7_isAhead_19 rfl (lv_at hl 0 rfl) ?_
  refine zm_ga C hG 39 (Nat.le_of_ble_eq_true rfl) (by decide) q1482 dX7_isAhead_20 ?_
  refine lv_iconst (v := zi 0) hx hb dX7_isAhead_23 rfl ?_
  refine zm_al C hG 39 hf (Nat.le_of_ble_eq_true rfl) rfl dX7_isAhead_24 (fun v24 hf => ?_)
  refine lv_if_lt (tgt := 38) hx hb dX7_isAhead_25 (by decide) (fun c25 => ?_) (fun c25 => ?_)
  · have hf := z_t c25 hf
    refine lv_iconst (v := zi 1) hx hb dX7_isAhead_38 rfl ?_
    refine lv_goto (tgt := 43) hx hb dX7_isAhead_39 (by decide) ?_
    obtain ⟨rfl, rfl⟩ := z_p hf
    exact kk _ _ _ ⟨_, _, rfl, dX7_isAhead_43, Or.inr rfl⟩ hG
  · have hf := z_f c25 hf
    refine lv_iload_n hx hb dX7_isAhead_28 rfl (lv_at hl 1 rfl) ?_
    refine lv_aload_n hx hb dX7_isAhead_29 rfl (lv_at hl 0 rfl) ?_
    refine zm_ga C hG 39 (Nat.le_of_ble_eq_true rfl) (by decide) q1482 dX7_isAhead_30 ?_
    refine lv_iconst (v := zi 3) hx hb dX7_isAhead_33 rfl ?_
    refine zm_al C hG 39 hf (Nat.le_of_ble_eq_true rfl) rfl dX7_isAhead_34 (fun v34 hf => ?_)
    refine lv_icmp_ge (tgt := 42) hx hb dX7_isAhead_35 (by decide) (fun c35 => ?_) (fun c35 => ?_)
    · have hf := z_t c35 hf
      refine lv_iconst (v := zi 0) hx hb dX7_isAhead_42 rfl ?_
      obtain ⟨rfl, rfl⟩ := z_p hf
      exact kk _ _ _ ⟨_, _, rfl, dX7_isAhead_43, Or.inl rfl⟩ hG
    · have hf := z_f c35 hf
      refine lv_iconst (v := zi 1) hx hb dX7_isAhead_38 rfl ?_
      refine lv_goto (tgt := 43) hx hb dX7_isAhead_39 (by decide) ?_
      obtain ⟨rfl, rfl⟩ := z_p hf
      exact kk _ _ _ ⟨_, _, rfl, dX7_isAhead_43, Or.inr rfl⟩ hG
set_option maxHeartbeats 4000000 in
theorem wm_isAhead (Γ : zG) (l : Launch) (a1 : Int32) (a2 : Int32) : mRg Γ l yX7_isAhead cX7_isAhead 3 (some .boolean) 0 0 (m_isAhead a1 a2) (zAt0 3 0 (lv_args 0 [.ref (G_m Γ 0), .int a1, .int a2]) []) (zLz cX7_isAhead) := by
  intro p e R s m args below meth c Q A S H locs x S' g C hG hI hf kk
  obtain ⟨ls, rfl, hl⟩ := hI
  obtain ⟨⟨hx, hb, hml, hown, hts⟩, hr, hlk, hK, hR1, hR2⟩ := id C
  have C : zCx Γ p R s m args meth c cX7_isAhead 3 RX7 (some .boolean) 0 0 := C
  have hl : lv_has ls 3 [(0, .ref (G_m Γ 0)), (1, .int a1), (2, .int a2)] := hl
  refine lv_aload_n hx hb dX7_isAhead_0 rfl (lv_at hl 0 rfl) ?_
  refine zm_ga C hG 39 (Nat.le_of_ble_eq_true rfl) (by decide) q1482 dX7_isAhead_1 ?_
  refine lv_iconst (v := zi 0) hx hb dX7_isAhead_4 rfl ?_
  refine zm_al C hG 39 hf (Nat.le_of_ble_eq_true rfl) rfl dX7_isAhead_5 (fun v5 hf => ?_)
  refine lv_if_lt (tgt := 19) hx hb dX7_isAhead_6 (by decide) (fun c6 => ?_) (fun c6 => ?_)
  · have hf := z_t c6 hf
    exact wm_isAhead_j19 Γ l a1 p e R s m args below meth c Q A _ _ _ _ _ _ C hG ⟨ls, rfl, lv_sub hl [0, 1] rfl⟩ hf kk
  · have hf := z_f c6 hf
    refine lv_iload_n hx hb dX7_isAhead_9 rfl (lv_at hl 1 rfl) ?_
    refine lv_aload_n hx hb dX7_isAhead_10 rfl (lv_at hl 0 rfl) ?_
    refine zm_ga C hG 39 (Nat.le_of_ble_eq_true rfl) (by decide) q1482 dX7_isAhead_11 ?_
    refine lv_iconst (v := zi 3) hx hb dX7_isAhead_14 rfl ?_
    refine zm_al C hG 39 hf (Nat.le_of_ble_eq_true rfl) rfl dX7_isAhead_15 (fun v15 hf => ?_)
    refine lv_icmp_eq (tgt := 44) hx hb dX7_isAhead_16 (by decide) (fun c16 => ?_) (fun c16 => ?_)
    · have hf := z_t c16 hf
      refine lv_iload_n hx hb dX7_isAhead_44 rfl (lv_at hl 2 rfl) ?_
      refine lv_aload_n hx hb dX7_isAhead_45 rfl (lv_at hl 0 rfl) ?_
      refine zm_ga C hG 39 (Nat.le_of_ble_eq_true rfl) (by decide) q1482 dX7_isAhead_46 ?_
      refine lv_iconst (v := zi 4) hx hb dX7_isAhead_49 rfl ?_
      refine zm_al C hG 39 hf (Nat.le_of_ble_eq_true rfl) rfl dX7_isAhead_50 (fun v50 hf => ?_)
      refine lv_icmp_eq (tgt := 70) hx hb dX7_isAhead_51 (by decide) (fun c51 => ?_) (fun c51 => ?_)
      · have hf := z_t c51 hf
        refine lv_aload_n hx hb dX7_isAhead_70 rfl (lv_at hl 0 rfl) ?_
        refine zm_ga C hG 38 (Nat.le_of_ble_eq_true rfl) (by decide) q1481 dX7_isAhead_71 ?_
        refine lv_iconst (v := zi 0) hx hb dX7_isAhead_74 rfl ?_
        refine zm_al C hG 38 hf (Nat.le_of_ble_eq_true rfl) rfl dX7_isAhead_75 (fun v75 hf => ?_)
        refine lv_aload_n hx hb dX7_isAhead_76 rfl (lv_at hl 0 rfl) ?_
        refine zm_ga C hG 39 (Nat.le_of_ble_eq_true rfl) (by decide) q1482 dX7_isAhead_77 ?_
        refine lv_iconst (v := zi 0) hx hb dX7_isAhead_80 rfl ?_
        refine zm_al C hG 39 hf (Nat.le_of_ble_eq_true rfl) rfl dX7_isAhead_81 (fun v81 hf => ?_)
        refine lv_icmp_eq (tgt := 106) hx hb dX7_isAhead_82 (by decide) (fun c82 => ?_) (fun c82 => ?_)
        · have hf := z_t c82 hf
          refine lv_aload_n hx hb dX7_isAhead_106 rfl (lv_at hl 0 rfl) ?_
          refine zm_ga C hG 38 (Nat.le_of_ble_eq_true rfl) (by decide) q1481 dX7_isAhead_107 ?_
          refine lv_iconst (v := zi 1) hx hb dX7_isAhead_110 rfl ?_
          refine zm_al C hG 38 hf (Nat.le_of_ble_eq_true rfl) rfl dX7_isAhead_111 (fun v111 hf => ?_)
          refine lv_aload_n hx hb dX7_isAhead_112 rfl (lv_at hl 0 rfl) ?_
          refine zm_ga C hG 39 (Nat.le_of_ble_eq_true rfl) (by decide) q1482 dX7_isAhead_113 ?_
          refine lv_iconst (v := zi 1) hx hb dX7_isAhead_116 rfl ?_
          refine zm_al C hG 39 hf (Nat.le_of_ble_eq_true rfl) rfl dX7_isAhead_117 (fun v117 hf => ?_)
          refine lv_icmp_eq (tgt := 144) hx hb dX7_isAhead_118 (by decide) (fun c118 => ?_) (fun c118 => ?_)
          · have hf := z_t c118 hf
            refine lv_aload_n hx hb dX7_isAhead_144 rfl (lv_at hl 0 rfl) ?_
            refine zm_ga C hG 38 (Nat.le_of_ble_eq_true rfl) (by decide) q1481 dX7_isAhead_145 ?_
            refine lv_iconst (v := zi 2) hx hb dX7_isAhead_148 rfl ?_
            refine zm_al C hG 38 hf (Nat.le_of_ble_eq_true rfl) rfl dX7_isAhead_149 (fun v149 hf => ?_)
            refine lv_aload_n hx hb dX7_isAhead_150 rfl (lv_at hl 0 rfl) ?_
            refine zm_ga C hG 39 (Nat.le_of_ble_eq_true rfl) (by decide) q1482 dX7_isAhead_151 ?_
            refine lv_iconst (v := zi 2) hx hb dX7_isAhead_154 rfl ?_
            refine zm_al C hG 39 hf (Nat.le_of_ble_eq_true rfl) rfl dX7_isAhead_155 (fun v155 hf => ?_)
            refine lv_icmp_ge (tgt := 163) hx hb dX7_isAhead_156 (by decide) (fun c156 => ?_) (fun c156 => ?_)
            · have hf := z_t c156 hf
              refine lv_iconst (v := zi 0) hx hb dX7_isAhead_163 rfl ?_
              obtain ⟨rfl, rfl⟩ := z_p hf
              exact kk _ _ _ ⟨_, _, rfl, dX7_isAhead_164, Or.inl rfl⟩ hG
            · have hf := z_f c156 hf
              refine lv_iconst (v := zi 1) hx hb dX7_isAhead_159 rfl ?_
              refine lv_goto (tgt := 164) hx hb dX7_isAhead_160 (by decide) ?_
              obtain ⟨rfl, rfl⟩ := z_p hf
              exact kk _ _ _ ⟨_, _, rfl, dX7_isAhead_164, Or.inr rfl⟩ hG
          · have hf := z_f c118 hf
            refine lv_aload_n hx hb dX7_isAhead_121 rfl (lv_at hl 0 rfl) ?_
            refine zm_ga C hG 38 (Nat.le_of_ble_eq_true rfl) (by decide) q1481 dX7_isAhead_122 ?_
            refine lv_iconst (v := zi 1) hx hb dX7_isAhead_125 rfl ?_
            refine zm_al C hG 38 hf (Nat.le_of_ble_eq_true rfl) rfl dX7_isAhead_126 (fun v126 hf => ?_)
            refine lv_aload_n hx hb dX7_isAhead_127 rfl (lv_at hl 0 rfl) ?_
            refine zm_ga C hG 39 (Nat.le_of_ble_eq_true rfl) (by decide) q1482 dX7_isAhead_128 ?_
            refine lv_iconst (v := zi 1) hx hb dX7_isAhead_131 rfl ?_
            refine zm_al C hG 39 hf (Nat.le_of_ble_eq_true rfl) rfl dX7_isAhead_132 (fun v132 hf => ?_)
            refine lv_icmp_ge (tgt := 140) hx hb dX7_isAhead_133 (by decide) (fun c133 => ?_) (fun c133 => ?_)
            · have hf := z_t c133 hf
              refine lv_iconst (v := zi 0) hx hb dX7_isAhead_140 rfl ?_
              refine lv_goto (tgt := 164) hx hb dX7_isAhead_141 (by decide) ?_
              obtain ⟨rfl, rfl⟩ := z_p hf
              exact kk _ _ _ ⟨_, _, rfl, dX7_isAhead_164, Or.inl rfl⟩ hG
            · have hf := z_f c133 hf
              refine lv_iconst (v := zi 1) hx hb dX7_isAhead_136 rfl ?_
              refine lv_goto (tgt := 164) hx hb dX7_isAhead_137 (by decide) ?_
              obtain ⟨rfl, rfl⟩ := z_p hf
              exact kk _ _ _ ⟨_, _, rfl, dX7_isAhead_164, Or.inr rfl⟩ hG
        · have hf := z_f c82 hf
          refine lv_aload_n hx hb dX7_isAhead_85 rfl (lv_at hl 0 rfl) ?_
          refine zm_ga C hG 38 (Nat.le_of_ble_eq_true rfl) (by decide) q1481 dX7_isAhead_86 ?_
          refine lv_iconst (v := zi 0) hx hb dX7_isAhead_89 rfl ?_
          refine zm_al C hG 38 hf (Nat.le_of_ble_eq_true rfl) rfl dX7_isAhead_90 (fun v90 hf => ?_)
          refine lv_aload_n hx hb dX7_isAhead_91 rfl (lv_at hl 0 rfl) ?_
          refine zm_ga C hG 39 (Nat.le_of_ble_eq_true rfl) (by decide) q1482 dX7_isAhead_92 ?_
          refine lv_iconst (v := zi 0) hx hb dX7_isAhead_95 rfl ?_
          refine zm_al C hG 39 hf (Nat.le_of_ble_eq_true rfl) rfl dX7_isAhead_96 (fun v96 hf => ?_)
          refine lv_icmp_ge (tgt := 104) hx hb dX7_isAhead_97 (by decide) (fun c97 => ?_) (fun c97 => ?_)
          · have hf := z_t c97 hf
            refine lv_iconst (v := zi 0) hx hb dX7_isAhead_104 rfl ?_
            obtain ⟨rfl, rfl⟩ := z_p hf
            exact kk _ _ _ ⟨_, _, rfl, dX7_isAhead_105, Or.inl rfl⟩ hG
          · have hf := z_f c97 hf
            refine lv_iconst (v := zi 1) hx hb dX7_isAhead_100 rfl ?_
            refine lv_goto (tgt := 105) hx hb dX7_isAhead_101 (by decide) ?_
            obtain ⟨rfl, rfl⟩ := z_p hf
            exact kk _ _ _ ⟨_, _, rfl, dX7_isAhead_105, Or.inr rfl⟩ hG
      · have hf := z_f c51 hf
        refine lv_iload_n hx hb dX7_isAhead_54 rfl (lv_at hl 2 rfl) ?_
        refine lv_aload_n hx hb dX7_isAhead_55 rfl (lv_at hl 0 rfl) ?_
        refine zm_ga C hG 39 (Nat.le_of_ble_eq_true rfl) (by decide) q1482 dX7_isAhead_56 ?_
        refine lv_iconst (v := zi 4) hx hb dX7_isAhead_59 rfl ?_
        refine zm_al C hG 39 hf (Nat.le_of_ble_eq_true rfl) rfl dX7_isAhead_60 (fun v60 hf => ?_)
        refine lv_icmp_ge (tgt := 68) hx hb dX7_isAhead_61 (by decide) (fun c61 => ?_) (fun c61 => ?_)
        · have hf := z_t c61 hf
          refine lv_iconst (v := zi 0) hx hb dX7_isAhead_68 rfl ?_
          obtain ⟨rfl, rfl⟩ := z_p hf
          exact kk _ _ _ ⟨_, _, rfl, dX7_isAhead_69, Or.inl rfl⟩ hG
        · have hf := z_f c61 hf
          refine lv_iconst (v := zi 1) hx hb dX7_isAhead_64 rfl ?_
          refine lv_goto (tgt := 69) hx hb dX7_isAhead_65 (by decide) ?_
          obtain ⟨rfl, rfl⟩ := z_p hf
          exact kk _ _ _ ⟨_, _, rfl, dX7_isAhead_69, Or.inr rfl⟩ hG
    · have hf := z_f c16 hf
      exact wm_isAhead_j19 Γ l a1 p e R s m args below meth c Q A _ _ _ _ _ _ C hG ⟨ls, rfl, lv_sub hl [0, 1] rfl⟩ hf kk
theorem ctm_isAhead (Γ : zG) (l : Launch) (a1 : Int32) (a2 : Int32) : mCt Γ l yX7_isAhead (ws_ yX7_isAhead cX7_isAhead 3 (some .boolean)) 0 0 [.ref (G_m Γ 0), .int a1, .int a2] (m_isAhead a1 a2) zoi := mCt.mkz (by decide +kernel) (Nat.le_of_ble_eq_true rfl) (wm_isAhead Γ l a1 a2)
theorem ytm_isAhead : yX7_isAhead.cls = RX7 ∧ yX7_isAhead.cls ≠ "java/lang/invoke/MethodHandle" ∧ yX7_isAhead.cls ≠ "java/lang/invoke/VarHandle" ∧ (parseMethodDescriptor yX7_isAhead.desc).map (fun d => d.parameters.length) = some 2 := by decide +kernel
def im_fits_l13 (Γ : zG) (f1 : Int32) (m : MethodId) (s : Int32) (g : JFrame) : Prop := zAt0 8 13 [(0, .ref (G_m Γ 0)), (1, .int f1), (2, .int s)] [] m g
def em_fits_l13 (Γ : zG) (f1 : Int32) (m : MethodId) (e : Unit) (g : JFrame) : Prop := zAt0 8 183 [(0, .ref (G_m Γ 0))] [] m g
def im_fits_l37 (Γ : zG) (f1 : Int32) (f2 : Int32) (m : MethodId) (s : Int32) (g : JFrame) : Prop := zAt0 8 37 [(0, .ref (G_m Γ 0)), (1, .int f1), (2, .int f2), (3, .int s)] [] m g
def em_fits_l37 (Γ : zG) (f1 : Int32) (f2 : Int32) (m : MethodId) (e : Unit) (g : JFrame) : Prop := zAt0 8 177 [(0, .ref (G_m Γ 0)), (1, .int f1), (2, .int f2)] [] m g
def im_fits_l62 (Γ : zG) (f1 : Int32) (f2 : Int32) (f3 : Int32) (m : MethodId) (s : Int32) (g : JFrame) : Prop := zAt0 8 62 [(0, .ref (G_m Γ 0)), (1, .int f1), (2, .int f2), (3, .int f3), (4, .int s)] [] m g
def em_fits_l62 (Γ : zG) (f1 : Int32) (f2 : Int32) (f3 : Int32) (m : MethodId) (e : Unit) (g : JFrame) : Prop := zAt0 8 171 [(0, .ref (G_m Γ 0)), (1, .int f1), (2, .int f2), (3, .int f3)] [] m g
def im_fits_l123 (Γ : zG) (f1 : Int32) (f2 : Int32) (f3 : Int32) (f4 : Int32) (f5 : Int32) (f6 : Int32) (m : MethodId) (s : Int32) (g : JFrame) : Prop := zAt0 8 123 [(0, .ref (G_m Γ 0)), (1, .int f1), (2, .int f2), (3, .int f3), (4, .int f4), (5, .int f5), (6, .int f6), (7, .int s)] [] m g
def em_fits_l123 (Γ : zG) (f1 : Int32) (f2 : Int32) (f3 : Int32) (f4 : Int32) (f5 : Int32) (f6 : Int32) (m : MethodId) (e : Unit) (g : JFrame) : Prop := zAt0 8 149 [(0, .ref (G_m Γ 0)), (1, .int f1), (2, .int f2), (3, .int f3), (4, .int f4), (5, .int f5), (6, .int f6)] [] m g
set_option maxHeartbeats 4000000 in
theorem wm_fits_l123_b (Γ : zG) (l : Launch) (f1 : Int32) (f2 : Int32) (f3 : Int32) (f4 : Int32) (f5 : Int32) (f6 : Int32) (s7 : Int32) : mRg Γ l yX7_fits cX7_fits 8 none 7 167 (m_fits_l123 f1 f2 f3 f4 f5 f6 s7) (zAt0 8 123 [(0, .ref (G_m Γ 0)), (1, .int f1), (2, .int f2), (3, .int f3), (4, .int f4), (5, .int f5), (6, .int f6), (7, .int s7)] []) (zLE (im_fits_l123 Γ f1 f2 f3 f4 f5 f6) (em_fits_l123 Γ f1 f2 f3 f4 f5 f6)) := by
  intro p e R s m args below meth c Q A S H locs x S' g C hG hI hf kk
  obtain ⟨ls, rfl, hl⟩ := hI
  obtain ⟨⟨hx, hb, hml, hown, hts⟩, hr, hlk, hK, hR1, hR2⟩ := id C
  have C : zCx Γ p R s m args meth c cX7_fits 8 RX7 none 7 167 := C
  refine lv_iload hx hb dX7_fits_123 (lv_at hl 7 rfl) ?_
  refine lv_iconst (v := zi 3) hx hb dX7_fits_125 rfl ?_
  refine lv_icmp_ge (tgt := 149) hx hb dX7_fits_126 (by decide) (fun c126 => ?_) (fun c126 => ?_)
  · have hf := z_t c126 hf
    obtain ⟨rfl, rfl⟩ := z_p hf
    exact kk _ _ _ ⟨ls, rfl, lv_sub hl [0, 1, 2, 3, 4, 5, 6] rfl⟩ hG
  · have hf := z_f c126 hf
    refine lv_aload_n hx hb dX7_fits_129 rfl (lv_at hl 0 rfl) ?_
    refine zm_ga C hG 39 (Nat.le_of_ble_eq_true rfl) (by decide) q1482 dX7_fits_130 ?_
    refine lv_iload hx hb dX7_fits_133 (lv_at hl 7 rfl) ?_
    refine lv_aload_n hx hb dX7_fits_135 rfl (lv_at hl 0 rfl) ?_
    refine zm_ga C hG 38 (Nat.le_of_ble_eq_true rfl) (by decide) q1481 dX7_fits_136 ?_
    refine lv_iload hx hb dX7_fits_139 (lv_at hl 7 rfl) ?_
    refine zm_al C hG 38 hf (Nat.le_of_ble_eq_true rfl) rfl dX7_fits_141 (fun v141 hf => ?_)
    refine zm_as C hG 39 hf (Nat.le_of_ble_eq_true rfl) rfl dX7_fits_142 (fun S H locs hG hf => ?_)
    refine z_iinc (fun v => [(7, .int v), (0, .ref (G_m Γ 0)), (1, .int f1), (2, .int f2), (3, .int f3), (4, .int f4), (5, .int f5), (6, .int f6)]) hx hb hf dX7_fits_143 hl (k := 7) rfl (Nat.le_of_ble_eq_true rfl) (fun _ => rfl) (fun n143 ls hf hl => ?_)
    refine lv_goto (tgt := 123) hx hb dX7_fits_146 (by decide) ?_
    obtain ⟨rfl, rfl⟩ := z_p hf
    exact kk _ _ _ ⟨ls, rfl, lv_sub hl [1, 2, 3, 4, 5, 6, 7, 0] rfl⟩ hG
theorem wm_fits_l123 (Γ : zG) (l : Launch) (f1 : Int32) (f2 : Int32) (f3 : Int32) (f4 : Int32) (f5 : Int32) (f6 : Int32) : ∀ s : Int32, mRg Γ l yX7_fits cX7_fits 8 none 7 167 (m_fits_l123 f1 f2 f3 f4 f5 f6 s) (fun m => im_fits_l123 Γ f1 f2 f3 f4 f5 f6 m s) (zLE (im_fits_l123 Γ f1 f2 f3 f4 f5 f6) (em_fits_l123 Γ f1 f2 f3 f4 f5 f6)) := fun s => wm_fits_l123_b Γ l f1 f2 f3 f4 f5 f6 s
set_option maxHeartbeats 4000000 in
theorem wm_fits_l62_b (Γ : zG) (l : Launch) (f1 : Int32) (f2 : Int32) (f3 : Int32) (s4 : Int32) : mRg Γ l yX7_fits cX7_fits 8 none 7 167 (m_fits_l62 f1 f2 f3 s4) (zAt0 8 62 [(0, .ref (G_m Γ 0)), (1, .int f1), (2, .int f2), (3, .int f3), (4, .int s4)] []) (zLE (im_fits_l62 Γ f1 f2 f3) (em_fits_l62 Γ f1 f2 f3)) := by
  intro p e R s m args below meth c Q A S H locs x S' g C hG hI hf kk
  obtain ⟨ls, rfl, hl⟩ := hI
  obtain ⟨⟨hx, hb, hml, hown, hts⟩, hr, hlk, hK, hR1, hR2⟩ := id C
  have C : zCx Γ p R s m args meth c cX7_fits 8 RX7 none 7 167 := C
  refine lv_iload hx hb dX7_fits_62 (lv_at hl 4 rfl) ?_
  refine lv_aload_n hx hb dX7_fits_64 rfl (lv_at hl 0 rfl) ?_
  refine zm_ga C hG 0 (Nat.le_of_ble_eq_true rfl) (by decide) q1443 dX7_fits_65 ?_
  refine lv_iconst (v := zi 2) hx hb dX7_fits_68 rfl ?_
  refine zm_al C hG 0 hf (Nat.le_of_ble_eq_true rfl) rfl dX7_fits_69 (fun v69 hf => ?_)
  refine lv_icmp_ge (tgt := 171) hx hb dX7_fits_70 (by decide) (fun c70 => ?_) (fun c70 => ?_)
  · have hf := z_t c70 hf
    obtain ⟨rfl, rfl⟩ := z_p hf
    exact kk _ _ _ ⟨ls, rfl, lv_sub hl [0, 1, 2, 3] rfl⟩ hG
  · have hf := z_f c70 hf
    refine lv_aload_n hx hb dX7_fits_73 rfl (lv_at hl 0 rfl) ?_
    refine lv_iconst (v := zi 2) hx hb dX7_fits_74 rfl ?_
    refine lv_iload hx hb dX7_fits_75 (lv_at hl 4 rfl) ?_
    refine zm_cvi (As := [.int (zi 2), .int s4]) (rest := []) C hG hf (ctm_tells Γ l (zi 2) s4) (lw_V q1889 q1891 qs77 q107 q1892) ytm_tells rfl rfl (Nat.le_of_ble_eq_true rfl) (Nat.le_of_ble_eq_true rfl) hl.1 (Nat.le_of_ble_eq_true rfl) dX7_fits_77 (fun v77 S H locs hG hf => ?_)
    refine lv_if_ne (tgt := 86) hx hb dX7_fits_80 (by decide) (fun c80 => ?_) (fun c80 => ?_)
    · have hf := z_f c80 hf
      refine lv_aload_n hx hb dX7_fits_86 rfl (lv_at hl 0 rfl) ?_
      refine lv_iconst (v := zi 1) hx hb dX7_fits_87 rfl ?_
      refine zm_cvi (As := [.int (zi 1)]) (rest := []) C hG hf (ctm_missed Γ l (zi 1)) (lw_V q1893 q1895 qs78 q107 q1896) ytm_missed rfl rfl (Nat.le_of_ble_eq_true rfl) (Nat.le_of_ble_eq_true rfl) hl.1 (Nat.le_of_ble_eq_true rfl) dX7_fits_88 (fun v88 S H locs hG hf => ?_)
      refine lv_istore (lv' := [(5, .int v88), (0, .ref (G_m Γ 0)), (1, .int f1), (2, .int f2), (3, .int f3), (4, .int s4)]) hx hb dX7_fits_91 hl (Nat.le_of_ble_eq_true rfl) rfl (fun ls hl => ?_)
      refine lv_aload_n hx hb dX7_fits_93 rfl (lv_at hl 1 rfl) ?_
      refine lv_iconst (v := zi 0) hx hb dX7_fits_94 rfl ?_
      refine zm_cvi (As := [.int (zi 0)]) (rest := []) C hG hf (ctm_missed Γ l (zi 0)) (lw_V q1893 q1895 qs78 q107 q1896) ytm_missed rfl rfl (Nat.le_of_ble_eq_true rfl) (Nat.le_of_ble_eq_true rfl) hl.1 (Nat.le_of_ble_eq_true rfl) dX7_fits_95 (fun v95 S H locs hG hf => ?_)
      refine lv_istore (lv' := [(6, .int v95), (5, .int v88), (0, .ref (G_m Γ 0)), (1, .int f1), (2, .int f2), (3, .int f3), (4, .int s4)]) hx hb dX7_fits_98 hl (Nat.le_of_ble_eq_true rfl) rfl (fun ls hl => ?_)
      refine lv_iload hx hb dX7_fits_100 (lv_at hl 1 rfl) ?_
      refine lv_iload_n hx hb dX7_fits_102 rfl (lv_at hl 3 rfl) ?_
      refine lv_icmp_gt (tgt := 165) hx hb dX7_fits_103 (by decide) (fun c103 => ?_) (fun c103 => ?_)
      · have hf := z_t c103 hf
        refine z_iinc (fun v => [(4, .int v), (6, .int v95), (5, .int v88), (0, .ref (G_m Γ 0)), (1, .int f1), (2, .int f2), (3, .int f3)]) hx hb hf dX7_fits_165 hl (k := 6) rfl (Nat.le_of_ble_eq_true rfl) (fun _ => rfl) (fun n165 ls hf hl => ?_)
        refine lv_goto (tgt := 62) hx hb dX7_fits_168 (by decide) ?_
        obtain ⟨rfl, rfl⟩ := z_p hf
        exact kk _ _ _ ⟨ls, rfl, lv_sub hl [3, 4, 5, 6, 0] rfl⟩ hG
      · have hf := z_f c103 hf
        refine lv_aload_n hx hb dX7_fits_106 rfl (lv_at hl 2 rfl) ?_
        refine lv_iload hx hb dX7_fits_107 (lv_at hl 0 rfl) ?_
        refine lv_iload hx hb dX7_fits_109 (lv_at hl 1 rfl) ?_
        refine zm_cvi (As := [.int v95, .int v88]) (rest := []) C hG hf (ctm_isAhead Γ l v95 v88) (lw_V q1897 q1899 qs79 q107 q1900) ytm_isAhead rfl rfl (Nat.le_of_ble_eq_true rfl) (Nat.le_of_ble_eq_true rfl) hl.1 (Nat.le_of_ble_eq_true rfl) dX7_fits_111 (fun v111 S H locs hG hf => ?_)
        refine lv_if_ne (tgt := 120) hx hb dX7_fits_114 (by decide) (fun c114 => ?_) (fun c114 => ?_)
        · have hf := z_f c114 hf
          refine lv_iconst (v := zi 0) hx hb dX7_fits_120 rfl ?_
          refine lv_istore (lv' := [(7, .int (zi 0)), (6, .int v95), (5, .int v88), (0, .ref (G_m Γ 0)), (1, .int f1), (2, .int f2), (3, .int f3), (4, .int s4)]) hx hb dX7_fits_121 hl (Nat.le_of_ble_eq_true rfl) rfl (fun ls hl => ?_)
          obtain ⟨e123, S, hlp, hf⟩ := nB_some hf
          refine mRg.loop (wm_fits_l123 Γ l f1 f2 f3 s4 v88 v95) (zi 0) p e R s m args below meth c Q A _ _ _ _ _ _ C hG ⟨ls, rfl, lv_sub hl [3, 4, 5, 6, 7, 2, 1, 0] rfl⟩ hlp (fun H locs g hL hG => ?_)
          obtain ⟨ls, rfl, hl⟩ := hL
          have hl : lv_has ls 8 [(0, .ref (G_m Γ 0)), (1, .int f1), (2, .int f2), (3, .int f3), (4, .int s4), (5, .int v88), (6, .int v95)] := hl
          refine lv_aload_n hx hb dX7_fits_149 rfl (lv_at hl 0 rfl) ?_
          refine zm_ga C hG 39 (Nat.le_of_ble_eq_true rfl) (by decide) q1482 dX7_fits_150 ?_
          refine lv_iconst (v := zi 3) hx hb dX7_fits_153 rfl ?_
          refine lv_iload hx hb dX7_fits_154 (lv_at hl 6 rfl) ?_
          refine zm_as C hG 39 hf (Nat.le_of_ble_eq_true rfl) rfl dX7_fits_156 (fun S H locs hG hf => ?_)
          refine lv_aload_n hx hb dX7_fits_157 rfl (lv_at hl 0 rfl) ?_
          refine zm_ga C hG 39 (Nat.le_of_ble_eq_true rfl) (by decide) q1482 dX7_fits_158 ?_
          refine lv_iconst (v := zi 4) hx hb dX7_fits_161 rfl ?_
          refine lv_iload hx hb dX7_fits_162 (lv_at hl 5 rfl) ?_
          refine zm_as C hG 39 hf (Nat.le_of_ble_eq_true rfl) rfl dX7_fits_164 (fun S H locs hG hf => ?_)
          refine z_iinc (fun v => [(4, .int v), (0, .ref (G_m Γ 0)), (1, .int f1), (2, .int f2), (3, .int f3), (5, .int v88), (6, .int v95)]) hx hb hf dX7_fits_165 hl (k := 4) rfl (Nat.le_of_ble_eq_true rfl) (fun _ => rfl) (fun n165 ls hf hl => ?_)
          refine lv_goto (tgt := 62) hx hb dX7_fits_168 (by decide) ?_
          obtain ⟨rfl, rfl⟩ := z_p hf
          exact kk _ _ _ ⟨ls, rfl, lv_sub hl [1, 2, 3, 4, 0] rfl⟩ hG
        · have hf := z_t c114 hf
          refine lv_goto (tgt := 165) hx hb dX7_fits_117 (by decide) ?_
          refine z_iinc (fun v => [(4, .int v), (6, .int v95), (5, .int v88), (0, .ref (G_m Γ 0)), (1, .int f1), (2, .int f2), (3, .int f3)]) hx hb hf dX7_fits_165 hl (k := 6) rfl (Nat.le_of_ble_eq_true rfl) (fun _ => rfl) (fun n165 ls hf hl => ?_)
          refine lv_goto (tgt := 62) hx hb dX7_fits_168 (by decide) ?_
          obtain ⟨rfl, rfl⟩ := z_p hf
          exact kk _ _ _ ⟨ls, rfl, lv_sub hl [3, 4, 5, 6, 0] rfl⟩ hG
    · have hf := z_t c80 hf
      refine lv_goto (tgt := 165) hx hb dX7_fits_83 (by decide) ?_
      refine z_iinc (fun v => [(4, .int v), (0, .ref (G_m Γ 0)), (1, .int f1), (2, .int f2), (3, .int f3)]) hx hb hf dX7_fits_165 hl (k := 4) rfl (Nat.le_of_ble_eq_true rfl) (fun _ => rfl) (fun n165 ls hf hl => ?_)
      refine lv_goto (tgt := 62) hx hb dX7_fits_168 (by decide) ?_
      obtain ⟨rfl, rfl⟩ := z_p hf
      exact kk _ _ _ ⟨ls, rfl, lv_sub hl [1, 2, 3, 4, 0] rfl⟩ hG
theorem wm_fits_l62 (Γ : zG) (l : Launch) (f1 : Int32) (f2 : Int32) (f3 : Int32) : ∀ s : Int32, mRg Γ l yX7_fits cX7_fits 8 none 7 167 (m_fits_l62 f1 f2 f3 s) (fun m => im_fits_l62 Γ f1 f2 f3 m s) (zLE (im_fits_l62 Γ f1 f2 f3) (em_fits_l62 Γ f1 f2 f3)) := fun s => wm_fits_l62_b Γ l f1 f2 f3 s
set_option maxHeartbeats 4000000 in
theorem wm_fits_l37_b (Γ : zG) (l : Launch) (f1 : Int32) (f2 : Int32) (s3 : Int32) : mRg Γ l yX7_fits cX7_fits 8 none 7 167 (m_fits_l37 f1 f2 s3) (zAt0 8 37 [(0, .ref (G_m Γ 0)), (1, .int f1), (2, .int f2), (3, .int s3)] []) (zLE (im_fits_l37 Γ f1 f2) (em_fits_l37 Γ f1 f2)) := by
  intro p e R s m args below meth c Q A S H locs x S' g C hG hI hf kk
  obtain ⟨ls, rfl, hl⟩ := hI
  obtain ⟨⟨hx, hb, hml, hown, hts⟩, hr, hlk, hK, hR1, hR2⟩ := id C
  have C : zCx Γ p R s m args meth c cX7_fits 8 RX7 none 7 167 := C
  refine lv_iload_n hx hb dX7_fits_37 rfl (lv_at hl 3 rfl) ?_
  refine lv_aload_n hx hb dX7_fits_38 rfl (lv_at hl 0 rfl) ?_
  refine zm_ga C hG 0 (Nat.le_of_ble_eq_true rfl) (by decide) q1443 dX7_fits_39 ?_
  refine lv_iconst (v := zi 2) hx hb dX7_fits_42 rfl ?_
  refine zm_al C hG 0 hf (Nat.le_of_ble_eq_true rfl) rfl dX7_fits_43 (fun v43 hf => ?_)
  refine lv_icmp_ge (tgt := 177) hx hb dX7_fits_44 (by decide) (fun c44 => ?_) (fun c44 => ?_)
  · have hf := z_t c44 hf
    obtain ⟨rfl, rfl⟩ := z_p hf
    exact kk _ _ _ ⟨ls, rfl, lv_sub hl [0, 1, 2] rfl⟩ hG
  · have hf := z_f c44 hf
    refine lv_aload_n hx hb dX7_fits_47 rfl (lv_at hl 0 rfl) ?_
    refine lv_iconst (v := zi 1) hx hb dX7_fits_48 rfl ?_
    refine lv_iload_n hx hb dX7_fits_49 rfl (lv_at hl 3 rfl) ?_
    refine zm_cvi (As := [.int (zi 1), .int s3]) (rest := []) C hG hf (ctm_tells Γ l (zi 1) s3) (lw_V q1889 q1891 qs77 q107 q1892) ytm_tells rfl rfl (Nat.le_of_ble_eq_true rfl) (Nat.le_of_ble_eq_true rfl) hl.1 (Nat.le_of_ble_eq_true rfl) dX7_fits_50 (fun v50 S H locs hG hf => ?_)
    refine lv_if_ne (tgt := 59) hx hb dX7_fits_53 (by decide) (fun c53 => ?_) (fun c53 => ?_)
    · have hf := z_f c53 hf
      refine lv_iconst (v := zi (-1)) hx hb dX7_fits_59 rfl ?_
      refine lv_istore (lv' := [(4, .int (zi (-1))), (0, .ref (G_m Γ 0)), (1, .int f1), (2, .int f2), (3, .int s3)]) hx hb dX7_fits_60 hl (Nat.le_of_ble_eq_true rfl) rfl (fun ls hl => ?_)
      obtain ⟨e62, S, hlp, hf⟩ := nB_some hf
      refine mRg.loop (wm_fits_l62 Γ l f1 f2 s3) (zi (-1)) p e R s m args below meth c Q A _ _ _ _ _ _ C hG ⟨ls, rfl, lv_sub hl [1, 2, 3, 4, 0] rfl⟩ hlp (fun H locs g hL hG => ?_)
      obtain ⟨ls, rfl, hl⟩ := hL
      have hl : lv_has ls 8 [(0, .ref (G_m Γ 0)), (1, .int f1), (2, .int f2), (3, .int s3)] := hl
      refine z_iinc (fun v => [(3, .int v), (0, .ref (G_m Γ 0)), (1, .int f1), (2, .int f2)]) hx hb hf dX7_fits_171 hl (k := 3) rfl (Nat.le_of_ble_eq_true rfl) (fun _ => rfl) (fun n171 ls hf hl => ?_)
      refine lv_goto (tgt := 37) hx hb dX7_fits_174 (by decide) ?_
      obtain ⟨rfl, rfl⟩ := z_p hf
      exact kk _ _ _ ⟨ls, rfl, lv_sub hl [1, 2, 3, 0] rfl⟩ hG
    · have hf := z_t c53 hf
      refine lv_goto (tgt := 171) hx hb dX7_fits_56 (by decide) ?_
      refine z_iinc (fun v => [(3, .int v), (0, .ref (G_m Γ 0)), (1, .int f1), (2, .int f2)]) hx hb hf dX7_fits_171 hl (k := 3) rfl (Nat.le_of_ble_eq_true rfl) (fun _ => rfl) (fun n171 ls hf hl => ?_)
      refine lv_goto (tgt := 37) hx hb dX7_fits_174 (by decide) ?_
      obtain ⟨rfl, rfl⟩ := z_p hf
      exact kk _ _ _ ⟨ls, rfl, lv_sub hl [1, 2, 3, 0] rfl⟩ hG
theorem wm_fits_l37 (Γ : zG) (l : Launch) (f1 : Int32) (f2 : Int32) : ∀ s : Int32, mRg Γ l yX7_fits cX7_fits 8 none 7 167 (m_fits_l37 f1 f2 s) (fun m => im_fits_l37 Γ f1 f2 m s) (zLE (im_fits_l37 Γ f1 f2) (em_fits_l37 Γ f1 f2)) := fun s => wm_fits_l37_b Γ l f1 f2 s
set_option maxHeartbeats 4000000 in
theorem wm_fits_l13_b (Γ : zG) (l : Launch) (f1 : Int32) (s2 : Int32) : mRg Γ l yX7_fits cX7_fits 8 none 7 167 (m_fits_l13 f1 s2) (zAt0 8 13 [(0, .ref (G_m Γ 0)), (1, .int f1), (2, .int s2)] []) (zLE (im_fits_l13 Γ f1) (em_fits_l13 Γ f1)) := by
  intro p e R s m args below meth c Q A S H locs x S' g C hG hI hf kk
  obtain ⟨ls, rfl, hl⟩ := hI
  obtain ⟨⟨hx, hb, hml, hown, hts⟩, hr, hlk, hK, hR1, hR2⟩ := id C
  have C : zCx Γ p R s m args meth c cX7_fits 8 RX7 none 7 167 := C
  refine lv_iload_n hx hb dX7_fits_13 rfl (lv_at hl 2 rfl) ?_
  refine lv_aload_n hx hb dX7_fits_14 rfl (lv_at hl 0 rfl) ?_
  refine zm_ga C hG 0 (Nat.le_of_ble_eq_true rfl) (by decide) q1443 dX7_fits_15 ?_
  refine lv_iconst (v := zi 2) hx hb dX7_fits_18 rfl ?_
  refine zm_al C hG 0 hf (Nat.le_of_ble_eq_true rfl) rfl dX7_fits_19 (fun v19 hf => ?_)
  refine lv_icmp_ge (tgt := 183) hx hb dX7_fits_20 (by decide) (fun c20 => ?_) (fun c20 => ?_)
  · have hf := z_t c20 hf
    obtain ⟨rfl, rfl⟩ := z_p hf
    exact kk _ _ _ ⟨ls, rfl, lv_sub hl [0] rfl⟩ hG
  · have hf := z_f c20 hf
    refine lv_aload_n hx hb dX7_fits_23 rfl (lv_at hl 0 rfl) ?_
    refine lv_iconst (v := zi 0) hx hb dX7_fits_24 rfl ?_
    refine lv_iload_n hx hb dX7_fits_25 rfl (lv_at hl 2 rfl) ?_
    refine zm_cvi (As := [.int (zi 0), .int s2]) (rest := []) C hG hf (ctm_tells Γ l (zi 0) s2) (lw_V q1889 q1891 qs77 q107 q1892) ytm_tells rfl rfl (Nat.le_of_ble_eq_true rfl) (Nat.le_of_ble_eq_true rfl) hl.1 (Nat.le_of_ble_eq_true rfl) dX7_fits_26 (fun v26 S H locs hG hf => ?_)
    refine lv_if_ne (tgt := 35) hx hb dX7_fits_29 (by decide) (fun c29 => ?_) (fun c29 => ?_)
    · have hf := z_f c29 hf
      refine lv_iconst (v := zi (-1)) hx hb dX7_fits_35 rfl ?_
      refine lv_istore_n (lv' := [(3, .int (zi (-1))), (0, .ref (G_m Γ 0)), (1, .int f1), (2, .int s2)]) hx hb dX7_fits_36 rfl hl (Nat.le_of_ble_eq_true rfl) rfl (fun ls hl => ?_)
      obtain ⟨e37, S, hlp, hf⟩ := nB_some hf
      refine mRg.loop (wm_fits_l37 Γ l f1 s2) (zi (-1)) p e R s m args below meth c Q A _ _ _ _ _ _ C hG ⟨ls, rfl, lv_sub hl [1, 2, 3, 0] rfl⟩ hlp (fun H locs g hL hG => ?_)
      obtain ⟨ls, rfl, hl⟩ := hL
      have hl : lv_has ls 8 [(0, .ref (G_m Γ 0)), (1, .int f1), (2, .int s2)] := hl
      refine z_iinc (fun v => [(2, .int v), (0, .ref (G_m Γ 0)), (1, .int f1)]) hx hb hf dX7_fits_177 hl (k := 2) rfl (Nat.le_of_ble_eq_true rfl) (fun _ => rfl) (fun n177 ls hf hl => ?_)
      refine lv_goto (tgt := 13) hx hb dX7_fits_180 (by decide) ?_
      obtain ⟨rfl, rfl⟩ := z_p hf
      exact kk _ _ _ ⟨ls, rfl, lv_sub hl [1, 2, 0] rfl⟩ hG
    · have hf := z_t c29 hf
      refine lv_goto (tgt := 177) hx hb dX7_fits_32 (by decide) ?_
      refine z_iinc (fun v => [(2, .int v), (0, .ref (G_m Γ 0)), (1, .int f1)]) hx hb hf dX7_fits_177 hl (k := 2) rfl (Nat.le_of_ble_eq_true rfl) (fun _ => rfl) (fun n177 ls hf hl => ?_)
      refine lv_goto (tgt := 13) hx hb dX7_fits_180 (by decide) ?_
      obtain ⟨rfl, rfl⟩ := z_p hf
      exact kk _ _ _ ⟨ls, rfl, lv_sub hl [1, 2, 0] rfl⟩ hG
theorem wm_fits_l13 (Γ : zG) (l : Launch) (f1 : Int32) : ∀ s : Int32, mRg Γ l yX7_fits cX7_fits 8 none 7 167 (m_fits_l13 f1 s) (fun m => im_fits_l13 Γ f1 m s) (zLE (im_fits_l13 Γ f1) (em_fits_l13 Γ f1)) := fun s => wm_fits_l13_b Γ l f1 s
set_option maxHeartbeats 4000000 in
theorem wm_fits (Γ : zG) (l : Launch) (a1 : Int32) : mRg Γ l yX7_fits cX7_fits 8 none 7 167 (m_fits a1) (zAt0 8 0 (lv_args 0 [.ref (G_m Γ 0), .int a1]) []) (zLv cX7_fits) := by
  intro p e R s m args below meth c Q A S H locs x S' g C hG hI hf kk
  obtain ⟨ls, rfl, hl⟩ := hI
  obtain ⟨⟨hx, hb, hml, hown, hts⟩, hr, hlk, hK, hR1, hR2⟩ := id C
  have C : zCx Γ p R s m args meth c cX7_fits 8 RX7 none 7 167 := C
  have hl : lv_has ls 8 [(0, .ref (G_m Γ 0)), (1, .int a1)] := hl
  refine lv_aload_n hx hb dX7_fits_0 rfl (lv_at hl 0 rfl) ?_
  refine zm_cvv (As := []) (rest := []) C hG hf (ctm_weighs Γ l) (lw_V q1885 q1887 qs76 q107 q1888) ytm_weighs rfl rfl (Nat.le_of_ble_eq_true rfl) (Nat.le_of_ble_eq_true rfl) hl.1 (Nat.le_of_ble_eq_true rfl) dX7_fits_1 (fun S H locs hG hf => ?_)
  refine lv_aload_n hx hb dX7_fits_4 rfl (lv_at hl 0 rfl) ?_
  refine zm_ga C hG 39 (Nat.le_of_ble_eq_true rfl) (by decide) q1482 dX7_fits_5 ?_
  refine lv_iconst (v := zi 0) hx hb dX7_fits_8 rfl ?_
  refine lv_iconst (v := zi (-1)) hx hb dX7_fits_9 rfl ?_
  refine zm_as C hG 39 hf (Nat.le_of_ble_eq_true rfl) rfl dX7_fits_10 (fun S H locs hG hf => ?_)
  refine lv_iconst (v := zi (-1)) hx hb dX7_fits_11 rfl ?_
  refine lv_istore_n (lv' := [(2, .int (zi (-1))), (0, .ref (G_m Γ 0)), (1, .int a1)]) hx hb dX7_fits_12 rfl hl (Nat.le_of_ble_eq_true rfl) rfl (fun ls hl => ?_)
  obtain ⟨e13, S, hlp, hf⟩ := nB_some hf
  refine mRg.loop (wm_fits_l13 Γ l a1) (zi (-1)) p e R s m args below meth c Q A _ _ _ _ _ _ C hG ⟨ls, rfl, lv_sub hl [1, 2, 0] rfl⟩ hlp (fun H locs g hL hG => ?_)
  obtain ⟨ls, rfl, hl⟩ := hL
  have hl : lv_has ls 8 [(0, .ref (G_m Γ 0))] := hl
  obtain ⟨rfl, rfl⟩ := z_p hf
  exact kk _ _ _ ⟨_, _, rfl, dX7_fits_183⟩ hG
theorem ctm_fits (Γ : zG) (l : Launch) (a1 : Int32) : mCt Γ l yX7_fits (ws_ yX7_fits cX7_fits 8 none) 7 167 [.ref (G_m Γ 0), .int a1] (m_fits a1) zov := mCt.mkv (by decide +kernel) (Nat.le_of_ble_eq_true rfl) (wm_fits Γ l a1)
theorem ytm_fits : yX7_fits.cls = RX7 ∧ yX7_fits.cls ≠ "java/lang/invoke/MethodHandle" ∧ yX7_fits.cls ≠ "java/lang/invoke/VarHandle" ∧ (parseMethodDescriptor yX7_fits.desc).map (fun d => d.parameters.length) = some 1 := by decide +kernel
set_option maxHeartbeats 4000000 in
theorem wm_fit (Γ : zG) (l : Launch) (a1 : Int32) (a2 : Int32) : mRg Γ l yX7_fit cX7_fit 3 (some .int) 8 194 (m_fit a1 a2) (zAt0 3 0 (lv_args 0 [.ref (G_m Γ 0), .int a1, .int a2]) []) (zLi cX7_fit) := by
  intro p e R s m args below meth c Q A S H locs x S' g C hG hI hf kk
  obtain ⟨ls, rfl, hl⟩ := hI
  obtain ⟨⟨hx, hb, hml, hown, hts⟩, hr, hlk, hK, hR1, hR2⟩ := id C
  have C : zCx Γ p R s m args meth c cX7_fit 3 RX7 (some .int) 8 194 := C
  have hl : lv_has ls 3 [(0, .ref (G_m Γ 0)), (1, .int a1), (2, .int a2)] := hl
  refine lv_iload_n hx hb dX7_fit_0 rfl (lv_at hl 1 rfl) ?_
  refine lv_iconst (v := zi 0) hx hb dX7_fit_1 rfl ?_
  refine lv_bipush (v := zi 16) hx hb dX7_fit_2 (by decide +kernel) ?_
  refine zm_csi (As := [.int a1, .int (zi 0), .int (zi 16)]) (rest := []) C hG hf (ctm_isIn Γ l a1 (zi 0) (zi 16)) (lw_S q1612 q1613 q107 q1614) ytm_isIn rfl rfl (Nat.le_of_ble_eq_true rfl) (Nat.le_of_ble_eq_true rfl) hl.1 (Nat.le_of_ble_eq_true rfl) dX7_fit_4 (fun v4 S H locs hG hf => ?_)
  refine lv_if_eq (tgt := 19) hx hb dX7_fit_7 (by decide) (fun c7 => ?_) (fun c7 => ?_)
  · have hf := z_t c7 hf
    refine lv_iconst (v := zi (-1)) hx hb dX7_fit_19 rfl ?_
    obtain ⟨rfl, rfl⟩ := z_p hf
    exact kk _ _ _ ⟨_, _, rfl, dX7_fit_20⟩ hG
  · have hf := z_f c7 hf
    refine lv_iload_n hx hb dX7_fit_10 rfl (lv_at hl 2 rfl) ?_
    refine lv_iconst (v := zi 0) hx hb dX7_fit_11 rfl ?_
    refine lv_iconst (v := zi 4) hx hb dX7_fit_12 rfl ?_
    refine zm_csi (As := [.int a2, .int (zi 0), .int (zi 4)]) (rest := []) C hG hf (ctm_isIn Γ l a2 (zi 0) (zi 4)) (lw_S q1612 q1613 q107 q1614) ytm_isIn rfl rfl (Nat.le_of_ble_eq_true rfl) (Nat.le_of_ble_eq_true rfl) hl.1 (Nat.le_of_ble_eq_true rfl) dX7_fit_13 (fun v13 S H locs hG hf => ?_)
    refine lv_if_ne (tgt := 21) hx hb dX7_fit_16 (by decide) (fun c16 => ?_) (fun c16 => ?_)
    · have hf := z_f c16 hf
      refine lv_aload_n hx hb dX7_fit_21 rfl (lv_at hl 0 rfl) ?_
      refine lv_iload_n hx hb dX7_fit_22 rfl (lv_at hl 1 rfl) ?_
      refine zm_cvv (As := [.int a1]) (rest := []) C hG hf (ctm_fits Γ l a1) (lw_V q1881 q1883 qs75 q107 q1884) ytm_fits rfl rfl (Nat.le_of_ble_eq_true rfl) (Nat.le_of_ble_eq_true rfl) hl.1 (Nat.le_of_ble_eq_true rfl) dX7_fit_23 (fun S H locs hG hf => ?_)
      refine lv_aload_n hx hb dX7_fit_26 rfl (lv_at hl 0 rfl) ?_
      refine zm_ga C hG 39 (Nat.le_of_ble_eq_true rfl) (by decide) q1482 dX7_fit_27 ?_
      refine lv_iconst (v := zi 0) hx hb dX7_fit_30 rfl ?_
      refine zm_al C hG 39 hf (Nat.le_of_ble_eq_true rfl) rfl dX7_fit_31 (fun v31 hf => ?_)
      refine lv_if_ge (tgt := 39) hx hb dX7_fit_32 (by decide) (fun c32 => ?_) (fun c32 => ?_)
      · have hf := z_t c32 hf
        refine lv_aload_n hx hb dX7_fit_39 rfl (lv_at hl 0 rfl) ?_
        refine zm_ga C hG 39 (Nat.le_of_ble_eq_true rfl) (by decide) q1482 dX7_fit_40 ?_
        refine lv_iload_n hx hb dX7_fit_43 rfl (lv_at hl 2 rfl) ?_
        refine zm_al C hG 39 hf (Nat.le_of_ble_eq_true rfl) rfl dX7_fit_44 (fun v44 hf => ?_)
        obtain ⟨rfl, rfl⟩ := z_p hf
        exact kk _ _ _ ⟨_, _, rfl, dX7_fit_45⟩ hG
      · have hf := z_f c32 hf
        refine lv_iconst (v := zi (-1)) hx hb dX7_fit_35 rfl ?_
        refine lv_goto (tgt := 45) hx hb dX7_fit_36 (by decide) ?_
        obtain ⟨rfl, rfl⟩ := z_p hf
        exact kk _ _ _ ⟨_, _, rfl, dX7_fit_45⟩ hG
    · have hf := z_t c16 hf
      refine lv_iconst (v := zi (-1)) hx hb dX7_fit_19 rfl ?_
      obtain ⟨rfl, rfl⟩ := z_p hf
      exact kk _ _ _ ⟨_, _, rfl, dX7_fit_20⟩ hG
theorem ctm_fit (Γ : zG) (l : Launch) (a1 : Int32) (a2 : Int32) : mCt Γ l yX7_fit (ws_ yX7_fit cX7_fit 3 (some .int)) 8 194 [.ref (G_m Γ 0), .int a1, .int a2] (m_fit a1 a2) zoi := mCt.mki (by decide +kernel) (Nat.le_of_ble_eq_true rfl) (wm_fit Γ l a1 a2)
theorem ytm_fit : yX7_fit.cls = RX7 ∧ yX7_fit.cls ≠ "java/lang/invoke/MethodHandle" ∧ yX7_fit.cls ≠ "java/lang/invoke/VarHandle" ∧ (parseMethodDescriptor yX7_fit.desc).map (fun d => d.parameters.length) = some 2 := by decide +kernel
set_option maxHeartbeats 4000000 in
theorem wm_change_j180 (Γ : zG) (l : Launch) (b5 : Int32) (b6 : Int32) (b8 : Int32) (t0 : Int32) (t1 : Int32) : mRg Γ l yX7_change cX7_change 9 (some .int) 2 43 (m_change_j180 b5 b6 b8 t0 t1) (zAt0 9 180 [(0, .ref (G_m Γ 0)), (5, .int b5), (6, .int b6), (8, .int b8)] [.int t0, .int t1, .ref (G_m Γ (0 + 1))]) (zLi cX7_change) := by
  intro p e R s m args below meth c Q A S H locs x S' g C hG hI hf kk
  obtain ⟨ls, rfl, hl⟩ := hI
  obtain ⟨⟨hx, hb, hml, hown, hts⟩, hr, hlk, hK, hR1, hR2⟩ := id C
  have C : zCx Γ p R s m args meth c cX7_change 9 RX7 (some .int) 2 43 := C
  refine zm_as C hG 0 hf (Nat.le_of_ble_eq_true rfl) rfl dX7_change_180 (fun S H locs hG hf => ?_)
  refine lv_aload_n hx hb dX7_change_181 rfl (lv_at hl 0 rfl) ?_
  refine zm_ga C hG 0 (Nat.le_of_ble_eq_true rfl) (by decide) q1443 dX7_change_182 ?_
  refine lv_iload hx hb dX7_change_185 (lv_at hl 3 rfl) ?_
  refine lv_iconst (v := zi 3) hx hb dX7_change_187 rfl ?_
  refine lv_iadd hx hb dX7_change_188 ?_
  refine lv_iload hx hb dX7_change_189 (lv_at hl 1 rfl) ?_
  refine zm_as C hG 0 hf (Nat.le_of_ble_eq_true rfl) rfl dX7_change_191 (fun S H locs hG hf => ?_)
  refine lv_aload_n hx hb dX7_change_192 rfl (lv_at hl 0 rfl) ?_
  refine zm_ga C hG 0 (Nat.le_of_ble_eq_true rfl) (by decide) q1443 dX7_change_193 ?_
  refine lv_iload hx hb dX7_change_196 (lv_at hl 2 rfl) ?_
  refine lv_bipush (v := zi 15) hx hb dX7_change_198 (by decide +kernel) ?_
  refine lv_iadd hx hb dX7_change_200 ?_
  refine z_top hf (fun n201 hf => ?_)
  refine lv_dup2_11 hx hb dX7_change_201 rfl rfl ?_
  refine zm_al C hG 0 hf (Nat.le_of_ble_eq_true rfl) rfl dX7_change_202 (fun v202 hf => ?_)
  refine lv_iconst (v := zi 1) hx hb dX7_change_203 rfl ?_
  refine lv_iadd hx hb dX7_change_204 ?_
  refine zm_as C hG 0 hf (Nat.le_of_ble_eq_true rfl) rfl dX7_change_205 (fun S H locs hG hf => ?_)
  refine lv_aload_n hx hb dX7_change_206 rfl (lv_at hl 0 rfl) ?_
  refine zm_ga C hG 0 (Nat.le_of_ble_eq_true rfl) (by decide) q1443 dX7_change_207 ?_
  refine lv_iload hx hb dX7_change_210 (lv_at hl 2 rfl) ?_
  refine lv_bipush (v := zi 15) hx hb dX7_change_212 (by decide +kernel) ?_
  refine lv_iadd hx hb dX7_change_214 ?_
  refine zm_al C hG 0 hf (Nat.le_of_ble_eq_true rfl) rfl dX7_change_215 (fun v215 hf => ?_)
  refine lv_iconst (v := zi 1) hx hb dX7_change_216 rfl ?_
  refine lv_isub hx hb dX7_change_217 ?_
  obtain ⟨rfl, rfl⟩ := z_p hf
  exact kk _ _ _ ⟨_, _, rfl, dX7_change_218⟩ hG
set_option maxHeartbeats 4000000 in
theorem wm_change_j161 (Γ : zG) (l : Launch) (b2 : Int32) (b4 : Int32) (b5 : Int32) (b6 : Int32) (b8 : Int32) (t0 : Int32) (t1 : Int32) : mRg Γ l yX7_change cX7_change 9 (some .int) 2 43 (m_change_j161 b2 b4 b5 b6 b8 t0 t1) (zAt0 9 161 [(0, .ref (G_m Γ 0)), (2, .int b2), (4, .int b4), (5, .int b5), (6, .int b6), (8, .int b8)] [.int t0, .int t1, .ref (G_m Γ (0 + 1))]) (zLi cX7_change) := by
  intro p e R s m args below meth c Q A S H locs x S' g C hG hI hf kk
  obtain ⟨ls, rfl, hl⟩ := hI
  obtain ⟨⟨hx, hb, hml, hown, hts⟩, hr, hlk, hK, hR1, hR2⟩ := id C
  have C : zCx Γ p R s m args meth c cX7_change 9 RX7 (some .int) 2 43 := C
  refine zm_as C hG 0 hf (Nat.le_of_ble_eq_true rfl) rfl dX7_change_161 (fun S H locs hG hf => ?_)
  refine lv_aload_n hx hb dX7_change_162 rfl (lv_at hl 0 rfl) ?_
  refine zm_ga C hG 0 (Nat.le_of_ble_eq_true rfl) (by decide) q1443 dX7_change_163 ?_
  refine lv_iload hx hb dX7_change_166 (lv_at hl 5 rfl) ?_
  refine lv_iconst (v := zi 2) hx hb dX7_change_168 rfl ?_
  refine lv_iadd hx hb dX7_change_169 ?_
  refine lv_iload_n hx hb dX7_change_170 rfl (lv_at hl 1 rfl) ?_
  refine lv_if_ne (tgt := 178) hx hb dX7_change_171 (by decide) (fun c171 => ?_) (fun c171 => ?_)
  · have hf := z_f c171 hf
    refine lv_iload hx hb dX7_change_178 (lv_at hl 2 rfl) ?_
    exact wm_change_j180 Γ l b5 b6 b8 b4 (b8 + (zi 2)) p e R s m args below meth c Q A _ _ _ _ _ _ C hG ⟨ls, rfl, lv_sub hl [0, 3, 4, 5] rfl⟩ hf kk
  · have hf := z_t c171 hf
    refine lv_iconst (v := zi 0) hx hb dX7_change_174 rfl ?_
    refine lv_goto (tgt := 180) hx hb dX7_change_175 (by decide) ?_
    exact wm_change_j180 Γ l b5 b6 b8 (zi 0) (b8 + (zi 2)) p e R s m args below meth c Q A _ _ _ _ _ _ C hG ⟨ls, rfl, lv_sub hl [0, 3, 4, 5] rfl⟩ hf kk
set_option maxHeartbeats 4000000 in
theorem wm_change_j91 (Γ : zG) (l : Launch) (b2 : Int32) (b3 : Int32) (b4 : Int32) (b5 : Int32) (b6 : Int32) (t0 : Int32) : mRg Γ l yX7_change cX7_change 9 (some .int) 2 43 (m_change_j91 b2 b3 b4 b5 b6 t0) (zAt0 9 91 [(0, .ref (G_m Γ 0)), (2, .int b2), (3, .int b3), (4, .int b4), (5, .int b5), (6, .int b6)] [.int t0]) (zLi cX7_change) := by
  intro p e R s m args below meth c Q A S H locs x S' g C hG hI hf kk
  obtain ⟨ls, rfl, hl⟩ := hI
  obtain ⟨⟨hx, hb, hml, hown, hts⟩, hr, hlk, hK, hR1, hR2⟩ := id C
  have C : zCx Γ p R s m args meth c cX7_change 9 RX7 (some .int) 2 43 := C
  refine lv_istore (lv' := [(7, .int t0), (0, .ref (G_m Γ 0)), (2, .int b2), (3, .int b3), (4, .int b4), (5, .int b5), (6, .int b6)]) hx hb dX7_change_91 hl (Nat.le_of_ble_eq_true rfl) rfl (fun ls hl => ?_)
  refine lv_aload_n hx hb dX7_change_93 rfl (lv_at hl 1 rfl) ?_
  refine zm_ga C hG 0 (Nat.le_of_ble_eq_true rfl) (by decide) q1443 dX7_change_94 ?_
  refine lv_iload hx hb dX7_change_97 (lv_at hl 6 rfl) ?_
  refine lv_bipush (v := zi 15) hx hb dX7_change_99 (by decide +kernel) ?_
  refine lv_iadd hx hb dX7_change_101 ?_
  refine zm_al C hG 0 hf (Nat.le_of_ble_eq_true rfl) rfl dX7_change_102 (fun v102 hf => ?_)
  refine lv_bipush (v := zi 6) hx hb dX7_change_103 (by decide +kernel) ?_
  refine lv_icmp_eq (tgt := 113) hx hb dX7_change_105 (by decide) (fun c105 => ?_) (fun c105 => ?_)
  · have hf := z_t c105 hf
    refine lv_iconst (v := zi (-1)) hx hb dX7_change_113 rfl ?_
    obtain ⟨rfl, rfl⟩ := z_p hf
    exact kk _ _ _ ⟨_, _, rfl, dX7_change_114⟩ hG
  · have hf := z_f c105 hf
    refine lv_iload hx hb dX7_change_108 (lv_at hl 0 rfl) ?_
    refine lv_if_ne (tgt := 115) hx hb dX7_change_110 (by decide) (fun c110 => ?_) (fun c110 => ?_)
    · have hf := z_f c110 hf
      refine lv_iload hx hb dX7_change_115 (lv_at hl 6 rfl) ?_
      refine lv_bipush (v := zi 16) hx hb dX7_change_117 (by decide +kernel) ?_
      refine lv_iadd hx hb dX7_change_119 ?_
      refine lv_iconst (v := zi 4) hx hb dX7_change_120 rfl ?_
      refine lv_aload_n hx hb dX7_change_121 rfl (lv_at hl 1 rfl) ?_
      refine zm_ga C hG 0 (Nat.le_of_ble_eq_true rfl) (by decide) q1443 dX7_change_122 ?_
      refine lv_iload hx hb dX7_change_125 (lv_at hl 6 rfl) ?_
      refine lv_bipush (v := zi 15) hx hb dX7_change_127 (by decide +kernel) ?_
      refine lv_iadd hx hb dX7_change_129 ?_
      refine zm_al C hG 0 hf (Nat.le_of_ble_eq_true rfl) rfl dX7_change_130 (fun v130 hf => ?_)
      refine lv_imul hx hb dX7_change_131 ?_
      refine lv_iadd hx hb dX7_change_132 ?_
      refine z_top hf (fun n133 hf => ?_)
      refine lv_istore (lv' := [(8, .int n133), (7, .int t0), (0, .ref (G_m Γ 0)), (2, .int b2), (3, .int b3), (4, .int b4), (5, .int b5), (6, .int b6)]) hx hb dX7_change_133 hl (Nat.le_of_ble_eq_true rfl) rfl (fun ls hl => ?_)
      refine lv_aload_n hx hb dX7_change_135 rfl (lv_at hl 2 rfl) ?_
      refine zm_ga C hG 0 (Nat.le_of_ble_eq_true rfl) (by decide) q1443 dX7_change_136 ?_
      refine lv_iload hx hb dX7_change_139 (lv_at hl 0 rfl) ?_
      refine lv_iload_n hx hb dX7_change_141 rfl (lv_at hl 3 rfl) ?_
      refine zm_as C hG 0 hf (Nat.le_of_ble_eq_true rfl) rfl dX7_change_142 (fun S H locs hG hf => ?_)
      refine lv_aload_n hx hb dX7_change_143 rfl (lv_at hl 2 rfl) ?_
      refine zm_ga C hG 0 (Nat.le_of_ble_eq_true rfl) (by decide) q1443 dX7_change_144 ?_
      refine lv_iload hx hb dX7_change_147 (lv_at hl 0 rfl) ?_
      refine lv_iconst (v := zi 1) hx hb dX7_change_149 rfl ?_
      refine lv_iadd hx hb dX7_change_150 ?_
      refine lv_iload_n hx hb dX7_change_151 rfl (lv_at hl 3 rfl) ?_
      refine lv_iconst (v := zi 2) hx hb dX7_change_152 rfl ?_
      refine lv_icmp_ne (tgt := 160) hx hb dX7_change_153 (by decide) (fun c153 => ?_) (fun c153 => ?_)
      · have hf := z_f c153 hf
        refine lv_iload_n hx hb dX7_change_160 rfl (lv_at hl 4 rfl) ?_
        exact wm_change_j161 Γ l b2 b4 b5 b6 n133 b3 (n133 + (zi 1)) p e R s m args below meth c Q A _ _ _ _ _ _ C hG ⟨ls, rfl, lv_sub hl [2, 3, 5, 6, 7, 0] rfl⟩ hf kk
      · have hf := z_t c153 hf
        refine lv_iconst (v := zi 0) hx hb dX7_change_156 rfl ?_
        refine lv_goto (tgt := 161) hx hb dX7_change_157 (by decide) ?_
        exact wm_change_j161 Γ l b2 b4 b5 b6 n133 (zi 0) (n133 + (zi 1)) p e R s m args below meth c Q A _ _ _ _ _ _ C hG ⟨ls, rfl, lv_sub hl [2, 3, 5, 6, 7, 0] rfl⟩ hf kk
    · have hf := z_t c110 hf
      refine lv_iconst (v := zi (-1)) hx hb dX7_change_113 rfl ?_
      obtain ⟨rfl, rfl⟩ := z_p hf
      exact kk _ _ _ ⟨_, _, rfl, dX7_change_114⟩ hG
set_option maxHeartbeats 4000000 in
theorem wm_change_j90 (Γ : zG) (l : Launch) (b2 : Int32) (b3 : Int32) (b4 : Int32) (b5 : Int32) (b6 : Int32) : mRg Γ l yX7_change cX7_change 9 (some .int) 2 43 (m_change_j90 b2 b3 b4 b5 b6) (zAt0 9 90 [(0, .ref (G_m Γ 0)), (2, .int b2), (3, .int b3), (4, .int b4), (5, .int b5), (6, .int b6)] []) (zLi cX7_change) := by
  intro p e R s m args below meth c Q A S H locs x S' g C hG hI hf kk
  obtain ⟨ls, rfl, hl⟩ := hI
  obtain ⟨⟨hx, hb, hml, hown, hts⟩, hr, hlk, hK, hR1, hR2⟩ := id C
  have C : zCx Γ p R s m args meth c cX7_change 9 RX7 (some .int) 2 43 := C
  refine lv_iconst (v := zi 0) hx hb dX7_change_90 rfl ?_
  exact wm_change_j91 Γ l b2 b3 b4 b5 b6 (zi 0) p e R s m args below meth c Q A _ _ _ _ _ _ C hG ⟨ls, rfl, lv_sub hl [0, 1, 2, 3, 4, 5] rfl⟩ hf kk
set_option maxHeartbeats 4000000 in
theorem wm_change_j86 (Γ : zG) (l : Launch) (b2 : Int32) (b3 : Int32) (b4 : Int32) (b5 : Int32) (b6 : Int32) : mRg Γ l yX7_change cX7_change 9 (some .int) 2 43 (m_change_j86 b2 b3 b4 b5 b6) (zAt0 9 86 [(0, .ref (G_m Γ 0)), (2, .int b2), (3, .int b3), (4, .int b4), (5, .int b5), (6, .int b6)] []) (zLi cX7_change) := by
  intro p e R s m args below meth c Q A S H locs x S' g C hG hI hf kk
  obtain ⟨ls, rfl, hl⟩ := hI
  obtain ⟨⟨hx, hb, hml, hown, hts⟩, hr, hlk, hK, hR1, hR2⟩ := id C
  have C : zCx Γ p R s m args meth c cX7_change 9 RX7 (some .int) 2 43 := C
  refine lv_iconst (v := zi 1) hx hb dX7_change_86 rfl ?_
  refine lv_goto (tgt := 91) hx hb dX7_change_87 (by decide) ?_
  exact wm_change_j91 Γ l b2 b3 b4 b5 b6 (zi 1) p e R s m args below meth c Q A _ _ _ _ _ _ C hG ⟨ls, rfl, lv_sub hl [0, 1, 2, 3, 4, 5] rfl⟩ hf kk
set_option maxHeartbeats 4000000 in
theorem wm_change (Γ : zG) (l : Launch) (a1 : Int32) (a2 : Int32) (a3 : Int32) (a4 : Int32) (a5 : Int32) : mRg Γ l yX7_change cX7_change 9 (some .int) 2 43 (m_change a1 a2 a3 a4 a5) (zAt0 9 0 (lv_args 0 [.ref (G_m Γ 0), .int a1, .int a2, .int a3, .int a4, .int a5]) []) (zLi cX7_change) := by
  intro p e R s m args below meth c Q A S H locs x S' g C hG hI hf kk
  obtain ⟨ls, rfl, hl⟩ := hI
  obtain ⟨⟨hx, hb, hml, hown, hts⟩, hr, hlk, hK, hR1, hR2⟩ := id C
  have C : zCx Γ p R s m args meth c cX7_change 9 RX7 (some .int) 2 43 := C
  have hl : lv_has ls 9 [(0, .ref (G_m Γ 0)), (1, .int a1), (2, .int a2), (3, .int a3), (4, .int a4), (5, .int a5)] := hl
  refine lv_aload_n hx hb dX7_change_0 rfl (lv_at hl 0 rfl) ?_
  refine lv_iload_n hx hb dX7_change_1 rfl (lv_at hl 1 rfl) ?_
  refine zm_cvi (As := [.int a1]) (rest := []) C hG hf (ctm_isPage Γ l a1) (lw_V q1701 q1703 qs54 q107 q1704) ytm_isPage rfl rfl (Nat.le_of_ble_eq_true rfl) (Nat.le_of_ble_eq_true rfl) hl.1 (Nat.le_of_ble_eq_true rfl) dX7_change_2 (fun v2 S H locs hG hf => ?_)
  refine lv_if_eq (tgt := 28) hx hb dX7_change_5 (by decide) (fun c5 => ?_) (fun c5 => ?_)
  · have hf := z_t c5 hf
    refine lv_iconst (v := zi (-1)) hx hb dX7_change_28 rfl ?_
    obtain ⟨rfl, rfl⟩ := z_p hf
    exact kk _ _ _ ⟨_, _, rfl, dX7_change_29⟩ hG
  · have hf := z_f c5 hf
    refine lv_iload hx hb dX7_change_8 (lv_at hl 5 rfl) ?_
    refine lv_iconst (v := zi 1) hx hb dX7_change_10 rfl ?_
    refine lv_bipush (v := zi 99) hx hb dX7_change_11 (by decide +kernel) ?_
    refine zm_csi (As := [.int a5, .int (zi 1), .int (zi 99)]) (rest := []) C hG hf (ctm_isIn Γ l a5 (zi 1) (zi 99)) (lw_S q1612 q1613 q107 q1614) ytm_isIn rfl rfl (Nat.le_of_ble_eq_true rfl) (Nat.le_of_ble_eq_true rfl) hl.1 (Nat.le_of_ble_eq_true rfl) dX7_change_13 (fun v13 S H locs hG hf => ?_)
    refine lv_if_eq (tgt := 28) hx hb dX7_change_16 (by decide) (fun c16 => ?_) (fun c16 => ?_)
    · have hf := z_t c16 hf
      refine lv_iconst (v := zi (-1)) hx hb dX7_change_28 rfl ?_
      obtain ⟨rfl, rfl⟩ := z_p hf
      exact kk _ _ _ ⟨_, _, rfl, dX7_change_29⟩ hG
    · have hf := z_f c16 hf
      refine lv_iload_n hx hb dX7_change_19 rfl (lv_at hl 2 rfl) ?_
      refine lv_iconst (v := zi 0) hx hb dX7_change_20 rfl ?_
      refine lv_iconst (v := zi 2) hx hb dX7_change_21 rfl ?_
      refine zm_csi (As := [.int a2, .int (zi 0), .int (zi 2)]) (rest := []) C hG hf (ctm_isIn Γ l a2 (zi 0) (zi 2)) (lw_S q1612 q1613 q107 q1614) ytm_isIn rfl rfl (Nat.le_of_ble_eq_true rfl) (Nat.le_of_ble_eq_true rfl) hl.1 (Nat.le_of_ble_eq_true rfl) dX7_change_22 (fun v22 S H locs hG hf => ?_)
      refine lv_if_ne (tgt := 30) hx hb dX7_change_25 (by decide) (fun c25 => ?_) (fun c25 => ?_)
      · have hf := z_f c25 hf
        refine lv_iload_n hx hb dX7_change_30 rfl (lv_at hl 1 rfl) ?_
        refine zm_csi (As := [.int a1]) (rest := []) C hG hf (ctm_pageAt Γ l a1) (lw_S q1683 q1684 q107 q1685) ytm_pageAt rfl rfl (Nat.le_of_ble_eq_true rfl) (Nat.le_of_ble_eq_true rfl) hl.1 (Nat.le_of_ble_eq_true rfl) dX7_change_31 (fun v31 S H locs hG hf => ?_)
        refine lv_istore (lv' := [(6, .int v31), (0, .ref (G_m Γ 0)), (1, .int a1), (2, .int a2), (3, .int a3), (4, .int a4), (5, .int a5)]) hx hb dX7_change_34 hl (Nat.le_of_ble_eq_true rfl) rfl (fun ls hl => ?_)
        refine lv_iload_n hx hb dX7_change_36 rfl (lv_at hl 3 rfl) ?_
        refine lv_iconst (v := zi 2) hx hb dX7_change_37 rfl ?_
        refine lv_icmp_ne (tgt := 52) hx hb dX7_change_38 (by decide) (fun c38 => ?_) (fun c38 => ?_)
        · have hf := z_f c38 hf
          refine lv_iload_n hx hb dX7_change_52 rfl (lv_at hl 4 rfl) ?_
          refine lv_iconst (v := zi 0) hx hb dX7_change_53 rfl ?_
          refine lv_aload_n hx hb dX7_change_54 rfl (lv_at hl 1 rfl) ?_
          refine zm_ga C hG 0 (Nat.le_of_ble_eq_true rfl) (by decide) q1443 dX7_change_55 ?_
          refine lv_iload_n hx hb dX7_change_58 rfl (lv_at hl 2 rfl) ?_
          refine zm_csi (As := [.int a1]) (rest := [.ref (G_m Γ (0 + 1)), .int (zi 0), .int a3]) C hG hf (ctm_treeOf Γ l a1) (lw_S q1744 q1745 q107 q1746) ytm_treeOf rfl rfl (Nat.le_of_ble_eq_true rfl) (Nat.le_of_ble_eq_true rfl) hl.1 (Nat.le_of_ble_eq_true rfl) dX7_change_59 (fun v59 S H locs hG hf => ?_)
          refine zm_al C hG 0 hf (Nat.le_of_ble_eq_true rfl) rfl dX7_change_62 (fun v62 hf => ?_)
          refine lv_iconst (v := zi 1) hx hb dX7_change_63 rfl ?_
          refine lv_isub hx hb dX7_change_64 ?_
          refine zm_csi (As := [.int a3, .int (zi 0), .int (v62 - (zi 1))]) (rest := []) C hG hf (ctm_isIn Γ l a3 (zi 0) (v62 - (zi 1))) (lw_S q1612 q1613 q107 q1614) ytm_isIn rfl rfl (Nat.le_of_ble_eq_true rfl) (Nat.le_of_ble_eq_true rfl) hl.1 (Nat.le_of_ble_eq_true rfl) dX7_change_65 (fun v65 S H locs hG hf => ?_)
          refine lv_if_eq (tgt := 90) hx hb dX7_change_68 (by decide) (fun c68 => ?_) (fun c68 => ?_)
          · have hf := z_t c68 hf
            exact wm_change_j90 Γ l a2 a3 a4 a5 v31 p e R s m args below meth c Q A _ _ _ _ _ _ C hG ⟨ls, rfl, lv_sub hl [1, 3, 4, 5, 6, 0] rfl⟩ hf kk
          · have hf := z_f c68 hf
            refine lv_iload_n hx hb dX7_change_71 rfl (lv_at hl 3 rfl) ?_
            refine lv_if_eq (tgt := 86) hx hb dX7_change_72 (by decide) (fun c72 => ?_) (fun c72 => ?_)
            · have hf := z_t c72 hf
              exact wm_change_j86 Γ l a2 a3 a4 a5 v31 p e R s m args below meth c Q A _ _ _ _ _ _ C hG ⟨ls, rfl, lv_sub hl [1, 3, 4, 5, 6, 0] rfl⟩ hf kk
            · have hf := z_f c72 hf
              refine lv_iload hx hb dX7_change_75 (lv_at hl 5 rfl) ?_
              refine lv_iconst (v := zi 0) hx hb dX7_change_77 rfl ?_
              refine lv_bipush (v := zi 9) hx hb dX7_change_78 (by decide +kernel) ?_
              refine zm_csi (As := [.int a4, .int (zi 0), .int (zi 9)]) (rest := []) C hG hf (ctm_isIn Γ l a4 (zi 0) (zi 9)) (lw_S q1612 q1613 q107 q1614) ytm_isIn rfl rfl (Nat.le_of_ble_eq_true rfl) (Nat.le_of_ble_eq_true rfl) hl.1 (Nat.le_of_ble_eq_true rfl) dX7_change_80 (fun v80 S H locs hG hf => ?_)
              refine lv_if_eq (tgt := 90) hx hb dX7_change_83 (by decide) (fun c83 => ?_) (fun c83 => ?_)
              · have hf := z_t c83 hf
                exact wm_change_j90 Γ l a2 a3 a4 a5 v31 p e R s m args below meth c Q A _ _ _ _ _ _ C hG ⟨ls, rfl, lv_sub hl [1, 3, 4, 5, 6, 0] rfl⟩ hf kk
              · have hf := z_f c83 hf
                exact wm_change_j86 Γ l a2 a3 a4 a5 v31 p e R s m args below meth c Q A _ _ _ _ _ _ C hG ⟨ls, rfl, lv_sub hl [1, 3, 4, 5, 6, 0] rfl⟩ hf kk
        · have hf := z_t c38 hf
          refine lv_iload hx hb dX7_change_41 (lv_at hl 5 rfl) ?_
          refine lv_iconst (v := zi 0) hx hb dX7_change_43 rfl ?_
          refine lv_bipush (v := zi 99) hx hb dX7_change_44 (by decide +kernel) ?_
          refine zm_csi (As := [.int a4, .int (zi 0), .int (zi 99)]) (rest := []) C hG hf (ctm_isIn Γ l a4 (zi 0) (zi 99)) (lw_S q1612 q1613 q107 q1614) ytm_isIn rfl rfl (Nat.le_of_ble_eq_true rfl) (Nat.le_of_ble_eq_true rfl) hl.1 (Nat.le_of_ble_eq_true rfl) dX7_change_46 (fun v46 S H locs hG hf => ?_)
          refine lv_goto (tgt := 91) hx hb dX7_change_49 (by decide) ?_
          exact wm_change_j91 Γ l a2 a3 a4 a5 v31 v46 p e R s m args below meth c Q A _ _ _ _ _ _ C hG ⟨ls, rfl, lv_sub hl [1, 3, 4, 5, 6, 0] rfl⟩ hf kk
      · have hf := z_t c25 hf
        refine lv_iconst (v := zi (-1)) hx hb dX7_change_28 rfl ?_
        obtain ⟨rfl, rfl⟩ := z_p hf
        exact kk _ _ _ ⟨_, _, rfl, dX7_change_29⟩ hG
theorem ctm_change (Γ : zG) (l : Launch) (a1 : Int32) (a2 : Int32) (a3 : Int32) (a4 : Int32) (a5 : Int32) : mCt Γ l yX7_change (ws_ yX7_change cX7_change 9 (some .int)) 2 43 [.ref (G_m Γ 0), .int a1, .int a2, .int a3, .int a4, .int a5] (m_change a1 a2 a3 a4 a5) zoi := mCt.mki (by decide +kernel) (Nat.le_of_ble_eq_true rfl) (wm_change Γ l a1 a2 a3 a4 a5)
theorem ytm_change : yX7_change.cls = RX7 ∧ yX7_change.cls ≠ "java/lang/invoke/MethodHandle" ∧ yX7_change.cls ≠ "java/lang/invoke/VarHandle" ∧ (parseMethodDescriptor yX7_change.desc).map (fun d => d.parameters.length) = some 5 := by decide +kernel
set_option maxHeartbeats 4000000 in
theorem wm_isForger (Γ : zG) (l : Launch) (a1 : Int32) (a2 : Int32) (a3 : Int32) (a4 : Int32) : mRg Γ l yX7_isForger cX7_isForger 5 (some .boolean) 2 43 (m_isForger a1 a2 a3 a4) (zAt0 5 0 (lv_args 0 [.ref (G_m Γ 0), .int a1, .int a2, .int a3, .int a4]) []) (zLz cX7_isForger) := by
  intro p e R s m args below meth c Q A S H locs x S' g C hG hI hf kk
  obtain ⟨ls, rfl, hl⟩ := hI
  obtain ⟨⟨hx, hb, hml, hown, hts⟩, hr, hlk, hK, hR1, hR2⟩ := id C
  have C : zCx Γ p R s m args meth c cX7_isForger 5 RX7 (some .boolean) 2 43 := C
  have hl : lv_has ls 5 [(0, .ref (G_m Γ 0)), (1, .int a1), (2, .int a2), (3, .int a3), (4, .int a4)] := hl
  refine lv_aload_n hx hb dX7_isForger_0 rfl (lv_at hl 0 rfl) ?_
  refine lv_iload_n hx hb dX7_isForger_1 rfl (lv_at hl 1 rfl) ?_
  refine zm_cvi (As := [.int a1]) (rest := []) C hG hf (ctm_isPage Γ l a1) (lw_V q1701 q1703 qs54 q107 q1704) ytm_isPage rfl rfl (Nat.le_of_ble_eq_true rfl) (Nat.le_of_ble_eq_true rfl) hl.1 (Nat.le_of_ble_eq_true rfl) dX7_isForger_2 (fun v2 S H locs hG hf => ?_)
  refine lv_if_eq (tgt := 44) hx hb dX7_isForger_5 (by decide) (fun c5 => ?_) (fun c5 => ?_)
  · have hf := z_t c5 hf
    refine lv_iconst (v := zi 0) hx hb dX7_isForger_44 rfl ?_
    obtain ⟨rfl, rfl⟩ := z_p hf
    exact kk _ _ _ ⟨_, _, rfl, dX7_isForger_45, Or.inl rfl⟩ hG
  · have hf := z_f c5 hf
    refine lv_iload_n hx hb dX7_isForger_8 rfl (lv_at hl 2 rfl) ?_
    refine lv_iconst (v := zi 0) hx hb dX7_isForger_9 rfl ?_
    refine lv_bipush (v := zi 99) hx hb dX7_isForger_10 (by decide +kernel) ?_
    refine zm_csi (As := [.int a2, .int (zi 0), .int (zi 99)]) (rest := []) C hG hf (ctm_isIn Γ l a2 (zi 0) (zi 99)) (lw_S q1612 q1613 q107 q1614) ytm_isIn rfl rfl (Nat.le_of_ble_eq_true rfl) (Nat.le_of_ble_eq_true rfl) hl.1 (Nat.le_of_ble_eq_true rfl) dX7_isForger_12 (fun v12 S H locs hG hf => ?_)
    refine lv_if_eq (tgt := 44) hx hb dX7_isForger_15 (by decide) (fun c15 => ?_) (fun c15 => ?_)
    · have hf := z_t c15 hf
      refine lv_iconst (v := zi 0) hx hb dX7_isForger_44 rfl ?_
      obtain ⟨rfl, rfl⟩ := z_p hf
      exact kk _ _ _ ⟨_, _, rfl, dX7_isForger_45, Or.inl rfl⟩ hG
    · have hf := z_f c15 hf
      refine lv_iload_n hx hb dX7_isForger_18 rfl (lv_at hl 3 rfl) ?_
      refine lv_iconst (v := zi 0) hx hb dX7_isForger_19 rfl ?_
      refine lv_bipush (v := zi 99) hx hb dX7_isForger_20 (by decide +kernel) ?_
      refine zm_csi (As := [.int a3, .int (zi 0), .int (zi 99)]) (rest := []) C hG hf (ctm_isIn Γ l a3 (zi 0) (zi 99)) (lw_S q1612 q1613 q107 q1614) ytm_isIn rfl rfl (Nat.le_of_ble_eq_true rfl) (Nat.le_of_ble_eq_true rfl) hl.1 (Nat.le_of_ble_eq_true rfl) dX7_isForger_22 (fun v22 S H locs hG hf => ?_)
      refine lv_if_eq (tgt := 44) hx hb dX7_isForger_25 (by decide) (fun c25 => ?_) (fun c25 => ?_)
      · have hf := z_t c25 hf
        refine lv_iconst (v := zi 0) hx hb dX7_isForger_44 rfl ?_
        obtain ⟨rfl, rfl⟩ := z_p hf
        exact kk _ _ _ ⟨_, _, rfl, dX7_isForger_45, Or.inl rfl⟩ hG
      · have hf := z_f c25 hf
        refine lv_iload hx hb dX7_isForger_28 (lv_at hl 4 rfl) ?_
        refine lv_iconst (v := zi 0) hx hb dX7_isForger_30 rfl ?_
        refine lv_sipush (v := zi 999) hx hb dX7_isForger_31 (by decide +kernel) ?_
        refine zm_csi (As := [.int a4, .int (zi 0), .int (zi 999)]) (rest := []) C hG hf (ctm_isIn Γ l a4 (zi 0) (zi 999)) (lw_S q1612 q1613 q107 q1614) ytm_isIn rfl rfl (Nat.le_of_ble_eq_true rfl) (Nat.le_of_ble_eq_true rfl) hl.1 (Nat.le_of_ble_eq_true rfl) dX7_isForger_34 (fun v34 S H locs hG hf => ?_)
        refine lv_if_eq (tgt := 44) hx hb dX7_isForger_37 (by decide) (fun c37 => ?_) (fun c37 => ?_)
        · have hf := z_t c37 hf
          refine lv_iconst (v := zi 0) hx hb dX7_isForger_44 rfl ?_
          obtain ⟨rfl, rfl⟩ := z_p hf
          exact kk _ _ _ ⟨_, _, rfl, dX7_isForger_45, Or.inl rfl⟩ hG
        · have hf := z_f c37 hf
          refine lv_iconst (v := zi 1) hx hb dX7_isForger_40 rfl ?_
          refine lv_goto (tgt := 45) hx hb dX7_isForger_41 (by decide) ?_
          obtain ⟨rfl, rfl⟩ := z_p hf
          exact kk _ _ _ ⟨_, _, rfl, dX7_isForger_45, Or.inr rfl⟩ hG
theorem ctm_isForger (Γ : zG) (l : Launch) (a1 : Int32) (a2 : Int32) (a3 : Int32) (a4 : Int32) : mCt Γ l yX7_isForger (ws_ yX7_isForger cX7_isForger 5 (some .boolean)) 2 43 [.ref (G_m Γ 0), .int a1, .int a2, .int a3, .int a4] (m_isForger a1 a2 a3 a4) zoi := mCt.mkz (by decide +kernel) (Nat.le_of_ble_eq_true rfl) (wm_isForger Γ l a1 a2 a3 a4)
theorem ytm_isForger : yX7_isForger.cls = RX7 ∧ yX7_isForger.cls ≠ "java/lang/invoke/MethodHandle" ∧ yX7_isForger.cls ≠ "java/lang/invoke/VarHandle" ∧ (parseMethodDescriptor yX7_isForger.desc).map (fun d => d.parameters.length) = some 4 := by decide +kernel
def im_forges_l21 (Γ : zG) (f1 : Int32) (f2 : Int32) (f3 : Int32) (m : MethodId) (s : Int32) (g : JFrame) : Prop := zAt0 6 21 [(0, .ref (G_m Γ 0)), (1, .int f1), (2, .int f2), (3, .int f3), (4, .int s)] [] m g
def em_forges_l21 (Γ : zG) (f1 : Int32) (f2 : Int32) (f3 : Int32) (m : MethodId) (e : Unit) (g : JFrame) : Prop := zAt0 6 184 [(0, .ref (G_m Γ 0)), (1, .int f1), (2, .int f2)] [] m g
set_option maxHeartbeats 4000000 in
theorem wm_forges_l21_b (Γ : zG) (l : Launch) (f1 : Int32) (f2 : Int32) (f3 : Int32) (s4 : Int32) : mRg Γ l yX7_forges cX7_forges 6 none 6 145 (m_forges_l21 f1 f2 f3 s4) (zAt0 6 21 [(0, .ref (G_m Γ 0)), (1, .int f1), (2, .int f2), (3, .int f3), (4, .int s4)] []) (zLE (im_forges_l21 Γ f1 f2 f3) (em_forges_l21 Γ f1 f2 f3)) := by
  intro p e R s m args below meth c Q A S H locs x S' g C hG hI hf kk
  obtain ⟨ls, rfl, hl⟩ := hI
  obtain ⟨⟨hx, hb, hml, hown, hts⟩, hr, hlk, hK, hR1, hR2⟩ := id C
  have C : zCx Γ p R s m args meth c cX7_forges 6 RX7 none 6 145 := C
  refine lv_iload hx hb dX7_forges_21 (lv_at hl 4 rfl) ?_
  refine lv_aload_n hx hb dX7_forges_23 rfl (lv_at hl 0 rfl) ?_
  refine zm_ga C hG 0 (Nat.le_of_ble_eq_true rfl) (by decide) q1443 dX7_forges_24 ?_
  refine lv_iload_n hx hb dX7_forges_27 rfl (lv_at hl 1 rfl) ?_
  refine zm_csi (As := [.int f1]) (rest := [.ref (G_m Γ (0 + 1)), .int s4]) C hG hf (ctm_pageAt Γ l f1) (lw_S q1683 q1684 q107 q1685) ytm_pageAt rfl rfl (Nat.le_of_ble_eq_true rfl) (Nat.le_of_ble_eq_true rfl) hl.1 (Nat.le_of_ble_eq_true rfl) dX7_forges_28 (fun v28 S H locs hG hf => ?_)
  refine lv_bipush (v := zi 15) hx hb dX7_forges_31 (by decide +kernel) ?_
  refine lv_iadd hx hb dX7_forges_33 ?_
  refine zm_al C hG 0 hf (Nat.le_of_ble_eq_true rfl) rfl dX7_forges_34 (fun v34 hf => ?_)
  refine lv_icmp_ge (tgt := 184) hx hb dX7_forges_35 (by decide) (fun c35 => ?_) (fun c35 => ?_)
  · have hf := z_t c35 hf
    obtain ⟨rfl, rfl⟩ := z_p hf
    exact kk _ _ _ ⟨ls, rfl, lv_sub hl [0, 1, 2] rfl⟩ hG
  · have hf := z_f c35 hf
    refine lv_iload_n hx hb dX7_forges_38 rfl (lv_at hl 1 rfl) ?_
    refine zm_csi (As := [.int f1]) (rest := []) C hG hf (ctm_pageAt Γ l f1) (lw_S q1683 q1684 q107 q1685) ytm_pageAt rfl rfl (Nat.le_of_ble_eq_true rfl) (Nat.le_of_ble_eq_true rfl) hl.1 (Nat.le_of_ble_eq_true rfl) dX7_forges_39 (fun v39 S H locs hG hf => ?_)
    refine lv_bipush (v := zi 16) hx hb dX7_forges_42 (by decide +kernel) ?_
    refine lv_iadd hx hb dX7_forges_44 ?_
    refine lv_iconst (v := zi 4) hx hb dX7_forges_45 rfl ?_
    refine lv_iload hx hb dX7_forges_46 (lv_at hl 4 rfl) ?_
    refine lv_imul hx hb dX7_forges_48 ?_
    refine lv_iadd hx hb dX7_forges_49 ?_
    refine z_top hf (fun n50 hf => ?_)
    refine lv_istore (lv' := [(5, .int n50), (0, .ref (G_m Γ 0)), (1, .int f1), (2, .int f2), (3, .int f3), (4, .int s4)]) hx hb dX7_forges_50 hl (Nat.le_of_ble_eq_true rfl) rfl (fun ls hl => ?_)
    refine lv_iload_n hx hb dX7_forges_52 rfl (lv_at hl 4 rfl) ?_
    refine lv_iload hx hb dX7_forges_53 (lv_at hl 5 rfl) ?_
    refine lv_ishr hx hb dX7_forges_55 ?_
    refine lv_iconst (v := zi 1) hx hb dX7_forges_56 rfl ?_
    refine lv_iand hx hb dX7_forges_57 ?_
    refine lv_if_ne (tgt := 64) hx hb dX7_forges_58 (by decide) (fun c58 => ?_) (fun c58 => ?_)
    · have hf := z_f c58 hf
      refine lv_aload_n hx hb dX7_forges_64 rfl (lv_at hl 1 rfl) ?_
      refine lv_dup hx hb dX7_forges_65 rfl ?_
      refine zm_gf C hG 41 hf (Nat.le_of_ble_eq_true rfl) rfl q1484 dX7_forges_66 (fun v66 hf => ?_)
      refine lv_aload_n hx hb dX7_forges_69 rfl (lv_at hl 1 rfl) ?_
      refine zm_ga C hG 0 (Nat.le_of_ble_eq_true rfl) (by decide) q1443 dX7_forges_70 ?_
      refine lv_iload hx hb dX7_forges_73 (lv_at hl 0 rfl) ?_
      refine lv_iconst (v := zi 3) hx hb dX7_forges_75 rfl ?_
      refine lv_iadd hx hb dX7_forges_76 ?_
      refine zm_al C hG 0 hf (Nat.le_of_ble_eq_true rfl) rfl dX7_forges_77 (fun v77 hf => ?_)
      refine lv_iadd hx hb dX7_forges_78 ?_
      refine zm_pf C hG 41 hf (Nat.le_of_ble_eq_true rfl) rfl rfl (by decide +kernel) q1484 dX7_forges_79 (fun S H locs hG hf => ?_)
      refine lv_aload_n hx hb dX7_forges_82 rfl (lv_at hl 1 rfl) ?_
      refine zm_ga C hG 0 (Nat.le_of_ble_eq_true rfl) (by decide) q1443 dX7_forges_83 ?_
      refine lv_iload hx hb dX7_forges_86 (lv_at hl 0 rfl) ?_
      refine zm_al C hG 0 hf (Nat.le_of_ble_eq_true rfl) rfl dX7_forges_88 (fun v88 hf => ?_)
      by_cases c89_0 : v88 = zi 0
      · have hf := z_t c89_0 hf
        refine lv_lookup (tgt := 116) (off := 27) hx hb dX7_forges_89 (by decide) (by rw [c89_0]; decide +kernel) (by decide) ?_
        refine lv_aload_n hx hb dX7_forges_116 rfl (lv_at hl 1 rfl) ?_
        refine zm_ga C hG 16 (Nat.le_of_ble_eq_true rfl) (by decide) q1459 dX7_forges_117 ?_
        refine lv_aload_n hx hb dX7_forges_120 rfl (lv_at hl 1 rfl) ?_
        refine zm_ga C hG 0 (Nat.le_of_ble_eq_true rfl) (by decide) q1443 dX7_forges_121 ?_
        refine lv_iload hx hb dX7_forges_124 (lv_at hl 0 rfl) ?_
        refine lv_iconst (v := zi 1) hx hb dX7_forges_126 rfl ?_
        refine lv_iadd hx hb dX7_forges_127 ?_
        refine zm_al C hG 0 hf (Nat.le_of_ble_eq_true rfl) rfl dX7_forges_128 (fun v128 hf => ?_)
        refine lv_iconst (v := zi 1) hx hb dX7_forges_129 rfl ?_
        refine zm_az2 C hG 16 hf (Nat.le_of_ble_eq_true rfl) rfl dX7_forges_130 (fun S H locs hG hf => ?_)
        refine lv_goto (tgt := 178) hx hb dX7_forges_131 (by decide) ?_
        refine z_iinc (fun v => [(4, .int v), (5, .int n50), (0, .ref (G_m Γ 0)), (1, .int f1), (2, .int f2), (3, .int f3)]) hx hb hf dX7_forges_178 hl (k := 5) rfl (Nat.le_of_ble_eq_true rfl) (fun _ => rfl) (fun n178 ls hf hl => ?_)
        refine lv_goto (tgt := 21) hx hb dX7_forges_181 (by decide) ?_
        obtain ⟨rfl, rfl⟩ := z_p hf
        exact kk _ _ _ ⟨ls, rfl, lv_sub hl [2, 3, 4, 5, 0] rfl⟩ hG
      · have hf := z_f c89_0 hf
        by_cases c89_1 : v88 = zi 1
        · have hf := z_t c89_1 hf
          refine lv_lookup (tgt := 134) (off := 45) hx hb dX7_forges_89 (by decide) (by rw [c89_1]; decide +kernel) (by decide) ?_
          refine lv_aload_n hx hb dX7_forges_134 rfl (lv_at hl 1 rfl) ?_
          refine zm_ga C hG 17 (Nat.le_of_ble_eq_true rfl) (by decide) q1460 dX7_forges_135 ?_
          refine lv_aload_n hx hb dX7_forges_138 rfl (lv_at hl 1 rfl) ?_
          refine zm_ga C hG 0 (Nat.le_of_ble_eq_true rfl) (by decide) q1443 dX7_forges_139 ?_
          refine lv_iload hx hb dX7_forges_142 (lv_at hl 0 rfl) ?_
          refine lv_iconst (v := zi 1) hx hb dX7_forges_144 rfl ?_
          refine lv_iadd hx hb dX7_forges_145 ?_
          refine zm_al C hG 0 hf (Nat.le_of_ble_eq_true rfl) rfl dX7_forges_146 (fun v146 hf => ?_)
          refine lv_aload_n hx hb dX7_forges_147 rfl (lv_at hl 1 rfl) ?_
          refine zm_ga C hG 0 (Nat.le_of_ble_eq_true rfl) (by decide) q1443 dX7_forges_148 ?_
          refine lv_iload hx hb dX7_forges_151 (lv_at hl 0 rfl) ?_
          refine lv_iconst (v := zi 2) hx hb dX7_forges_153 rfl ?_
          refine lv_iadd hx hb dX7_forges_154 ?_
          refine zm_al C hG 0 hf (Nat.le_of_ble_eq_true rfl) rfl dX7_forges_155 (fun v155 hf => ?_)
          refine zm_as C hG 17 hf (Nat.le_of_ble_eq_true rfl) rfl dX7_forges_156 (fun S H locs hG hf => ?_)
          refine lv_goto (tgt := 178) hx hb dX7_forges_157 (by decide) ?_
          refine z_iinc (fun v => [(4, .int v), (5, .int n50), (0, .ref (G_m Γ 0)), (1, .int f1), (2, .int f2), (3, .int f3)]) hx hb hf dX7_forges_178 hl (k := 5) rfl (Nat.le_of_ble_eq_true rfl) (fun _ => rfl) (fun n178 ls hf hl => ?_)
          refine lv_goto (tgt := 21) hx hb dX7_forges_181 (by decide) ?_
          obtain ⟨rfl, rfl⟩ := z_p hf
          exact kk _ _ _ ⟨ls, rfl, lv_sub hl [2, 3, 4, 5, 0] rfl⟩ hG
        · have hf := z_f c89_1 hf
          refine lv_lookup (tgt := 160) (off := 71) hx hb dX7_forges_89 (by decide) (by simp [Op.lookupswitch.offset, z_ne c89_0, z_en c89_0, z_ne c89_1, z_en c89_1]) (by decide) ?_
          refine lv_aload_n hx hb dX7_forges_160 rfl (lv_at hl 1 rfl) ?_
          refine lv_dup hx hb dX7_forges_161 rfl ?_
          refine zm_gf C hG 40 hf (Nat.le_of_ble_eq_true rfl) rfl q1483 dX7_forges_162 (fun v162 hf => ?_)
          refine lv_aload_n hx hb dX7_forges_165 rfl (lv_at hl 1 rfl) ?_
          refine zm_ga C hG 0 (Nat.le_of_ble_eq_true rfl) (by decide) q1443 dX7_forges_166 ?_
          refine lv_iload hx hb dX7_forges_169 (lv_at hl 0 rfl) ?_
          refine lv_iconst (v := zi 2) hx hb dX7_forges_171 rfl ?_
          refine lv_iadd hx hb dX7_forges_172 ?_
          refine zm_al C hG 0 hf (Nat.le_of_ble_eq_true rfl) rfl dX7_forges_173 (fun v173 hf => ?_)
          refine lv_iadd hx hb dX7_forges_174 ?_
          refine zm_pf C hG 40 hf (Nat.le_of_ble_eq_true rfl) rfl rfl (by decide +kernel) q1483 dX7_forges_175 (fun S H locs hG hf => ?_)
          refine z_iinc (fun v => [(4, .int v), (5, .int n50), (0, .ref (G_m Γ 0)), (1, .int f1), (2, .int f2), (3, .int f3)]) hx hb hf dX7_forges_178 hl (k := 5) rfl (Nat.le_of_ble_eq_true rfl) (fun _ => rfl) (fun n178 ls hf hl => ?_)
          refine lv_goto (tgt := 21) hx hb dX7_forges_181 (by decide) ?_
          obtain ⟨rfl, rfl⟩ := z_p hf
          exact kk _ _ _ ⟨ls, rfl, lv_sub hl [2, 3, 4, 5, 0] rfl⟩ hG
    · have hf := z_t c58 hf
      refine lv_goto (tgt := 178) hx hb dX7_forges_61 (by decide) ?_
      refine z_iinc (fun v => [(4, .int v), (5, .int n50), (0, .ref (G_m Γ 0)), (1, .int f1), (2, .int f2), (3, .int f3)]) hx hb hf dX7_forges_178 hl (k := 5) rfl (Nat.le_of_ble_eq_true rfl) (fun _ => rfl) (fun n178 ls hf hl => ?_)
      refine lv_goto (tgt := 21) hx hb dX7_forges_181 (by decide) ?_
      obtain ⟨rfl, rfl⟩ := z_p hf
      exact kk _ _ _ ⟨ls, rfl, lv_sub hl [2, 3, 4, 5, 0] rfl⟩ hG
theorem wm_forges_l21 (Γ : zG) (l : Launch) (f1 : Int32) (f2 : Int32) (f3 : Int32) : ∀ s : Int32, mRg Γ l yX7_forges cX7_forges 6 none 6 145 (m_forges_l21 f1 f2 f3 s) (fun m => im_forges_l21 Γ f1 f2 f3 m s) (zLE (im_forges_l21 Γ f1 f2 f3) (em_forges_l21 Γ f1 f2 f3)) := fun s => wm_forges_l21_b Γ l f1 f2 f3 s
set_option maxHeartbeats 4000000 in
theorem wm_forges (Γ : zG) (l : Launch) (a1 : Int32) (a2 : Int32) (a3 : Int32) : mRg Γ l yX7_forges cX7_forges 6 none 6 145 (m_forges a1 a2 a3) (zAt0 6 0 (lv_args 0 [.ref (G_m Γ 0), .int a1, .int a2, .int a3]) []) (zLv cX7_forges) := by
  intro p e R s m args below meth c Q A S H locs x S' g C hG hI hf kk
  obtain ⟨ls, rfl, hl⟩ := hI
  obtain ⟨⟨hx, hb, hml, hown, hts⟩, hr, hlk, hK, hR1, hR2⟩ := id C
  have C : zCx Γ p R s m args meth c cX7_forges 6 RX7 none 6 145 := C
  have hl : lv_has ls 6 [(0, .ref (G_m Γ 0)), (1, .int a1), (2, .int a2), (3, .int a3)] := hl
  refine lv_aload_n hx hb dX7_forges_0 rfl (lv_at hl 0 rfl) ?_
  refine lv_iload_n hx hb dX7_forges_1 rfl (lv_at hl 1 rfl) ?_
  refine zm_csi (As := [.int a1]) (rest := [.ref (G_m Γ 0)]) C hG hf (ctm_treeOf Γ l a1) (lw_S q1744 q1745 q107 q1746) ytm_treeOf rfl rfl (Nat.le_of_ble_eq_true rfl) (Nat.le_of_ble_eq_true rfl) hl.1 (Nat.le_of_ble_eq_true rfl) dX7_forges_2 (fun v2 S H locs hG hf => ?_)
  refine zm_cvv (As := [.int v2]) (rest := []) C hG hf (ctm_takes Γ l v2) (lw_V q1747 q1749 qs57 q107 q1750) ytm_takes rfl rfl (Nat.le_of_ble_eq_true rfl) (Nat.le_of_ble_eq_true rfl) hl.1 (Nat.le_of_ble_eq_true rfl) dX7_forges_5 (fun S H locs hG hf => ?_)
  refine lv_aload_n hx hb dX7_forges_8 rfl (lv_at hl 0 rfl) ?_
  refine lv_iconst (v := zi 0) hx hb dX7_forges_9 rfl ?_
  refine zm_pf C hG 40 hf (Nat.le_of_ble_eq_true rfl) rfl rfl (by decide +kernel) q1483 dX7_forges_10 (fun S H locs hG hf => ?_)
  refine lv_aload_n hx hb dX7_forges_13 rfl (lv_at hl 0 rfl) ?_
  refine lv_iconst (v := zi 0) hx hb dX7_forges_14 rfl ?_
  refine zm_pf C hG 41 hf (Nat.le_of_ble_eq_true rfl) rfl rfl (by decide +kernel) q1484 dX7_forges_15 (fun S H locs hG hf => ?_)
  refine lv_iconst (v := zi 0) hx hb dX7_forges_18 rfl ?_
  refine lv_istore (lv' := [(4, .int (zi 0)), (0, .ref (G_m Γ 0)), (1, .int a1), (2, .int a2), (3, .int a3)]) hx hb dX7_forges_19 hl (Nat.le_of_ble_eq_true rfl) rfl (fun ls hl => ?_)
  obtain ⟨e21, S, hlp, hf⟩ := nB_some hf
  refine mRg.loop (wm_forges_l21 Γ l a1 a2 a3) (zi 0) p e R s m args below meth c Q A _ _ _ _ _ _ C hG ⟨ls, rfl, lv_sub hl [1, 2, 3, 4, 0] rfl⟩ hlp (fun H locs g hL hG => ?_)
  obtain ⟨ls, rfl, hl⟩ := hL
  have hl : lv_has ls 6 [(0, .ref (G_m Γ 0)), (1, .int a1), (2, .int a2)] := hl
  refine lv_aload_n hx hb dX7_forges_184 rfl (lv_at hl 0 rfl) ?_
  refine lv_iconst (v := zi 0) hx hb dX7_forges_185 rfl ?_
  refine lv_iconst (v := zi 0) hx hb dX7_forges_186 rfl ?_
  refine lv_iload_n hx hb dX7_forges_187 rfl (lv_at hl 2 rfl) ?_
  refine zm_cvv (As := [.int (zi 0), .int (zi 0), .int a2]) (rest := []) C hG hf (ctm_opens Γ l (zi 0) (zi 0) a2) (lw_V q1755 q1757 qs59 q107 q1758) ytm_opens rfl rfl (Nat.le_of_ble_eq_true rfl) (Nat.le_of_ble_eq_true rfl) hl.1 (Nat.le_of_ble_eq_true rfl) dX7_forges_188 (fun S H locs hG hf => ?_)
  refine lv_aload_n hx hb dX7_forges_191 rfl (lv_at hl 0 rfl) ?_
  refine lv_iload_n hx hb dX7_forges_192 rfl (lv_at hl 1 rfl) ?_
  refine lv_iconst (v := zi 0) hx hb dX7_forges_193 rfl ?_
  refine lv_iload_n hx hb dX7_forges_194 rfl (lv_at hl 2 rfl) ?_
  refine zm_cvv (As := [.int a1, .int (zi 0), .int a2]) (rest := []) C hG hf (ctm_judges Γ l a1 (zi 0) a2) (lw_V q1835 q1837 qs71 q107 q1838) ytm_judges rfl rfl (Nat.le_of_ble_eq_true rfl) (Nat.le_of_ble_eq_true rfl) hl.1 (Nat.le_of_ble_eq_true rfl) dX7_forges_195 (fun S H locs hG hf => ?_)
  obtain ⟨rfl, rfl⟩ := z_p hf
  exact kk _ _ _ ⟨_, _, rfl, dX7_forges_198⟩ hG
theorem ctm_forges (Γ : zG) (l : Launch) (a1 : Int32) (a2 : Int32) (a3 : Int32) : mCt Γ l yX7_forges (ws_ yX7_forges cX7_forges 6 none) 6 145 [.ref (G_m Γ 0), .int a1, .int a2, .int a3] (m_forges a1 a2 a3) zov := mCt.mkv (by decide +kernel) (Nat.le_of_ble_eq_true rfl) (wm_forges Γ l a1 a2 a3)
theorem ytm_forges : yX7_forges.cls = RX7 ∧ yX7_forges.cls ≠ "java/lang/invoke/MethodHandle" ∧ yX7_forges.cls ≠ "java/lang/invoke/VarHandle" ∧ (parseMethodDescriptor yX7_forges.desc).map (fun d => d.parameters.length) = some 3 := by decide +kernel
set_option maxHeartbeats 4000000 in
theorem wm_isForgery (Γ : zG) (l : Launch) (a1 : Int32) (a2 : Int32) : mRg Γ l yX7_isForgery cX7_isForgery 3 (some .boolean) 0 0 (m_isForgery a1 a2) (zAt0 3 0 (lv_args 0 [.ref (G_m Γ 0), .int a1, .int a2]) []) (zLz cX7_isForgery) := by
  intro p e R s m args below meth c Q A S H locs x S' g C hG hI hf kk
  obtain ⟨ls, rfl, hl⟩ := hI
  obtain ⟨⟨hx, hb, hml, hown, hts⟩, hr, hlk, hK, hR1, hR2⟩ := id C
  have C : zCx Γ p R s m args meth c cX7_isForgery 3 RX7 (some .boolean) 0 0 := C
  have hl : lv_has ls 3 [(0, .ref (G_m Γ 0)), (1, .int a1), (2, .int a2)] := hl
  refine lv_aload_n hx hb dX7_isForgery_0 rfl (lv_at hl 0 rfl) ?_
  refine zm_gf C hG 31 hf (Nat.le_of_ble_eq_true rfl) rfl q1474 dX7_isForgery_1 (fun v1 hf => ?_)
  refine lv_if_lt (tgt := 27) hx hb dX7_isForgery_4 (by decide) (fun c4 => ?_) (fun c4 => ?_)
  · have hf := z_t c4 hf
    refine lv_iconst (v := zi 0) hx hb dX7_isForgery_27 rfl ?_
    obtain ⟨rfl, rfl⟩ := z_p hf
    exact kk _ _ _ ⟨_, _, rfl, dX7_isForgery_28, Or.inl rfl⟩ hG
  · have hf := z_f c4 hf
    refine lv_aload_n hx hb dX7_isForgery_7 rfl (lv_at hl 0 rfl) ?_
    refine zm_gf C hG 32 hf (Nat.le_of_ble_eq_true rfl) rfl q1475 dX7_isForgery_8 (fun v8 hf => ?_)
    refine lv_iload_n hx hb dX7_isForgery_11 rfl (lv_at hl 1 rfl) ?_
    refine lv_icmp_gt (tgt := 27) hx hb dX7_isForgery_12 (by decide) (fun c12 => ?_) (fun c12 => ?_)
    · have hf := z_t c12 hf
      refine lv_iconst (v := zi 0) hx hb dX7_isForgery_27 rfl ?_
      obtain ⟨rfl, rfl⟩ := z_p hf
      exact kk _ _ _ ⟨_, _, rfl, dX7_isForgery_28, Or.inl rfl⟩ hG
    · have hf := z_f c12 hf
      refine lv_aload_n hx hb dX7_isForgery_15 rfl (lv_at hl 0 rfl) ?_
      refine zm_gf C hG 33 hf (Nat.le_of_ble_eq_true rfl) rfl q1476 dX7_isForgery_16 (fun v16 hf => ?_)
      refine lv_iload_n hx hb dX7_isForgery_19 rfl (lv_at hl 2 rfl) ?_
      refine lv_icmp_lt (tgt := 27) hx hb dX7_isForgery_20 (by decide) (fun c20 => ?_) (fun c20 => ?_)
      · have hf := z_t c20 hf
        refine lv_iconst (v := zi 0) hx hb dX7_isForgery_27 rfl ?_
        obtain ⟨rfl, rfl⟩ := z_p hf
        exact kk _ _ _ ⟨_, _, rfl, dX7_isForgery_28, Or.inl rfl⟩ hG
      · have hf := z_f c20 hf
        refine lv_iconst (v := zi 1) hx hb dX7_isForgery_23 rfl ?_
        refine lv_goto (tgt := 28) hx hb dX7_isForgery_24 (by decide) ?_
        obtain ⟨rfl, rfl⟩ := z_p hf
        exact kk _ _ _ ⟨_, _, rfl, dX7_isForgery_28, Or.inr rfl⟩ hG
theorem ctm_isForgery (Γ : zG) (l : Launch) (a1 : Int32) (a2 : Int32) : mCt Γ l yX7_isForgery (ws_ yX7_isForgery cX7_isForgery 3 (some .boolean)) 0 0 [.ref (G_m Γ 0), .int a1, .int a2] (m_isForgery a1 a2) zoi := mCt.mkz (by decide +kernel) (Nat.le_of_ble_eq_true rfl) (wm_isForgery Γ l a1 a2)
theorem ytm_isForgery : yX7_isForgery.cls = RX7 ∧ yX7_isForgery.cls ≠ "java/lang/invoke/MethodHandle" ∧ yX7_isForgery.cls ≠ "java/lang/invoke/VarHandle" ∧ (parseMethodDescriptor yX7_isForgery.desc).map (fun d => d.parameters.length) = some 2 := by decide +kernel
def im_pass_l36 (Γ : zG) (f1 : Int32) (f2 : Int32) (f3 : Int32) (f4 : Int32) (f5 : Int32) (m : MethodId) (s : Int32 × Int32 × Int32 × Int32) (g : JFrame) : Prop := zAt0 11 36 [(0, .ref (G_m Γ 0)), (1, .int f1), (2, .int f2), (3, .int f3), (4, .int f4), (5, .int f5), (6, .int s.1), (7, .int s.2.1), (8, .int s.2.2.1), (9, .int s.2.2.2)] [] m g
def em_pass_l36 (Γ : zG) (f1 : Int32) (f2 : Int32) (f3 : Int32) (f4 : Int32) (f5 : Int32) (m : MethodId) (e : Int32 × Int32 × Int32) (g : JFrame) : Prop := zAt0 11 161 [(0, .ref (G_m Γ 0)), (5, .int f5), (6, .int e.1), (7, .int e.2.1), (8, .int e.2.2)] [] m g
set_option maxHeartbeats 4000000 in
theorem wm_pass_l36_j141 (Γ : zG) (l : Launch) (b1 : Int32) (b2 : Int32) (b3 : Int32) (b4 : Int32) (b5 : Int32) (b9 : Int32) (b10 : Int32) : mRg Γ l yX7_pass cX7_pass 11 (some .int) 7 170 (m_pass_l36_j141 b1 b2 b3 b4 b5 b9 b10) (zAt0 11 141 [(0, .ref (G_m Γ 0)), (1, .int b1), (2, .int b2), (3, .int b3), (4, .int b4), (5, .int b5), (9, .int b9), (10, .int b10)] []) (zLE (im_pass_l36 Γ b1 b2 b3 b4 b5) (em_pass_l36 Γ b1 b2 b3 b4 b5)) := by
  intro p e R s m args below meth c Q A S H locs x S' g C hG hI hf kk
  obtain ⟨ls, rfl, hl⟩ := hI
  obtain ⟨⟨hx, hb, hml, hown, hts⟩, hr, hlk, hK, hR1, hR2⟩ := id C
  have C : zCx Γ p R s m args meth c cX7_pass 11 RX7 (some .int) 7 170 := C
  refine lv_iload hx hb dX7_pass_141 (lv_at hl 6 rfl) ?_
  refine lv_istore (lv' := [(6, .int b9), (0, .ref (G_m Γ 0)), (1, .int b1), (2, .int b2), (3, .int b3), (4, .int b4), (5, .int b5), (9, .int b9), (10, .int b10)]) hx hb dX7_pass_143 hl (Nat.le_of_ble_eq_true rfl) rfl (fun ls hl => ?_)
  refine lv_aload_n hx hb dX7_pass_145 rfl (lv_at hl 1 rfl) ?_
  refine zm_gf C hG 41 hf (Nat.le_of_ble_eq_true rfl) rfl q1484 dX7_pass_146 (fun v146 hf => ?_)
  refine lv_istore (lv' := [(7, .int v146), (6, .int b9), (0, .ref (G_m Γ 0)), (1, .int b1), (2, .int b2), (3, .int b3), (4, .int b4), (5, .int b5), (9, .int b9), (10, .int b10)]) hx hb dX7_pass_149 hl (Nat.le_of_ble_eq_true rfl) rfl (fun ls hl => ?_)
  refine lv_iload hx hb dX7_pass_151 (lv_at hl 9 rfl) ?_
  refine lv_istore (lv' := [(8, .int b10), (7, .int v146), (6, .int b9), (0, .ref (G_m Γ 0)), (1, .int b1), (2, .int b2), (3, .int b3), (4, .int b4), (5, .int b5), (9, .int b9), (10, .int b10)]) hx hb dX7_pass_153 hl (Nat.le_of_ble_eq_true rfl) rfl (fun ls hl => ?_)
  refine z_iinc (fun v => [(9, .int v), (8, .int b10), (7, .int v146), (6, .int b9), (0, .ref (G_m Γ 0)), (1, .int b1), (2, .int b2), (3, .int b3), (4, .int b4), (5, .int b5), (10, .int b10)]) hx hb hf dX7_pass_155 hl (k := 9) rfl (Nat.le_of_ble_eq_true rfl) (fun _ => rfl) (fun n155 ls hf hl => ?_)
  refine lv_goto (tgt := 36) hx hb dX7_pass_158 (by decide) ?_
  obtain ⟨rfl, rfl⟩ := z_p hf
  exact kk _ _ _ ⟨ls, rfl, lv_sub hl [4, 5, 6, 7, 8, 9, 3, 2, 1, 0] rfl⟩ hG
set_option maxHeartbeats 4000000 in
theorem wm_pass_l36_b (Γ : zG) (l : Launch) (f1 : Int32) (f2 : Int32) (f3 : Int32) (f4 : Int32) (f5 : Int32) (s6 : Int32) (s7 : Int32) (s8 : Int32) (s9 : Int32) : mRg Γ l yX7_pass cX7_pass 11 (some .int) 7 170 (m_pass_l36 f1 f2 f3 f4 f5 s6 s7 s8 s9) (zAt0 11 36 [(0, .ref (G_m Γ 0)), (1, .int f1), (2, .int f2), (3, .int f3), (4, .int f4), (5, .int f5), (6, .int s6), (7, .int s7), (8, .int s8), (9, .int s9)] []) (zLE (im_pass_l36 Γ f1 f2 f3 f4 f5) (em_pass_l36 Γ f1 f2 f3 f4 f5)) := by
  intro p e R s m args below meth c Q A S H locs x S' g C hG hI hf kk
  obtain ⟨ls, rfl, hl⟩ := hI
  obtain ⟨⟨hx, hb, hml, hown, hts⟩, hr, hlk, hK, hR1, hR2⟩ := id C
  have C : zCx Γ p R s m args meth c cX7_pass 11 RX7 (some .int) 7 170 := C
  refine lv_iload hx hb dX7_pass_36 (lv_at hl 9 rfl) ?_
  refine lv_iconst (v := zi 1) hx hb dX7_pass_38 rfl ?_
  refine lv_aload_n hx hb dX7_pass_39 rfl (lv_at hl 0 rfl) ?_
  refine zm_ga C hG 0 (Nat.le_of_ble_eq_true rfl) (by decide) q1443 dX7_pass_40 ?_
  refine lv_iload_n hx hb dX7_pass_43 rfl (lv_at hl 1 rfl) ?_
  refine zm_csi (As := [.int f1]) (rest := [.ref (G_m Γ (0 + 1)), .int (zi 1), .int s9]) C hG hf (ctm_pageAt Γ l f1) (lw_S q1683 q1684 q107 q1685) ytm_pageAt rfl rfl (Nat.le_of_ble_eq_true rfl) (Nat.le_of_ble_eq_true rfl) hl.1 (Nat.le_of_ble_eq_true rfl) dX7_pass_44 (fun v44 S H locs hG hf => ?_)
  refine lv_bipush (v := zi 15) hx hb dX7_pass_47 (by decide +kernel) ?_
  refine lv_iadd hx hb dX7_pass_49 ?_
  refine zm_al C hG 0 hf (Nat.le_of_ble_eq_true rfl) rfl dX7_pass_50 (fun v50 hf => ?_)
  refine lv_ishl hx hb dX7_pass_51 ?_
  refine lv_icmp_ge (tgt := 161) hx hb dX7_pass_52 (by decide) (fun c52 => ?_) (fun c52 => ?_)
  · have hf := z_t c52 hf
    obtain ⟨rfl, rfl⟩ := z_p hf
    exact kk _ _ _ ⟨ls, rfl, lv_sub hl [0, 5, 6, 7, 8] rfl⟩ hG
  · have hf := z_f c52 hf
    refine lv_aload_n hx hb dX7_pass_55 rfl (lv_at hl 0 rfl) ?_
    refine lv_iload_n hx hb dX7_pass_56 rfl (lv_at hl 1 rfl) ?_
    refine lv_iload_n hx hb dX7_pass_57 rfl (lv_at hl 2 rfl) ?_
    refine lv_iload hx hb dX7_pass_58 (lv_at hl 9 rfl) ?_
    refine zm_cvv (As := [.int f1, .int f2, .int s9]) (rest := []) C hG hf (ctm_forges Γ l f1 f2 s9) (lw_V q1913 q1915 qs81 q107 q1916) ytm_forges rfl rfl (Nat.le_of_ble_eq_true rfl) (Nat.le_of_ble_eq_true rfl) hl.1 (Nat.le_of_ble_eq_true rfl) dX7_pass_60 (fun S H locs hG hf => ?_)
    refine lv_aload_n hx hb dX7_pass_63 rfl (lv_at hl 0 rfl) ?_
    refine lv_aload_n hx hb dX7_pass_64 rfl (lv_at hl 0 rfl) ?_
    refine lv_iload_n hx hb dX7_pass_65 rfl (lv_at hl 1 rfl) ?_
    refine lv_iload_n hx hb dX7_pass_66 rfl (lv_at hl 2 rfl) ?_
    refine zm_cvi (As := [.int f1, .int f2]) (rest := [.ref (G_m Γ 0)]) C hG hf (ctm_ageOf Γ l f1 f2) (lw_V q1843 q1845 qs73 q107 q1846) ytm_ageOf rfl rfl (Nat.le_of_ble_eq_true rfl) (Nat.le_of_ble_eq_true rfl) hl.1 (Nat.le_of_ble_eq_true rfl) dX7_pass_67 (fun v67 S H locs hG hf => ?_)
    refine lv_aload_n hx hb dX7_pass_70 rfl (lv_at hl 0 rfl) ?_
    refine zm_gf C hG 40 hf (Nat.le_of_ble_eq_true rfl) rfl q1483 dX7_pass_71 (fun v71 hf => ?_)
    refine lv_iadd hx hb dX7_pass_74 ?_
    refine zm_cvi (As := [.int (v67 + v71)]) (rest := []) C hG hf (ctm_signsBy Γ l (v67 + v71)) (lw_V q1847 q1849 qs74 q107 q1850) ytm_signsBy rfl rfl (Nat.le_of_ble_eq_true rfl) (Nat.le_of_ble_eq_true rfl) hl.1 (Nat.le_of_ble_eq_true rfl) dX7_pass_75 (fun v75 S H locs hG hf => ?_)
    refine zm_csi (As := [.int v75]) (rest := []) C hG hf (ctm_sayOf Γ l v75) (lw_S q1855 q1856 q107 q1857) ytm_sayOf rfl rfl (Nat.le_of_ble_eq_true rfl) (Nat.le_of_ble_eq_true rfl) hl.1 (Nat.le_of_ble_eq_true rfl) dX7_pass_78 (fun v78 S H locs hG hf => ?_)
    refine lv_istore (lv' := [(10, .int v78), (0, .ref (G_m Γ 0)), (1, .int f1), (2, .int f2), (3, .int f3), (4, .int f4), (5, .int f5), (6, .int s6), (7, .int s7), (8, .int s8), (9, .int s9)]) hx hb dX7_pass_81 hl (Nat.le_of_ble_eq_true rfl) rfl (fun ls hl => ?_)
    refine lv_iload hx hb dX7_pass_83 (lv_at hl 0 rfl) ?_
    refine lv_iconst (v := zi 2) hx hb dX7_pass_85 rfl ?_
    refine lv_icmp_eq (tgt := 155) hx hb dX7_pass_86 (by decide) (fun c86 => ?_) (fun c86 => ?_)
    · have hf := z_t c86 hf
      refine z_iinc (fun v => [(9, .int v), (10, .int v78), (0, .ref (G_m Γ 0)), (1, .int f1), (2, .int f2), (3, .int f3), (4, .int f4), (5, .int f5), (6, .int s6), (7, .int s7), (8, .int s8)]) hx hb hf dX7_pass_155 hl (k := 10) rfl (Nat.le_of_ble_eq_true rfl) (fun _ => rfl) (fun n155 ls hf hl => ?_)
      refine lv_goto (tgt := 36) hx hb dX7_pass_158 (by decide) ?_
      obtain ⟨rfl, rfl⟩ := z_p hf
      exact kk _ _ _ ⟨ls, rfl, lv_sub hl [2, 3, 4, 5, 6, 7, 8, 9, 10, 0] rfl⟩ hG
    · have hf := z_f c86 hf
      refine lv_aload_n hx hb dX7_pass_89 rfl (lv_at hl 1 rfl) ?_
      refine lv_iload_n hx hb dX7_pass_90 rfl (lv_at hl 4 rfl) ?_
      refine lv_iload hx hb dX7_pass_91 (lv_at hl 5 rfl) ?_
      refine zm_cvi (As := [.int f3, .int f4]) (rest := []) C hG hf (ctm_isForgery Γ l f3 f4) (lw_V q1917 q1919 qs82 q107 q1920) ytm_isForgery rfl rfl (Nat.le_of_ble_eq_true rfl) (Nat.le_of_ble_eq_true rfl) hl.1 (Nat.le_of_ble_eq_true rfl) dX7_pass_93 (fun v93 S H locs hG hf => ?_)
      refine lv_if_ne (tgt := 102) hx hb dX7_pass_96 (by decide) (fun c96 => ?_) (fun c96 => ?_)
      · have hf := z_f c96 hf
        refine lv_iload hx hb dX7_pass_102 (lv_at hl 7 rfl) ?_
        refine lv_if_lt (tgt := 141) hx hb dX7_pass_104 (by decide) (fun c104 => ?_) (fun c104 => ?_)
        · have hf := z_t c104 hf
          exact wm_pass_l36_j141 Γ l f1 f2 f3 f4 f5 s9 v78 p e R s m args below meth c Q A _ _ _ _ _ _ C hG ⟨ls, rfl, lv_sub hl [1, 2, 3, 4, 5, 6, 10, 0] rfl⟩ hf kk
        · have hf := z_f c104 hf
          refine lv_aload_n hx hb dX7_pass_107 rfl (lv_at hl 1 rfl) ?_
          refine zm_gf C hG 41 hf (Nat.le_of_ble_eq_true rfl) rfl q1484 dX7_pass_108 (fun v108 hf => ?_)
          refine lv_iload hx hb dX7_pass_111 (lv_at hl 8 rfl) ?_
          refine lv_icmp_gt (tgt := 155) hx hb dX7_pass_113 (by decide) (fun c113 => ?_) (fun c113 => ?_)
          · have hf := z_t c113 hf
            refine z_iinc (fun v => [(9, .int v), (10, .int v78), (0, .ref (G_m Γ 0)), (1, .int f1), (2, .int f2), (3, .int f3), (4, .int f4), (5, .int f5), (6, .int s6), (7, .int s7), (8, .int s8)]) hx hb hf dX7_pass_155 hl (k := 10) rfl (Nat.le_of_ble_eq_true rfl) (fun _ => rfl) (fun n155 ls hf hl => ?_)
            refine lv_goto (tgt := 36) hx hb dX7_pass_158 (by decide) ?_
            obtain ⟨rfl, rfl⟩ := z_p hf
            exact kk _ _ _ ⟨ls, rfl, lv_sub hl [2, 3, 4, 5, 6, 7, 8, 9, 10, 0] rfl⟩ hG
          · have hf := z_f c113 hf
            refine lv_aload_n hx hb dX7_pass_116 rfl (lv_at hl 1 rfl) ?_
            refine zm_gf C hG 41 hf (Nat.le_of_ble_eq_true rfl) rfl q1484 dX7_pass_117 (fun v117 hf => ?_)
            refine lv_iload hx hb dX7_pass_120 (lv_at hl 8 rfl) ?_
            refine lv_icmp_ne (tgt := 141) hx hb dX7_pass_122 (by decide) (fun c122 => ?_) (fun c122 => ?_)
            · have hf := z_f c122 hf
              exact wm_pass_l36_j141 Γ l f1 f2 f3 f4 f5 s9 v78 p e R s m args below meth c Q A _ _ _ _ _ _ C hG ⟨ls, rfl, lv_sub hl [1, 2, 3, 4, 5, 6, 10, 0] rfl⟩ hf kk
            · have hf := z_t c122 hf
              refine lv_iload hx hb dX7_pass_125 (lv_at hl 10 rfl) ?_
              refine zm_csi (As := [.int s9]) (rest := []) C hG hf (ctm_ones Γ l s9) (lw_S q1858 q1859 q107 q1860) ytm_ones rfl rfl (Nat.le_of_ble_eq_true rfl) (Nat.le_of_ble_eq_true rfl) hl.1 (Nat.le_of_ble_eq_true rfl) dX7_pass_127 (fun v127 S H locs hG hf => ?_)
              refine lv_iload hx hb dX7_pass_130 (lv_at hl 7 rfl) ?_
              refine zm_csi (As := [.int s6]) (rest := [.int v127]) C hG hf (ctm_ones Γ l s6) (lw_S q1858 q1859 q107 q1860) ytm_ones rfl rfl (Nat.le_of_ble_eq_true rfl) (Nat.le_of_ble_eq_true rfl) hl.1 (Nat.le_of_ble_eq_true rfl) dX7_pass_132 (fun v132 S H locs hG hf => ?_)
              refine lv_icmp_lt (tgt := 141) hx hb dX7_pass_135 (by decide) (fun c135 => ?_) (fun c135 => ?_)
              · have hf := z_t c135 hf
                exact wm_pass_l36_j141 Γ l f1 f2 f3 f4 f5 s9 v78 p e R s m args below meth c Q A _ _ _ _ _ _ C hG ⟨ls, rfl, lv_sub hl [1, 2, 3, 4, 5, 6, 10, 0] rfl⟩ hf kk
              · have hf := z_f c135 hf
                refine lv_goto (tgt := 155) hx hb dX7_pass_138 (by decide) ?_
                refine z_iinc (fun v => [(9, .int v), (10, .int v78), (0, .ref (G_m Γ 0)), (1, .int f1), (2, .int f2), (3, .int f3), (4, .int f4), (5, .int f5), (6, .int s6), (7, .int s7), (8, .int s8)]) hx hb hf dX7_pass_155 hl (k := 10) rfl (Nat.le_of_ble_eq_true rfl) (fun _ => rfl) (fun n155 ls hf hl => ?_)
                refine lv_goto (tgt := 36) hx hb dX7_pass_158 (by decide) ?_
                obtain ⟨rfl, rfl⟩ := z_p hf
                exact kk _ _ _ ⟨ls, rfl, lv_sub hl [2, 3, 4, 5, 6, 7, 8, 9, 10, 0] rfl⟩ hG
      · have hf := z_t c96 hf
        refine lv_goto (tgt := 155) hx hb dX7_pass_99 (by decide) ?_
        refine z_iinc (fun v => [(9, .int v), (10, .int v78), (0, .ref (G_m Γ 0)), (1, .int f1), (2, .int f2), (3, .int f3), (4, .int f4), (5, .int f5), (6, .int s6), (7, .int s7), (8, .int s8)]) hx hb hf dX7_pass_155 hl (k := 10) rfl (Nat.le_of_ble_eq_true rfl) (fun _ => rfl) (fun n155 ls hf hl => ?_)
        refine lv_goto (tgt := 36) hx hb dX7_pass_158 (by decide) ?_
        obtain ⟨rfl, rfl⟩ := z_p hf
        exact kk _ _ _ ⟨ls, rfl, lv_sub hl [2, 3, 4, 5, 6, 7, 8, 9, 10, 0] rfl⟩ hG
theorem wm_pass_l36 (Γ : zG) (l : Launch) (f1 : Int32) (f2 : Int32) (f3 : Int32) (f4 : Int32) (f5 : Int32) : ∀ s : Int32 × Int32 × Int32 × Int32, mRg Γ l yX7_pass cX7_pass 11 (some .int) 7 170 (m_pass_l36 f1 f2 f3 f4 f5 s.1 s.2.1 s.2.2.1 s.2.2.2) (fun m => im_pass_l36 Γ f1 f2 f3 f4 f5 m s) (zLE (im_pass_l36 Γ f1 f2 f3 f4 f5) (em_pass_l36 Γ f1 f2 f3 f4 f5)) := fun s => wm_pass_l36_b Γ l f1 f2 f3 f4 f5 s.1 s.2.1 s.2.2.1 s.2.2.2
set_option maxHeartbeats 4000000 in
theorem wm_pass (Γ : zG) (l : Launch) (a1 : Int32) (a2 : Int32) (a3 : Int32) (a4 : Int32) (a5 : Int32) : mRg Γ l yX7_pass cX7_pass 11 (some .int) 7 170 (m_pass a1 a2 a3 a4 a5) (zAt0 11 0 (lv_args 0 [.ref (G_m Γ 0), .int a1, .int a2, .int a3, .int a4, .int a5]) []) (zLi cX7_pass) := by
  intro p e R s m args below meth c Q A S H locs x S' g C hG hI hf kk
  obtain ⟨ls, rfl, hl⟩ := hI
  obtain ⟨⟨hx, hb, hml, hown, hts⟩, hr, hlk, hK, hR1, hR2⟩ := id C
  have C : zCx Γ p R s m args meth c cX7_pass 11 RX7 (some .int) 7 170 := C
  have hl : lv_has ls 11 [(0, .ref (G_m Γ 0)), (1, .int a1), (2, .int a2), (3, .int a3), (4, .int a4), (5, .int a5)] := hl
  refine lv_aload_n hx hb dX7_pass_0 rfl (lv_at hl 0 rfl) ?_
  refine lv_iload_n hx hb dX7_pass_1 rfl (lv_at hl 1 rfl) ?_
  refine lv_iload_n hx hb dX7_pass_2 rfl (lv_at hl 2 rfl) ?_
  refine lv_iload_n hx hb dX7_pass_3 rfl (lv_at hl 3 rfl) ?_
  refine lv_iload hx hb dX7_pass_4 (lv_at hl 4 rfl) ?_
  refine zm_cvi (As := [.int a1, .int a2, .int a3, .int a4]) (rest := []) C hG hf (ctm_isForger Γ l a1 a2 a3 a4) (lw_V q1909 q1911 qs80 q107 q1912) ytm_isForger rfl rfl (Nat.le_of_ble_eq_true rfl) (Nat.le_of_ble_eq_true rfl) hl.1 (Nat.le_of_ble_eq_true rfl) dX7_pass_6 (fun v6 S H locs hG hf => ?_)
  refine lv_if_eq (tgt := 22) hx hb dX7_pass_9 (by decide) (fun c9 => ?_) (fun c9 => ?_)
  · have hf := z_t c9 hf
    refine lv_iconst (v := zi (-1)) hx hb dX7_pass_22 rfl ?_
    obtain ⟨rfl, rfl⟩ := z_p hf
    exact kk _ _ _ ⟨_, _, rfl, dX7_pass_23⟩ hG
  · have hf := z_f c9 hf
    refine lv_iload hx hb dX7_pass_12 (lv_at hl 5 rfl) ?_
    refine lv_iconst (v := zi 0) hx hb dX7_pass_14 rfl ?_
    refine lv_iconst (v := zi 2) hx hb dX7_pass_15 rfl ?_
    refine zm_csi (As := [.int a5, .int (zi 0), .int (zi 2)]) (rest := []) C hG hf (ctm_isIn Γ l a5 (zi 0) (zi 2)) (lw_S q1612 q1613 q107 q1614) ytm_isIn rfl rfl (Nat.le_of_ble_eq_true rfl) (Nat.le_of_ble_eq_true rfl) hl.1 (Nat.le_of_ble_eq_true rfl) dX7_pass_16 (fun v16 S H locs hG hf => ?_)
    refine lv_if_ne (tgt := 24) hx hb dX7_pass_19 (by decide) (fun c19 => ?_) (fun c19 => ?_)
    · have hf := z_f c19 hf
      refine lv_iconst (v := zi (-1)) hx hb dX7_pass_24 rfl ?_
      refine lv_istore (lv' := [(6, .int (zi (-1))), (0, .ref (G_m Γ 0)), (1, .int a1), (2, .int a2), (3, .int a3), (4, .int a4), (5, .int a5)]) hx hb dX7_pass_25 hl (Nat.le_of_ble_eq_true rfl) rfl (fun ls hl => ?_)
      refine lv_iconst (v := zi 0) hx hb dX7_pass_27 rfl ?_
      refine lv_istore (lv' := [(7, .int (zi 0)), (6, .int (zi (-1))), (0, .ref (G_m Γ 0)), (1, .int a1), (2, .int a2), (3, .int a3), (4, .int a4), (5, .int a5)]) hx hb dX7_pass_28 hl (Nat.le_of_ble_eq_true rfl) rfl (fun ls hl => ?_)
      refine lv_iconst (v := zi 0) hx hb dX7_pass_30 rfl ?_
      refine lv_istore (lv' := [(8, .int (zi 0)), (7, .int (zi 0)), (6, .int (zi (-1))), (0, .ref (G_m Γ 0)), (1, .int a1), (2, .int a2), (3, .int a3), (4, .int a4), (5, .int a5)]) hx hb dX7_pass_31 hl (Nat.le_of_ble_eq_true rfl) rfl (fun ls hl => ?_)
      refine lv_iconst (v := zi 0) hx hb dX7_pass_33 rfl ?_
      refine lv_istore (lv' := [(9, .int (zi 0)), (8, .int (zi 0)), (7, .int (zi 0)), (6, .int (zi (-1))), (0, .ref (G_m Γ 0)), (1, .int a1), (2, .int a2), (3, .int a3), (4, .int a4), (5, .int a5)]) hx hb dX7_pass_34 hl (Nat.le_of_ble_eq_true rfl) rfl (fun ls hl => ?_)
      obtain ⟨e36, S, hlp, hf⟩ := nB_some hf
      refine mRg.loop (wm_pass_l36 Γ l a1 a2 a3 a4 a5) ((zi (-1)), (zi 0), (zi 0), (zi 0)) p e R s m args below meth c Q A _ _ _ _ _ _ C hG ⟨ls, rfl, lv_sub hl [4, 5, 6, 7, 8, 9, 3, 2, 1, 0] rfl⟩ hlp (fun H locs g hL hG => ?_)
      obtain ⟨ls, rfl, hl⟩ := hL
      have hl : lv_has ls 11 [(0, .ref (G_m Γ 0)), (5, .int a5), (6, .int e36.1), (7, .int e36.2.1), (8, .int e36.2.2)] := hl
      refine lv_iload hx hb dX7_pass_161 (lv_at hl 2 rfl) ?_
      refine lv_if_ge (tgt := 170) hx hb dX7_pass_163 (by decide) (fun c163 => ?_) (fun c163 => ?_)
      · have hf := z_t c163 hf
        refine lv_iload hx hb dX7_pass_170 (lv_at hl 1 rfl) ?_
        refine lv_if_ne (tgt := 180) hx hb dX7_pass_172 (by decide) (fun c172 => ?_) (fun c172 => ?_)
        · have hf := z_f c172 hf
          refine lv_iload hx hb dX7_pass_180 (lv_at hl 1 rfl) ?_
          refine lv_iconst (v := zi 1) hx hb dX7_pass_182 rfl ?_
          refine lv_icmp_ne (tgt := 191) hx hb dX7_pass_183 (by decide) (fun c183 => ?_) (fun c183 => ?_)
          · have hf := z_f c183 hf
            refine lv_iload hx hb dX7_pass_191 (lv_at hl 4 rfl) ?_
            obtain ⟨rfl, rfl⟩ := z_p hf
            exact kk _ _ _ ⟨_, _, rfl, dX7_pass_193⟩ hG
          · have hf := z_t c183 hf
            refine lv_iload hx hb dX7_pass_186 (lv_at hl 2 rfl) ?_
            refine lv_goto (tgt := 193) hx hb dX7_pass_188 (by decide) ?_
            obtain ⟨rfl, rfl⟩ := z_p hf
            exact kk _ _ _ ⟨_, _, rfl, dX7_pass_193⟩ hG
        · have hf := z_t c172 hf
          refine lv_iload hx hb dX7_pass_175 (lv_at hl 3 rfl) ?_
          refine lv_goto (tgt := 193) hx hb dX7_pass_177 (by decide) ?_
          obtain ⟨rfl, rfl⟩ := z_p hf
          exact kk _ _ _ ⟨_, _, rfl, dX7_pass_193⟩ hG
      · have hf := z_f c163 hf
        refine lv_iconst (v := zi (-1)) hx hb dX7_pass_166 rfl ?_
        refine lv_goto (tgt := 193) hx hb dX7_pass_167 (by decide) ?_
        obtain ⟨rfl, rfl⟩ := z_p hf
        exact kk _ _ _ ⟨_, _, rfl, dX7_pass_193⟩ hG
    · have hf := z_t c19 hf
      refine lv_iconst (v := zi (-1)) hx hb dX7_pass_22 rfl ?_
      obtain ⟨rfl, rfl⟩ := z_p hf
      exact kk _ _ _ ⟨_, _, rfl, dX7_pass_23⟩ hG
theorem ctm_pass (Γ : zG) (l : Launch) (a1 : Int32) (a2 : Int32) (a3 : Int32) (a4 : Int32) (a5 : Int32) : mCt Γ l yX7_pass (ws_ yX7_pass cX7_pass 11 (some .int)) 7 170 [.ref (G_m Γ 0), .int a1, .int a2, .int a3, .int a4, .int a5] (m_pass a1 a2 a3 a4 a5) zoi := mCt.mki (by decide +kernel) (Nat.le_of_ble_eq_true rfl) (wm_pass Γ l a1 a2 a3 a4 a5)
theorem ytm_pass : yX7_pass.cls = RX7 ∧ yX7_pass.cls ≠ "java/lang/invoke/MethodHandle" ∧ yX7_pass.cls ≠ "java/lang/invoke/VarHandle" ∧ (parseMethodDescriptor yX7_pass.desc).map (fun d => d.parameters.length) = some 5 := by decide +kernel
def im_met_l23 (Γ : zG) (f1 : Int32) (f2 : Int32) (f3 : Int32) (f4 : Int32) (m : MethodId) (s : Int32 × Int32 × Int32) (g : JFrame) : Prop := zAt0 9 23 [(0, .ref (G_m Γ 0)), (1, .int f1), (2, .int f2), (3, .int f3), (4, .int f4), (5, .int s.1), (6, .int s.2.1), (7, .int s.2.2)] [] m g
def em_met_l23 (Γ : zG) (f1 : Int32) (f2 : Int32) (f3 : Int32) (f4 : Int32) (m : MethodId) (e : Int32 × Int32) (g : JFrame) : Prop := zAt0 9 148 [(0, .ref (G_m Γ 0)), (5, .int e.1), (6, .int e.2)] [] m g
set_option maxHeartbeats 4000000 in
theorem wm_met_l23_j125 (Γ : zG) (l : Launch) (b1 : Int32) (b2 : Int32) (b3 : Int32) (b4 : Int32) (b5 : Int32) (b7 : Int32) (t0 : Int32) : mRg Γ l yX7_met cX7_met 9 (some .int) 7 170 (m_met_l23_j125 b1 b2 b3 b4 b5 b7 t0) (zAt0 9 125 [(0, .ref (G_m Γ 0)), (1, .int b1), (2, .int b2), (3, .int b3), (4, .int b4), (5, .int b5), (7, .int b7)] [.int t0]) (zLE (im_met_l23 Γ b1 b2 b3 b4) (em_met_l23 Γ b1 b2 b3 b4)) := by
  intro p e R s m args below meth c Q A S H locs x S' g C hG hI hf kk
  obtain ⟨ls, rfl, hl⟩ := hI
  obtain ⟨⟨hx, hb, hml, hown, hts⟩, hr, hlk, hK, hR1, hR2⟩ := id C
  have C : zCx Γ p R s m args meth c cX7_met 9 RX7 (some .int) 7 170 := C
  refine lv_istore (lv' := [(6, .int t0), (0, .ref (G_m Γ 0)), (1, .int b1), (2, .int b2), (3, .int b3), (4, .int b4), (5, .int b5), (7, .int b7)]) hx hb dX7_met_125 hl (Nat.le_of_ble_eq_true rfl) rfl (fun ls hl => ?_)
  refine lv_aload_n hx hb dX7_met_127 rfl (lv_at hl 1 rfl) ?_
  refine zm_gf C hG 32 hf (Nat.le_of_ble_eq_true rfl) rfl q1475 dX7_met_128 (fun v128 hf => ?_)
  refine lv_iload hx hb dX7_met_131 (lv_at hl 6 rfl) ?_
  refine lv_icmp_le (tgt := 142) hx hb dX7_met_133 (by decide) (fun c133 => ?_) (fun c133 => ?_)
  · have hf := z_t c133 hf
    refine z_iinc (fun v => [(7, .int v), (6, .int t0), (0, .ref (G_m Γ 0)), (1, .int b1), (2, .int b2), (3, .int b3), (4, .int b4), (5, .int b5)]) hx hb hf dX7_met_142 hl (k := 7) rfl (Nat.le_of_ble_eq_true rfl) (fun _ => rfl) (fun n142 ls hf hl => ?_)
    refine lv_goto (tgt := 23) hx hb dX7_met_145 (by decide) ?_
    obtain ⟨rfl, rfl⟩ := z_p hf
    exact kk _ _ _ ⟨ls, rfl, lv_sub hl [2, 3, 4, 5, 6, 7, 1, 0] rfl⟩ hG
  · have hf := z_f c133 hf
    refine lv_aload_n hx hb dX7_met_136 rfl (lv_at hl 1 rfl) ?_
    refine zm_gf C hG 32 hf (Nat.le_of_ble_eq_true rfl) rfl q1475 dX7_met_137 (fun v137 hf => ?_)
    refine lv_istore (lv' := [(5, .int v137), (6, .int t0), (0, .ref (G_m Γ 0)), (1, .int b1), (2, .int b2), (3, .int b3), (4, .int b4), (7, .int b7)]) hx hb dX7_met_140 hl (Nat.le_of_ble_eq_true rfl) rfl (fun ls hl => ?_)
    refine z_iinc (fun v => [(7, .int v), (5, .int v137), (6, .int t0), (0, .ref (G_m Γ 0)), (1, .int b1), (2, .int b2), (3, .int b3), (4, .int b4)]) hx hb hf dX7_met_142 hl (k := 7) rfl (Nat.le_of_ble_eq_true rfl) (fun _ => rfl) (fun n142 ls hf hl => ?_)
    refine lv_goto (tgt := 23) hx hb dX7_met_145 (by decide) ?_
    obtain ⟨rfl, rfl⟩ := z_p hf
    exact kk _ _ _ ⟨ls, rfl, lv_sub hl [3, 4, 5, 6, 7, 1, 2, 0] rfl⟩ hG
set_option maxHeartbeats 4000000 in
theorem wm_met_l23_j120 (Γ : zG) (l : Launch) (b1 : Int32) (b2 : Int32) (b3 : Int32) (b4 : Int32) (b5 : Int32) (b7 : Int32) : mRg Γ l yX7_met cX7_met 9 (some .int) 7 170 (m_met_l23_j120 b1 b2 b3 b4 b5 b7) (zAt0 9 120 [(0, .ref (G_m Γ 0)), (1, .int b1), (2, .int b2), (3, .int b3), (4, .int b4), (5, .int b5), (7, .int b7)] []) (zLE (im_met_l23 Γ b1 b2 b3 b4) (em_met_l23 Γ b1 b2 b3 b4)) := by
  intro p e R s m args below meth c Q A S H locs x S' g C hG hI hf kk
  obtain ⟨ls, rfl, hl⟩ := hI
  obtain ⟨⟨hx, hb, hml, hown, hts⟩, hr, hlk, hK, hR1, hR2⟩ := id C
  have C : zCx Γ p R s m args meth c cX7_met 9 RX7 (some .int) 7 170 := C
  refine lv_iconst (v := zi 1) hx hb dX7_met_120 rfl ?_
  refine lv_goto (tgt := 125) hx hb dX7_met_121 (by decide) ?_
  exact wm_met_l23_j125 Γ l b1 b2 b3 b4 b5 b7 (zi 1) p e R s m args below meth c Q A _ _ _ _ _ _ C hG ⟨ls, rfl, lv_sub hl [0, 1, 2, 3, 4, 5, 6] rfl⟩ hf kk
set_option maxHeartbeats 4000000 in
theorem wm_met_l23_j108 (Γ : zG) (l : Launch) (b1 : Int32) (b2 : Int32) (b3 : Int32) (b4 : Int32) (b5 : Int32) (b6 : Int32) (b7 : Int32) (t0 : Int32) : mRg Γ l yX7_met cX7_met 9 (some .int) 7 170 (m_met_l23_j108 b1 b2 b3 b4 b5 b6 b7 t0) (zAt0 9 108 [(0, .ref (G_m Γ 0)), (1, .int b1), (2, .int b2), (3, .int b3), (4, .int b4), (5, .int b5), (6, .int b6), (7, .int b7)] [.int t0]) (zLE (im_met_l23 Γ b1 b2 b3 b4) (em_met_l23 Γ b1 b2 b3 b4)) := by
  intro p e R s m args below meth c Q A S H locs x S' g C hG hI hf kk
  obtain ⟨ls, rfl, hl⟩ := hI
  obtain ⟨⟨hx, hb, hml, hown, hts⟩, hr, hlk, hK, hR1, hR2⟩ := id C
  have C : zCx Γ p R s m args meth c cX7_met 9 RX7 (some .int) 7 170 := C
  refine lv_istore (lv' := [(8, .int t0), (0, .ref (G_m Γ 0)), (1, .int b1), (2, .int b2), (3, .int b3), (4, .int b4), (5, .int b5), (6, .int b6), (7, .int b7)]) hx hb dX7_met_108 hl (Nat.le_of_ble_eq_true rfl) rfl (fun ls hl => ?_)
  refine lv_iload hx hb dX7_met_110 (lv_at hl 7 rfl) ?_
  refine lv_if_ne (tgt := 120) hx hb dX7_met_112 (by decide) (fun c112 => ?_) (fun c112 => ?_)
  · have hf := z_f c112 hf
    exact wm_met_l23_j120 Γ l b1 b2 b3 b4 b5 b7 p e R s m args below meth c Q A _ _ _ _ _ _ C hG ⟨ls, rfl, lv_sub hl [1, 2, 3, 4, 5, 6, 8] rfl⟩ hf kk
  · have hf := z_t c112 hf
    refine lv_iload hx hb dX7_met_115 (lv_at hl 0 rfl) ?_
    refine lv_if_ne (tgt := 124) hx hb dX7_met_117 (by decide) (fun c117 => ?_) (fun c117 => ?_)
    · have hf := z_f c117 hf
      refine lv_iconst (v := zi 0) hx hb dX7_met_124 rfl ?_
      exact wm_met_l23_j125 Γ l b1 b2 b3 b4 b5 b7 (zi 0) p e R s m args below meth c Q A _ _ _ _ _ _ C hG ⟨ls, rfl, lv_sub hl [1, 2, 3, 4, 5, 6, 8] rfl⟩ hf kk
    · have hf := z_t c117 hf
      exact wm_met_l23_j120 Γ l b1 b2 b3 b4 b5 b7 p e R s m args below meth c Q A _ _ _ _ _ _ C hG ⟨ls, rfl, lv_sub hl [1, 2, 3, 4, 5, 6, 8] rfl⟩ hf kk
set_option maxHeartbeats 4000000 in
theorem wm_met_l23_j107 (Γ : zG) (l : Launch) (b1 : Int32) (b2 : Int32) (b3 : Int32) (b4 : Int32) (b5 : Int32) (b6 : Int32) (b7 : Int32) : mRg Γ l yX7_met cX7_met 9 (some .int) 7 170 (m_met_l23_j107 b1 b2 b3 b4 b5 b6 b7) (zAt0 9 107 [(0, .ref (G_m Γ 0)), (1, .int b1), (2, .int b2), (3, .int b3), (4, .int b4), (5, .int b5), (6, .int b6), (7, .int b7)] []) (zLE (im_met_l23 Γ b1 b2 b3 b4) (em_met_l23 Γ b1 b2 b3 b4)) := by
  intro p e R s m args below meth c Q A S H locs x S' g C hG hI hf kk
  obtain ⟨ls, rfl, hl⟩ := hI
  obtain ⟨⟨hx, hb, hml, hown, hts⟩, hr, hlk, hK, hR1, hR2⟩ := id C
  have C : zCx Γ p R s m args meth c cX7_met 9 RX7 (some .int) 7 170 := C
  refine lv_iconst (v := zi 0) hx hb dX7_met_107 rfl ?_
  exact wm_met_l23_j108 Γ l b1 b2 b3 b4 b5 b6 b7 (zi 0) p e R s m args below meth c Q A _ _ _ _ _ _ C hG ⟨ls, rfl, lv_sub hl [0, 1, 2, 3, 4, 5, 6, 7] rfl⟩ hf kk
set_option maxHeartbeats 4000000 in
theorem wm_met_l23_b (Γ : zG) (l : Launch) (f1 : Int32) (f2 : Int32) (f3 : Int32) (f4 : Int32) (s5 : Int32) (s6 : Int32) (s7 : Int32) : mRg Γ l yX7_met cX7_met 9 (some .int) 7 170 (m_met_l23 f1 f2 f3 f4 s5 s6 s7) (zAt0 9 23 [(0, .ref (G_m Γ 0)), (1, .int f1), (2, .int f2), (3, .int f3), (4, .int f4), (5, .int s5), (6, .int s6), (7, .int s7)] []) (zLE (im_met_l23 Γ f1 f2 f3 f4) (em_met_l23 Γ f1 f2 f3 f4)) := by
  intro p e R s m args below meth c Q A S H locs x S' g C hG hI hf kk
  obtain ⟨ls, rfl, hl⟩ := hI
  obtain ⟨⟨hx, hb, hml, hown, hts⟩, hr, hlk, hK, hR1, hR2⟩ := id C
  have C : zCx Γ p R s m args meth c cX7_met 9 RX7 (some .int) 7 170 := C
  refine lv_iload hx hb dX7_met_23 (lv_at hl 7 rfl) ?_
  refine lv_iconst (v := zi 1) hx hb dX7_met_25 rfl ?_
  refine lv_aload_n hx hb dX7_met_26 rfl (lv_at hl 0 rfl) ?_
  refine zm_ga C hG 0 (Nat.le_of_ble_eq_true rfl) (by decide) q1443 dX7_met_27 ?_
  refine lv_iload_n hx hb dX7_met_30 rfl (lv_at hl 1 rfl) ?_
  refine zm_csi (As := [.int f1]) (rest := [.ref (G_m Γ (0 + 1)), .int (zi 1), .int s7]) C hG hf (ctm_pageAt Γ l f1) (lw_S q1683 q1684 q107 q1685) ytm_pageAt rfl rfl (Nat.le_of_ble_eq_true rfl) (Nat.le_of_ble_eq_true rfl) hl.1 (Nat.le_of_ble_eq_true rfl) dX7_met_31 (fun v31 S H locs hG hf => ?_)
  refine lv_bipush (v := zi 15) hx hb dX7_met_34 (by decide +kernel) ?_
  refine lv_iadd hx hb dX7_met_36 ?_
  refine zm_al C hG 0 hf (Nat.le_of_ble_eq_true rfl) rfl dX7_met_37 (fun v37 hf => ?_)
  refine lv_ishl hx hb dX7_met_38 ?_
  refine lv_icmp_ge (tgt := 148) hx hb dX7_met_39 (by decide) (fun c39 => ?_) (fun c39 => ?_)
  · have hf := z_t c39 hf
    obtain ⟨rfl, rfl⟩ := z_p hf
    exact kk _ _ _ ⟨ls, rfl, lv_sub hl [0, 5, 6] rfl⟩ hG
  · have hf := z_f c39 hf
    refine lv_aload_n hx hb dX7_met_42 rfl (lv_at hl 0 rfl) ?_
    refine lv_iload_n hx hb dX7_met_43 rfl (lv_at hl 1 rfl) ?_
    refine lv_iload_n hx hb dX7_met_44 rfl (lv_at hl 2 rfl) ?_
    refine lv_iload hx hb dX7_met_45 (lv_at hl 7 rfl) ?_
    refine zm_cvv (As := [.int f1, .int f2, .int s7]) (rest := []) C hG hf (ctm_forges Γ l f1 f2 s7) (lw_V q1913 q1915 qs81 q107 q1916) ytm_forges rfl rfl (Nat.le_of_ble_eq_true rfl) (Nat.le_of_ble_eq_true rfl) hl.1 (Nat.le_of_ble_eq_true rfl) dX7_met_47 (fun S H locs hG hf => ?_)
    refine lv_aload_n hx hb dX7_met_50 rfl (lv_at hl 0 rfl) ?_
    refine lv_iload_n hx hb dX7_met_51 rfl (lv_at hl 3 rfl) ?_
    refine lv_iload hx hb dX7_met_52 (lv_at hl 4 rfl) ?_
    refine zm_cvi (As := [.int f3, .int f4]) (rest := []) C hG hf (ctm_isForgery Γ l f3 f4) (lw_V q1917 q1919 qs82 q107 q1920) ytm_isForgery rfl rfl (Nat.le_of_ble_eq_true rfl) (Nat.le_of_ble_eq_true rfl) hl.1 (Nat.le_of_ble_eq_true rfl) dX7_met_54 (fun v54 S H locs hG hf => ?_)
    refine lv_if_ne (tgt := 63) hx hb dX7_met_57 (by decide) (fun c57 => ?_) (fun c57 => ?_)
    · have hf := z_f c57 hf
      refine lv_aload_n hx hb dX7_met_63 rfl (lv_at hl 0 rfl) ?_
      refine zm_gf C hG 33 hf (Nat.le_of_ble_eq_true rfl) rfl q1476 dX7_met_64 (fun v64 hf => ?_)
      refine lv_aload_n hx hb dX7_met_67 rfl (lv_at hl 0 rfl) ?_
      refine zm_ga C hG 0 (Nat.le_of_ble_eq_true rfl) (by decide) q1443 dX7_met_68 ?_
      refine lv_iconst (v := zi 4) hx hb dX7_met_71 rfl ?_
      refine zm_al C hG 0 hf (Nat.le_of_ble_eq_true rfl) rfl dX7_met_72 (fun v72 hf => ?_)
      refine lv_icmp_lt (tgt := 107) hx hb dX7_met_73 (by decide) (fun c73 => ?_) (fun c73 => ?_)
      · have hf := z_t c73 hf
        exact wm_met_l23_j107 Γ l f1 f2 f3 f4 s5 s6 s7 p e R s m args below meth c Q A _ _ _ _ _ _ C hG ⟨ls, rfl, lv_sub hl [0, 1, 2, 3, 4, 5, 6, 7] rfl⟩ hf kk
      · have hf := z_f c73 hf
        refine lv_aload_n hx hb dX7_met_76 rfl (lv_at hl 0 rfl) ?_
        refine zm_gf C hG 34 hf (Nat.le_of_ble_eq_true rfl) rfl q1477 dX7_met_77 (fun v77 hf => ?_)
        refine lv_if_eq (tgt := 107) hx hb dX7_met_80 (by decide) (fun c80 => ?_) (fun c80 => ?_)
        · have hf := z_t c80 hf
          exact wm_met_l23_j107 Γ l f1 f2 f3 f4 s5 s6 s7 p e R s m args below meth c Q A _ _ _ _ _ _ C hG ⟨ls, rfl, lv_sub hl [0, 1, 2, 3, 4, 5, 6, 7] rfl⟩ hf kk
        · have hf := z_f c80 hf
          refine lv_aload_n hx hb dX7_met_83 rfl (lv_at hl 0 rfl) ?_
          refine lv_iload_n hx hb dX7_met_84 rfl (lv_at hl 1 rfl) ?_
          refine lv_iload_n hx hb dX7_met_85 rfl (lv_at hl 2 rfl) ?_
          refine zm_cvi (As := [.int f1, .int f2]) (rest := []) C hG hf (ctm_ageOf Γ l f1 f2) (lw_V q1843 q1845 qs73 q107 q1846) ytm_ageOf rfl rfl (Nat.le_of_ble_eq_true rfl) (Nat.le_of_ble_eq_true rfl) hl.1 (Nat.le_of_ble_eq_true rfl) dX7_met_86 (fun v86 S H locs hG hf => ?_)
          refine lv_aload_n hx hb dX7_met_89 rfl (lv_at hl 0 rfl) ?_
          refine zm_gf C hG 40 hf (Nat.le_of_ble_eq_true rfl) rfl q1483 dX7_met_90 (fun v90 hf => ?_)
          refine lv_iadd hx hb dX7_met_93 ?_
          refine lv_aload_n hx hb dX7_met_94 rfl (lv_at hl 0 rfl) ?_
          refine zm_ga C hG 0 (Nat.le_of_ble_eq_true rfl) (by decide) q1443 dX7_met_95 ?_
          refine lv_iconst (v := zi 5) hx hb dX7_met_98 rfl ?_
          refine zm_al C hG 0 hf (Nat.le_of_ble_eq_true rfl) rfl dX7_met_99 (fun v99 hf => ?_)
          refine lv_icmp_gt (tgt := 107) hx hb dX7_met_100 (by decide) (fun c100 => ?_) (fun c100 => ?_)
          · have hf := z_t c100 hf
            exact wm_met_l23_j107 Γ l f1 f2 f3 f4 s5 s6 s7 p e R s m args below meth c Q A _ _ _ _ _ _ C hG ⟨ls, rfl, lv_sub hl [0, 1, 2, 3, 4, 5, 6, 7] rfl⟩ hf kk
          · have hf := z_f c100 hf
            refine lv_iconst (v := zi 1) hx hb dX7_met_103 rfl ?_
            refine lv_goto (tgt := 108) hx hb dX7_met_104 (by decide) ?_
            exact wm_met_l23_j108 Γ l f1 f2 f3 f4 s5 s6 s7 (zi 1) p e R s m args below meth c Q A _ _ _ _ _ _ C hG ⟨ls, rfl, lv_sub hl [0, 1, 2, 3, 4, 5, 6, 7] rfl⟩ hf kk
    · have hf := z_t c57 hf
      refine lv_goto (tgt := 142) hx hb dX7_met_60 (by decide) ?_
      refine z_iinc (fun v => [(7, .int v), (0, .ref (G_m Γ 0)), (1, .int f1), (2, .int f2), (3, .int f3), (4, .int f4), (5, .int s5), (6, .int s6)]) hx hb hf dX7_met_142 hl (k := 7) rfl (Nat.le_of_ble_eq_true rfl) (fun _ => rfl) (fun n142 ls hf hl => ?_)
      refine lv_goto (tgt := 23) hx hb dX7_met_145 (by decide) ?_
      obtain ⟨rfl, rfl⟩ := z_p hf
      exact kk _ _ _ ⟨ls, rfl, lv_sub hl [1, 2, 3, 4, 5, 6, 7, 0] rfl⟩ hG
theorem wm_met_l23 (Γ : zG) (l : Launch) (f1 : Int32) (f2 : Int32) (f3 : Int32) (f4 : Int32) : ∀ s : Int32 × Int32 × Int32, mRg Γ l yX7_met cX7_met 9 (some .int) 7 170 (m_met_l23 f1 f2 f3 f4 s.1 s.2.1 s.2.2) (fun m => im_met_l23 Γ f1 f2 f3 f4 m s) (zLE (im_met_l23 Γ f1 f2 f3 f4) (em_met_l23 Γ f1 f2 f3 f4)) := fun s => wm_met_l23_b Γ l f1 f2 f3 f4 s.1 s.2.1 s.2.2
set_option maxHeartbeats 4000000 in
theorem wm_met (Γ : zG) (l : Launch) (a1 : Int32) (a2 : Int32) (a3 : Int32) (a4 : Int32) : mRg Γ l yX7_met cX7_met 9 (some .int) 7 170 (m_met a1 a2 a3 a4) (zAt0 9 0 (lv_args 0 [.ref (G_m Γ 0), .int a1, .int a2, .int a3, .int a4]) []) (zLi cX7_met) := by
  intro p e R s m args below meth c Q A S H locs x S' g C hG hI hf kk
  obtain ⟨ls, rfl, hl⟩ := hI
  obtain ⟨⟨hx, hb, hml, hown, hts⟩, hr, hlk, hK, hR1, hR2⟩ := id C
  have C : zCx Γ p R s m args meth c cX7_met 9 RX7 (some .int) 7 170 := C
  have hl : lv_has ls 9 [(0, .ref (G_m Γ 0)), (1, .int a1), (2, .int a2), (3, .int a3), (4, .int a4)] := hl
  refine lv_aload_n hx hb dX7_met_0 rfl (lv_at hl 0 rfl) ?_
  refine lv_iload_n hx hb dX7_met_1 rfl (lv_at hl 1 rfl) ?_
  refine lv_iload_n hx hb dX7_met_2 rfl (lv_at hl 2 rfl) ?_
  refine lv_iload_n hx hb dX7_met_3 rfl (lv_at hl 3 rfl) ?_
  refine lv_iload hx hb dX7_met_4 (lv_at hl 4 rfl) ?_
  refine zm_cvi (As := [.int a1, .int a2, .int a3, .int a4]) (rest := []) C hG hf (ctm_isForger Γ l a1 a2 a3 a4) (lw_V q1909 q1911 qs80 q107 q1912) ytm_isForger rfl rfl (Nat.le_of_ble_eq_true rfl) (Nat.le_of_ble_eq_true rfl) hl.1 (Nat.le_of_ble_eq_true rfl) dX7_met_6 (fun v6 S H locs hG hf => ?_)
  refine lv_if_ne (tgt := 14) hx hb dX7_met_9 (by decide) (fun c9 => ?_) (fun c9 => ?_)
  · have hf := z_f c9 hf
    refine lv_iconst (v := zi 0) hx hb dX7_met_14 rfl ?_
    refine lv_istore (lv' := [(5, .int (zi 0)), (0, .ref (G_m Γ 0)), (1, .int a1), (2, .int a2), (3, .int a3), (4, .int a4)]) hx hb dX7_met_15 hl (Nat.le_of_ble_eq_true rfl) rfl (fun ls hl => ?_)
    refine lv_iconst (v := zi 0) hx hb dX7_met_17 rfl ?_
    refine lv_istore (lv' := [(6, .int (zi 0)), (5, .int (zi 0)), (0, .ref (G_m Γ 0)), (1, .int a1), (2, .int a2), (3, .int a3), (4, .int a4)]) hx hb dX7_met_18 hl (Nat.le_of_ble_eq_true rfl) rfl (fun ls hl => ?_)
    refine lv_iconst (v := zi 0) hx hb dX7_met_20 rfl ?_
    refine lv_istore (lv' := [(7, .int (zi 0)), (6, .int (zi 0)), (5, .int (zi 0)), (0, .ref (G_m Γ 0)), (1, .int a1), (2, .int a2), (3, .int a3), (4, .int a4)]) hx hb dX7_met_21 hl (Nat.le_of_ble_eq_true rfl) rfl (fun ls hl => ?_)
    obtain ⟨e23, S, hlp, hf⟩ := nB_some hf
    refine mRg.loop (wm_met_l23 Γ l a1 a2 a3 a4) ((zi 0), (zi 0), (zi 0)) p e R s m args below meth c Q A _ _ _ _ _ _ C hG ⟨ls, rfl, lv_sub hl [3, 4, 5, 6, 7, 2, 1, 0] rfl⟩ hlp (fun H locs g hL hG => ?_)
    obtain ⟨ls, rfl, hl⟩ := hL
    have hl : lv_has ls 9 [(0, .ref (G_m Γ 0)), (5, .int e23.1), (6, .int e23.2)] := hl
    refine lv_iload hx hb dX7_met_148 (lv_at hl 2 rfl) ?_
    refine lv_if_ne (tgt := 160) hx hb dX7_met_150 (by decide) (fun c150 => ?_) (fun c150 => ?_)
    · have hf := z_f c150 hf
      refine lv_iconst (v := zi (-1)) hx hb dX7_met_160 rfl ?_
      refine lv_goto (tgt := 166) hx hb dX7_met_161 (by decide) ?_
      obtain ⟨rfl, rfl⟩ := z_p hf
      exact kk _ _ _ ⟨_, _, rfl, dX7_met_166⟩ hG
    · have hf := z_t c150 hf
      refine lv_iload hx hb dX7_met_153 (lv_at hl 1 rfl) ?_
      refine lv_bipush (v := zi 60) hx hb dX7_met_155 (by decide +kernel) ?_
      refine lv_icmp_le (tgt := 164) hx hb dX7_met_157 (by decide) (fun c157 => ?_) (fun c157 => ?_)
      · have hf := z_t c157 hf
        refine lv_iload hx hb dX7_met_164 (lv_at hl 1 rfl) ?_
        obtain ⟨rfl, rfl⟩ := z_p hf
        exact kk _ _ _ ⟨_, _, rfl, dX7_met_166⟩ hG
      · have hf := z_f c157 hf
        refine lv_iconst (v := zi (-1)) hx hb dX7_met_160 rfl ?_
        refine lv_goto (tgt := 166) hx hb dX7_met_161 (by decide) ?_
        obtain ⟨rfl, rfl⟩ := z_p hf
        exact kk _ _ _ ⟨_, _, rfl, dX7_met_166⟩ hG
  · have hf := z_t c9 hf
    refine lv_iconst (v := zi (-1)) hx hb dX7_met_12 rfl ?_
    obtain ⟨rfl, rfl⟩ := z_p hf
    exact kk _ _ _ ⟨_, _, rfl, dX7_met_13⟩ hG
theorem ctm_met (Γ : zG) (l : Launch) (a1 : Int32) (a2 : Int32) (a3 : Int32) (a4 : Int32) : mCt Γ l yX7_met (ws_ yX7_met cX7_met 9 (some .int)) 7 170 [.ref (G_m Γ 0), .int a1, .int a2, .int a3, .int a4] (m_met a1 a2 a3 a4) zoi := mCt.mki (by decide +kernel) (Nat.le_of_ble_eq_true rfl) (wm_met Γ l a1 a2 a3 a4)
theorem ytm_met : yX7_met.cls = RX7 ∧ yX7_met.cls ≠ "java/lang/invoke/MethodHandle" ∧ yX7_met.cls ≠ "java/lang/invoke/VarHandle" ∧ (parseMethodDescriptor yX7_met.desc).map (fun d => d.parameters.length) = some 4 := by decide +kernel
set_option maxHeartbeats 4000000 in
theorem wm_pieces (Γ : zG) (l : Launch) (a1 : Int32) : mRg Γ l yX7_pieces cX7_pieces 2 (some .int) 1 20 (m_pieces a1) (zAt0 2 0 (lv_args 0 [.ref (G_m Γ 0), .int a1]) []) (zLi cX7_pieces) := by
  intro p e R s m args below meth c Q A S H locs x S' g C hG hI hf kk
  obtain ⟨ls, rfl, hl⟩ := hI
  obtain ⟨⟨hx, hb, hml, hown, hts⟩, hr, hlk, hK, hR1, hR2⟩ := id C
  have C : zCx Γ p R s m args meth c cX7_pieces 2 RX7 (some .int) 1 20 := C
  have hl : lv_has ls 2 [(0, .ref (G_m Γ 0)), (1, .int a1)] := hl
  refine lv_aload_n hx hb dX7_pieces_0 rfl (lv_at hl 0 rfl) ?_
  refine zm_ga C hG 0 (Nat.le_of_ble_eq_true rfl) (by decide) q1443 dX7_pieces_1 ?_
  refine lv_iload_n hx hb dX7_pieces_4 rfl (lv_at hl 1 rfl) ?_
  refine zm_csi (As := [.int a1]) (rest := [.ref (G_m Γ (0 + 1))]) C hG hf (ctm_pageAt Γ l a1) (lw_S q1683 q1684 q107 q1685) ytm_pageAt rfl rfl (Nat.le_of_ble_eq_true rfl) (Nat.le_of_ble_eq_true rfl) hl.1 (Nat.le_of_ble_eq_true rfl) dX7_pieces_5 (fun v5 S H locs hG hf => ?_)
  refine lv_bipush (v := zi 14) hx hb dX7_pieces_8 (by decide +kernel) ?_
  refine lv_iadd hx hb dX7_pieces_10 ?_
  refine zm_al C hG 0 hf (Nat.le_of_ble_eq_true rfl) rfl dX7_pieces_11 (fun v11 hf => ?_)
  obtain ⟨rfl, rfl⟩ := z_p hf
  exact kk _ _ _ ⟨_, _, rfl, dX7_pieces_12⟩ hG
theorem ctm_pieces (Γ : zG) (l : Launch) (a1 : Int32) : mCt Γ l yX7_pieces (ws_ yX7_pieces cX7_pieces 2 (some .int)) 1 20 [.ref (G_m Γ 0), .int a1] (m_pieces a1) zoi := mCt.mki (by decide +kernel) (Nat.le_of_ble_eq_true rfl) (wm_pieces Γ l a1)
theorem ytm_pieces : yX7_pieces.cls = RX7 ∧ yX7_pieces.cls ≠ "java/lang/invoke/MethodHandle" ∧ yX7_pieces.cls ≠ "java/lang/invoke/VarHandle" ∧ (parseMethodDescriptor yX7_pieces.desc).map (fun d => d.parameters.length) = some 1 := by decide +kernel
def im_choose_l16 (Γ : zG) (f0 : Int32) (f1 : Int32) (m : MethodId) (s : Int64 × Int32) (g : JFrame) : Prop := zAt0 5 16 [(0, .int f0), (1, .int f1), (2, .long s.1), (4, .int s.2)] [] m g
def em_choose_l16 (Γ : zG) (f0 : Int32) (f1 : Int32) (m : MethodId) (e : Int64) (g : JFrame) : Prop := zAt0 5 42 [(2, .long e)] [] m g
set_option maxHeartbeats 4000000 in
theorem wm_choose_l16_b (Γ : zG) (l : Launch) (f0 : Int32) (f1 : Int32) (s2 : Int64) (s4 : Int32) : mRg Γ l yX7_choose cX7_choose 5 (some .int) 0 0 (m_choose_l16 f0 f1 s2 s4) (zAt0 5 16 [(0, .int f0), (1, .int f1), (2, .long s2), (4, .int s4)] []) (zLE (im_choose_l16 Γ f0 f1) (em_choose_l16 Γ f0 f1)) := by
  intro p e R s m args below meth c Q A S H locs x S' g C hG hI hf kk
  obtain ⟨ls, rfl, hl⟩ := hI
  obtain ⟨⟨hx, hb, hml, hown, hts⟩, hr, hlk, hK, hR1, hR2⟩ := id C
  have C : zCx Γ p R s m args meth c cX7_choose 5 RX7 (some .int) 0 0 := C
  refine lv_iload hx hb dX7_choose_16 (lv_at hl 3 rfl) ?_
  refine lv_iload_n hx hb dX7_choose_18 rfl (lv_at hl 1 rfl) ?_
  refine lv_icmp_gt (tgt := 42) hx hb dX7_choose_19 (by decide) (fun c19 => ?_) (fun c19 => ?_)
  · have hf := z_t c19 hf
    obtain ⟨rfl, rfl⟩ := z_p hf
    exact kk _ _ _ ⟨ls, rfl, lv_sub hl [2] rfl⟩ hG
  · have hf := z_f c19 hf
    refine lv_lload_n hx hb dX7_choose_22 rfl (lv_at hl 2 rfl) ?_
    refine lv_iload_n hx hb dX7_choose_23 rfl (lv_at hl 0 rfl) ?_
    refine lv_iload_n hx hb dX7_choose_24 rfl (lv_at hl 1 rfl) ?_
    refine lv_isub hx hb dX7_choose_25 ?_
    refine lv_iload hx hb dX7_choose_26 (lv_at hl 3 rfl) ?_
    refine lv_iadd hx hb dX7_choose_28 ?_
    refine lv_i2l (v := (((f0 - f1) + s4)).toInt64) hx hb dX7_choose_29 rfl ?_
    refine lv_lmul hx hb dX7_choose_30 ?_
    refine lv_iload hx hb dX7_choose_31 (lv_at hl 3 rfl) ?_
    refine lv_i2l (v := (s4).toInt64) hx hb dX7_choose_33 rfl ?_
    obtain ⟨hz, hf⟩ := z_c hf
    refine lv_ldiv hx hb dX7_choose_34 hz ?_
    refine z_topl hf (fun n35 hf => ?_)
    refine lv_lstore_n (lv' := [(2, .long n35), (0, .int f0), (1, .int f1), (4, .int s4)]) hx hb dX7_choose_35 rfl hl (Nat.le_of_ble_eq_true rfl) rfl (fun ls hl => ?_)
    refine z_iinc (fun v => [(4, .int v), (2, .long n35), (0, .int f0), (1, .int f1)]) hx hb hf dX7_choose_36 hl (k := 3) rfl (Nat.le_of_ble_eq_true rfl) (fun _ => rfl) (fun n36 ls hf hl => ?_)
    refine lv_goto (tgt := 16) hx hb dX7_choose_39 (by decide) ?_
    obtain ⟨rfl, rfl⟩ := z_p hf
    exact kk _ _ _ ⟨ls, rfl, lv_sub hl [2, 3, 1, 0] rfl⟩ hG
theorem wm_choose_l16 (Γ : zG) (l : Launch) (f0 : Int32) (f1 : Int32) : ∀ s : Int64 × Int32, mRg Γ l yX7_choose cX7_choose 5 (some .int) 0 0 (m_choose_l16 f0 f1 s.1 s.2) (fun m => im_choose_l16 Γ f0 f1 m s) (zLE (im_choose_l16 Γ f0 f1) (em_choose_l16 Γ f0 f1)) := fun s => wm_choose_l16_b Γ l f0 f1 s.1 s.2
set_option maxHeartbeats 4000000 in
theorem wm_choose (Γ : zG) (l : Launch) (a0 : Int32) (a1 : Int32) : mRg Γ l yX7_choose cX7_choose 5 (some .int) 0 0 (m_choose a0 a1) (zAt0 5 0 (lv_args 0 [.int a0, .int a1]) []) (zLi cX7_choose) := by
  intro p e R s m args below meth c Q A S H locs x S' g C hG hI hf kk
  obtain ⟨ls, rfl, hl⟩ := hI
  obtain ⟨⟨hx, hb, hml, hown, hts⟩, hr, hlk, hK, hR1, hR2⟩ := id C
  have C : zCx Γ p R s m args meth c cX7_choose 5 RX7 (some .int) 0 0 := C
  have hl : lv_has ls 5 [(0, .int a0), (1, .int a1)] := hl
  refine lv_iload_n hx hb dX7_choose_0 rfl (lv_at hl 1 rfl) ?_
  refine lv_if_lt (tgt := 9) hx hb dX7_choose_1 (by decide) (fun c1 => ?_) (fun c1 => ?_)
  · have hf := z_t c1 hf
    refine lv_iconst (v := zi 0) hx hb dX7_choose_9 rfl ?_
    obtain ⟨rfl, rfl⟩ := z_p hf
    exact kk _ _ _ ⟨_, _, rfl, dX7_choose_10⟩ hG
  · have hf := z_f c1 hf
    refine lv_iload_n hx hb dX7_choose_4 rfl (lv_at hl 1 rfl) ?_
    refine lv_iload_n hx hb dX7_choose_5 rfl (lv_at hl 0 rfl) ?_
    refine lv_icmp_le (tgt := 11) hx hb dX7_choose_6 (by decide) (fun c6 => ?_) (fun c6 => ?_)
    · have hf := z_t c6 hf
      refine lv_lconst (v := (1 : Int64)) hx hb dX7_choose_11 rfl ?_
      refine lv_lstore_n (lv' := [(2, .long (1 : Int64)), (0, .int a0), (1, .int a1)]) hx hb dX7_choose_12 rfl hl (Nat.le_of_ble_eq_true rfl) rfl (fun ls hl => ?_)
      refine lv_iconst (v := zi 1) hx hb dX7_choose_13 rfl ?_
      refine lv_istore (lv' := [(4, .int (zi 1)), (2, .long (1 : Int64)), (0, .int a0), (1, .int a1)]) hx hb dX7_choose_14 hl (Nat.le_of_ble_eq_true rfl) rfl (fun ls hl => ?_)
      obtain ⟨e16, S, hlp, hf⟩ := nB_some hf
      refine mRg.loop (wm_choose_l16 Γ l a0 a1) ((1 : Int64), (zi 1)) p e R s m args below meth c Q A _ _ _ _ _ _ C hG ⟨ls, rfl, lv_sub hl [2, 3, 1, 0] rfl⟩ hlp (fun H locs g hL hG => ?_)
      obtain ⟨ls, rfl, hl⟩ := hL
      have hl : lv_has ls 5 [(2, .long e16)] := hl
      refine lv_lload_n hx hb dX7_choose_42 rfl (lv_at hl 0 rfl) ?_
      refine lv_l2i (v := (e16).toInt32) hx hb dX7_choose_43 rfl ?_
      obtain ⟨rfl, rfl⟩ := z_p hf
      exact kk _ _ _ ⟨_, _, rfl, dX7_choose_44⟩ hG
    · have hf := z_f c6 hf
      refine lv_iconst (v := zi 0) hx hb dX7_choose_9 rfl ?_
      obtain ⟨rfl, rfl⟩ := z_p hf
      exact kk _ _ _ ⟨_, _, rfl, dX7_choose_10⟩ hG
theorem ctm_choose (Γ : zG) (l : Launch) (a0 : Int32) (a1 : Int32) : mCt Γ l yX7_choose (ws_ yX7_choose cX7_choose 5 (some .int)) 0 0 [.int a0, .int a1] (m_choose a0 a1) zoi := mCt.mki (by decide +kernel) (Nat.le_of_ble_eq_true rfl) (wm_choose Γ l a0 a1)
theorem ytm_choose : yX7_choose.cls = RX7 ∧ yX7_choose.cls ≠ "java/lang/invoke/MethodHandle" ∧ yX7_choose.cls ≠ "java/lang/invoke/VarHandle" ∧ (parseMethodDescriptor yX7_choose.desc).map (fun d => d.parameters.length) = some 2 := by decide +kernel
def im_oddsOf_l38 (Γ : zG) (f3 : Int32) (f4 : Int32) (m : MethodId) (s : Int32 × Int32) (g : JFrame) : Prop := zAt0 7 38 [(0, .ref (G_m Γ 0)), (3, .int f3), (4, .int f4), (5, .int s.1), (6, .int s.2)] [] m g
def em_oddsOf_l38 (Γ : zG) (f3 : Int32) (f4 : Int32) (m : MethodId) (e : Int32) (g : JFrame) : Prop := zAt0 7 75 [(0, .ref (G_m Γ 0)), (5, .int e)] [] m g
set_option maxHeartbeats 4000000 in
theorem wm_oddsOf_l38_b (Γ : zG) (l : Launch) (f3 : Int32) (f4 : Int32) (s5 : Int32) (s6 : Int32) : mRg Γ l yX7_oddsOf cX7_oddsOf 7 (some .int) 2 41 (m_oddsOf_l38 f3 f4 s5 s6) (zAt0 7 38 [(0, .ref (G_m Γ 0)), (3, .int f3), (4, .int f4), (5, .int s5), (6, .int s6)] []) (zLE (im_oddsOf_l38 Γ f3 f4) (em_oddsOf_l38 Γ f3 f4)) := by
  intro p e R s m args below meth c Q A S H locs x S' g C hG hI hf kk
  obtain ⟨ls, rfl, hl⟩ := hI
  obtain ⟨⟨hx, hb, hml, hown, hts⟩, hr, hlk, hK, hR1, hR2⟩ := id C
  have C : zCx Γ p R s m args meth c cX7_oddsOf 7 RX7 (some .int) 2 41 := C
  refine lv_iload hx hb dX7_oddsOf_38 (lv_at hl 4 rfl) ?_
  refine lv_iload hx hb dX7_oddsOf_40 (lv_at hl 2 rfl) ?_
  refine lv_icmp_gt (tgt := 75) hx hb dX7_oddsOf_42 (by decide) (fun c42 => ?_) (fun c42 => ?_)
  · have hf := z_t c42 hf
    obtain ⟨rfl, rfl⟩ := z_p hf
    exact kk _ _ _ ⟨ls, rfl, lv_sub hl [0, 3] rfl⟩ hG
  · have hf := z_f c42 hf
    refine lv_iload hx hb dX7_oddsOf_45 (lv_at hl 3 rfl) ?_
    refine lv_iload_n hx hb dX7_oddsOf_47 rfl (lv_at hl 1 rfl) ?_
    refine lv_iload hx hb dX7_oddsOf_48 (lv_at hl 4 rfl) ?_
    refine zm_csi (As := [.int f3, .int s6]) (rest := [.int s5]) C hG hf (ctm_choose Γ l f3 s6) (lw_S q1937 q1938 q107 q1939) ytm_choose rfl rfl (Nat.le_of_ble_eq_true rfl) (Nat.le_of_ble_eq_true rfl) hl.1 (Nat.le_of_ble_eq_true rfl) dX7_oddsOf_50 (fun v50 S H locs hG hf => ?_)
    refine lv_bipush (v := zi 20) hx hb dX7_oddsOf_53 (by decide +kernel) ?_
    refine lv_iload_n hx hb dX7_oddsOf_55 rfl (lv_at hl 1 rfl) ?_
    refine lv_isub hx hb dX7_oddsOf_56 ?_
    refine lv_iload hx hb dX7_oddsOf_57 (lv_at hl 2 rfl) ?_
    refine lv_iload hx hb dX7_oddsOf_59 (lv_at hl 4 rfl) ?_
    refine lv_isub hx hb dX7_oddsOf_61 ?_
    refine zm_csi (As := [.int ((zi 20) - f3), .int (f4 - s6)]) (rest := [.int v50, .int s5]) C hG hf (ctm_choose Γ l ((zi 20) - f3) (f4 - s6)) (lw_S q1937 q1938 q107 q1939) ytm_choose rfl rfl (Nat.le_of_ble_eq_true rfl) (Nat.le_of_ble_eq_true rfl) hl.1 (Nat.le_of_ble_eq_true rfl) dX7_oddsOf_62 (fun v62 S H locs hG hf => ?_)
    refine lv_imul hx hb dX7_oddsOf_65 ?_
    refine lv_iadd hx hb dX7_oddsOf_66 ?_
    refine z_top hf (fun n67 hf => ?_)
    refine lv_istore (lv' := [(5, .int n67), (0, .ref (G_m Γ 0)), (3, .int f3), (4, .int f4), (6, .int s6)]) hx hb dX7_oddsOf_67 hl (Nat.le_of_ble_eq_true rfl) rfl (fun ls hl => ?_)
    refine z_iinc (fun v => [(6, .int v), (5, .int n67), (0, .ref (G_m Γ 0)), (3, .int f3), (4, .int f4)]) hx hb hf dX7_oddsOf_69 hl (k := 4) rfl (Nat.le_of_ble_eq_true rfl) (fun _ => rfl) (fun n69 ls hf hl => ?_)
    refine lv_goto (tgt := 38) hx hb dX7_oddsOf_72 (by decide) ?_
    obtain ⟨rfl, rfl⟩ := z_p hf
    exact kk _ _ _ ⟨ls, rfl, lv_sub hl [2, 3, 4, 1, 0] rfl⟩ hG
theorem wm_oddsOf_l38 (Γ : zG) (l : Launch) (f3 : Int32) (f4 : Int32) : ∀ s : Int32 × Int32, mRg Γ l yX7_oddsOf cX7_oddsOf 7 (some .int) 2 41 (m_oddsOf_l38 f3 f4 s.1 s.2) (fun m => im_oddsOf_l38 Γ f3 f4 m s) (zLE (im_oddsOf_l38 Γ f3 f4) (em_oddsOf_l38 Γ f3 f4)) := fun s => wm_oddsOf_l38_b Γ l f3 f4 s.1 s.2
set_option maxHeartbeats 4000000 in
theorem wm_oddsOf (Γ : zG) (l : Launch) (a1 : Int32) (a2 : Int32) : mRg Γ l yX7_oddsOf cX7_oddsOf 7 (some .int) 2 41 (m_oddsOf a1 a2) (zAt0 7 0 (lv_args 0 [.ref (G_m Γ 0), .int a1, .int a2]) []) (zLi cX7_oddsOf) := by
  intro p e R s m args below meth c Q A S H locs x S' g C hG hI hf kk
  obtain ⟨ls, rfl, hl⟩ := hI
  obtain ⟨⟨hx, hb, hml, hown, hts⟩, hr, hlk, hK, hR1, hR2⟩ := id C
  have C : zCx Γ p R s m args meth c cX7_oddsOf 7 RX7 (some .int) 2 41 := C
  have hl : lv_has ls 7 [(0, .ref (G_m Γ 0)), (1, .int a1), (2, .int a2)] := hl
  refine lv_aload_n hx hb dX7_oddsOf_0 rfl (lv_at hl 0 rfl) ?_
  refine lv_iload_n hx hb dX7_oddsOf_1 rfl (lv_at hl 1 rfl) ?_
  refine zm_cvi (As := [.int a1]) (rest := []) C hG hf (ctm_pieces Γ l a1) (lw_V q1933 q1935 qs84 q107 q1936) ytm_pieces rfl rfl (Nat.le_of_ble_eq_true rfl) (Nat.le_of_ble_eq_true rfl) hl.1 (Nat.le_of_ble_eq_true rfl) dX7_oddsOf_2 (fun v2 S H locs hG hf => ?_)
  refine zm_csi (As := [.int v2]) (rest := []) C hG hf (ctm_ones Γ l v2) (lw_S q1858 q1859 q107 q1860) ytm_ones rfl rfl (Nat.le_of_ble_eq_true rfl) (Nat.le_of_ble_eq_true rfl) hl.1 (Nat.le_of_ble_eq_true rfl) dX7_oddsOf_5 (fun v5 S H locs hG hf => ?_)
  refine lv_istore_n (lv' := [(3, .int v5), (0, .ref (G_m Γ 0)), (1, .int a1), (2, .int a2)]) hx hb dX7_oddsOf_8 rfl hl (Nat.le_of_ble_eq_true rfl) rfl (fun ls hl => ?_)
  refine lv_aload_n hx hb dX7_oddsOf_9 rfl (lv_at hl 1 rfl) ?_
  refine lv_iload_n hx hb dX7_oddsOf_10 rfl (lv_at hl 3 rfl) ?_
  refine zm_cvi (As := [.int a2]) (rest := []) C hG hf (ctm_pieces Γ l a2) (lw_V q1933 q1935 qs84 q107 q1936) ytm_pieces rfl rfl (Nat.le_of_ble_eq_true rfl) (Nat.le_of_ble_eq_true rfl) hl.1 (Nat.le_of_ble_eq_true rfl) dX7_oddsOf_11 (fun v11 S H locs hG hf => ?_)
  refine zm_csi (As := [.int v11]) (rest := []) C hG hf (ctm_ones Γ l v11) (lw_S q1858 q1859 q107 q1860) ytm_ones rfl rfl (Nat.le_of_ble_eq_true rfl) (Nat.le_of_ble_eq_true rfl) hl.1 (Nat.le_of_ble_eq_true rfl) dX7_oddsOf_14 (fun v14 S H locs hG hf => ?_)
  refine lv_istore (lv' := [(4, .int v14), (3, .int v5), (0, .ref (G_m Γ 0)), (1, .int a1), (2, .int a2)]) hx hb dX7_oddsOf_17 hl (Nat.le_of_ble_eq_true rfl) rfl (fun ls hl => ?_)
  refine lv_iconst (v := zi 0) hx hb dX7_oddsOf_19 rfl ?_
  refine lv_istore (lv' := [(5, .int (zi 0)), (4, .int v14), (3, .int v5), (0, .ref (G_m Γ 0)), (1, .int a1), (2, .int a2)]) hx hb dX7_oddsOf_20 hl (Nat.le_of_ble_eq_true rfl) rfl (fun ls hl => ?_)
  refine lv_aload_n hx hb dX7_oddsOf_22 rfl (lv_at hl 3 rfl) ?_
  refine lv_iload_n hx hb dX7_oddsOf_23 rfl (lv_at hl 4 rfl) ?_
  refine zm_cvi (As := [.int a1]) (rest := []) C hG hf (ctm_pieces Γ l a1) (lw_V q1933 q1935 qs84 q107 q1936) ytm_pieces rfl rfl (Nat.le_of_ble_eq_true rfl) (Nat.le_of_ble_eq_true rfl) hl.1 (Nat.le_of_ble_eq_true rfl) dX7_oddsOf_24 (fun v24 S H locs hG hf => ?_)
  refine lv_aload_n hx hb dX7_oddsOf_27 rfl (lv_at hl 3 rfl) ?_
  refine lv_iload_n hx hb dX7_oddsOf_28 rfl (lv_at hl 5 rfl) ?_
  refine zm_cvi (As := [.int a2]) (rest := [.int v24]) C hG hf (ctm_pieces Γ l a2) (lw_V q1933 q1935 qs84 q107 q1936) ytm_pieces rfl rfl (Nat.le_of_ble_eq_true rfl) (Nat.le_of_ble_eq_true rfl) hl.1 (Nat.le_of_ble_eq_true rfl) dX7_oddsOf_29 (fun v29 S H locs hG hf => ?_)
  refine lv_iand hx hb dX7_oddsOf_32 ?_
  refine zm_csi (As := [.int (v24 &&& v29)]) (rest := []) C hG hf (ctm_ones Γ l (v24 &&& v29)) (lw_S q1858 q1859 q107 q1860) ytm_ones rfl rfl (Nat.le_of_ble_eq_true rfl) (Nat.le_of_ble_eq_true rfl) hl.1 (Nat.le_of_ble_eq_true rfl) dX7_oddsOf_33 (fun v33 S H locs hG hf => ?_)
  refine lv_istore (lv' := [(6, .int v33), (5, .int (zi 0)), (4, .int v14), (3, .int v5), (0, .ref (G_m Γ 0)), (1, .int a1), (2, .int a2)]) hx hb dX7_oddsOf_36 hl (Nat.le_of_ble_eq_true rfl) rfl (fun ls hl => ?_)
  obtain ⟨e38, S, hlp, hf⟩ := nB_some hf
  refine mRg.loop (wm_oddsOf_l38 Γ l v5 v14) ((zi 0), v33) p e R s m args below meth c Q A _ _ _ _ _ _ C hG ⟨ls, rfl, lv_sub hl [4, 3, 2, 1, 0] rfl⟩ hlp (fun H locs g hL hG => ?_)
  obtain ⟨ls, rfl, hl⟩ := hL
  have hl : lv_has ls 7 [(0, .ref (G_m Γ 0)), (5, .int e38)] := hl
  refine lv_iload hx hb dX7_oddsOf_75 (lv_at hl 1 rfl) ?_
  obtain ⟨rfl, rfl⟩ := z_p hf
  exact kk _ _ _ ⟨_, _, rfl, dX7_oddsOf_77⟩ hG
theorem ctm_oddsOf (Γ : zG) (l : Launch) (a1 : Int32) (a2 : Int32) : mCt Γ l yX7_oddsOf (ws_ yX7_oddsOf cX7_oddsOf 7 (some .int)) 2 41 [.ref (G_m Γ 0), .int a1, .int a2] (m_oddsOf a1 a2) zoi := mCt.mki (by decide +kernel) (Nat.le_of_ble_eq_true rfl) (wm_oddsOf Γ l a1 a2)
theorem ytm_oddsOf : yX7_oddsOf.cls = RX7 ∧ yX7_oddsOf.cls ≠ "java/lang/invoke/MethodHandle" ∧ yX7_oddsOf.cls ≠ "java/lang/invoke/VarHandle" ∧ (parseMethodDescriptor yX7_oddsOf.desc).map (fun d => d.parameters.length) = some 2 := by decide +kernel
set_option maxHeartbeats 4000000 in
theorem wm_odds (Γ : zG) (l : Launch) (a1 : Int32) (a2 : Int32) (a3 : Int32) : mRg Γ l yX7_odds cX7_odds 4 (some .int) 3 67 (m_odds a1 a2 a3) (zAt0 4 0 (lv_args 0 [.ref (G_m Γ 0), .int a1, .int a2, .int a3]) []) (zLi cX7_odds) := by
  intro p e R s m args below meth c Q A S H locs x S' g C hG hI hf kk
  obtain ⟨ls, rfl, hl⟩ := hI
  obtain ⟨⟨hx, hb, hml, hown, hts⟩, hr, hlk, hK, hR1, hR2⟩ := id C
  have C : zCx Γ p R s m args meth c cX7_odds 4 RX7 (some .int) 3 67 := C
  have hl : lv_has ls 4 [(0, .ref (G_m Γ 0)), (1, .int a1), (2, .int a2), (3, .int a3)] := hl
  refine lv_aload_n hx hb dX7_odds_0 rfl (lv_at hl 0 rfl) ?_
  refine lv_iload_n hx hb dX7_odds_1 rfl (lv_at hl 1 rfl) ?_
  refine zm_cvi (As := [.int a1]) (rest := []) C hG hf (ctm_isPage Γ l a1) (lw_V q1701 q1703 qs54 q107 q1704) ytm_isPage rfl rfl (Nat.le_of_ble_eq_true rfl) (Nat.le_of_ble_eq_true rfl) hl.1 (Nat.le_of_ble_eq_true rfl) dX7_odds_2 (fun v2 S H locs hG hf => ?_)
  refine lv_if_eq (tgt := 30) hx hb dX7_odds_5 (by decide) (fun c5 => ?_) (fun c5 => ?_)
  · have hf := z_t c5 hf
    refine lv_iconst (v := zi (-1)) hx hb dX7_odds_30 rfl ?_
    obtain ⟨rfl, rfl⟩ := z_p hf
    exact kk _ _ _ ⟨_, _, rfl, dX7_odds_31⟩ hG
  · have hf := z_f c5 hf
    refine lv_aload_n hx hb dX7_odds_8 rfl (lv_at hl 0 rfl) ?_
    refine lv_iload_n hx hb dX7_odds_9 rfl (lv_at hl 2 rfl) ?_
    refine zm_cvi (As := [.int a2]) (rest := []) C hG hf (ctm_isPage Γ l a2) (lw_V q1701 q1703 qs54 q107 q1704) ytm_isPage rfl rfl (Nat.le_of_ble_eq_true rfl) (Nat.le_of_ble_eq_true rfl) hl.1 (Nat.le_of_ble_eq_true rfl) dX7_odds_10 (fun v10 S H locs hG hf => ?_)
    refine lv_if_eq (tgt := 30) hx hb dX7_odds_13 (by decide) (fun c13 => ?_) (fun c13 => ?_)
    · have hf := z_t c13 hf
      refine lv_iconst (v := zi (-1)) hx hb dX7_odds_30 rfl ?_
      obtain ⟨rfl, rfl⟩ := z_p hf
      exact kk _ _ _ ⟨_, _, rfl, dX7_odds_31⟩ hG
    · have hf := z_f c13 hf
      refine lv_iload_n hx hb dX7_odds_16 rfl (lv_at hl 1 rfl) ?_
      refine lv_iload_n hx hb dX7_odds_17 rfl (lv_at hl 2 rfl) ?_
      refine lv_icmp_eq (tgt := 30) hx hb dX7_odds_18 (by decide) (fun c18 => ?_) (fun c18 => ?_)
      · have hf := z_t c18 hf
        refine lv_iconst (v := zi (-1)) hx hb dX7_odds_30 rfl ?_
        obtain ⟨rfl, rfl⟩ := z_p hf
        exact kk _ _ _ ⟨_, _, rfl, dX7_odds_31⟩ hG
      · have hf := z_f c18 hf
        refine lv_iload_n hx hb dX7_odds_21 rfl (lv_at hl 3 rfl) ?_
        refine lv_iconst (v := zi 0) hx hb dX7_odds_22 rfl ?_
        refine lv_iconst (v := zi 1) hx hb dX7_odds_23 rfl ?_
        refine zm_csi (As := [.int a3, .int (zi 0), .int (zi 1)]) (rest := []) C hG hf (ctm_isIn Γ l a3 (zi 0) (zi 1)) (lw_S q1612 q1613 q107 q1614) ytm_isIn rfl rfl (Nat.le_of_ble_eq_true rfl) (Nat.le_of_ble_eq_true rfl) hl.1 (Nat.le_of_ble_eq_true rfl) dX7_odds_24 (fun v24 S H locs hG hf => ?_)
        refine lv_if_ne (tgt := 32) hx hb dX7_odds_27 (by decide) (fun c27 => ?_) (fun c27 => ?_)
        · have hf := z_f c27 hf
          refine lv_iload_n hx hb dX7_odds_32 rfl (lv_at hl 3 rfl) ?_
          refine lv_if_ne (tgt := 45) hx hb dX7_odds_33 (by decide) (fun c33 => ?_) (fun c33 => ?_)
          · have hf := z_f c33 hf
            refine lv_bipush (v := zi 20) hx hb dX7_odds_45 (by decide +kernel) ?_
            refine lv_aload_n hx hb dX7_odds_47 rfl (lv_at hl 0 rfl) ?_
            refine lv_iload_n hx hb dX7_odds_48 rfl (lv_at hl 2 rfl) ?_
            refine zm_cvi (As := [.int a2]) (rest := [.int (zi 20)]) C hG hf (ctm_pieces Γ l a2) (lw_V q1933 q1935 qs84 q107 q1936) ytm_pieces rfl rfl (Nat.le_of_ble_eq_true rfl) (Nat.le_of_ble_eq_true rfl) hl.1 (Nat.le_of_ble_eq_true rfl) dX7_odds_49 (fun v49 S H locs hG hf => ?_)
            refine zm_csi (As := [.int v49]) (rest := [.int (zi 20)]) C hG hf (ctm_ones Γ l v49) (lw_S q1858 q1859 q107 q1860) ytm_ones rfl rfl (Nat.le_of_ble_eq_true rfl) (Nat.le_of_ble_eq_true rfl) hl.1 (Nat.le_of_ble_eq_true rfl) dX7_odds_52 (fun v52 S H locs hG hf => ?_)
            refine zm_csi (As := [.int (zi 20), .int v52]) (rest := []) C hG hf (ctm_choose Γ l (zi 20) v52) (lw_S q1937 q1938 q107 q1939) ytm_choose rfl rfl (Nat.le_of_ble_eq_true rfl) (Nat.le_of_ble_eq_true rfl) hl.1 (Nat.le_of_ble_eq_true rfl) dX7_odds_55 (fun v55 S H locs hG hf => ?_)
            obtain ⟨rfl, rfl⟩ := z_p hf
            exact kk _ _ _ ⟨_, _, rfl, dX7_odds_58⟩ hG
          · have hf := z_t c33 hf
            refine lv_aload_n hx hb dX7_odds_36 rfl (lv_at hl 0 rfl) ?_
            refine lv_iload_n hx hb dX7_odds_37 rfl (lv_at hl 1 rfl) ?_
            refine lv_iload_n hx hb dX7_odds_38 rfl (lv_at hl 2 rfl) ?_
            refine zm_cvi (As := [.int a1, .int a2]) (rest := []) C hG hf (ctm_oddsOf Γ l a1 a2) (lw_V q1929 q1931 qs83 q107 q1932) ytm_oddsOf rfl rfl (Nat.le_of_ble_eq_true rfl) (Nat.le_of_ble_eq_true rfl) hl.1 (Nat.le_of_ble_eq_true rfl) dX7_odds_39 (fun v39 S H locs hG hf => ?_)
            refine lv_goto (tgt := 58) hx hb dX7_odds_42 (by decide) ?_
            obtain ⟨rfl, rfl⟩ := z_p hf
            exact kk _ _ _ ⟨_, _, rfl, dX7_odds_58⟩ hG
        · have hf := z_t c27 hf
          refine lv_iconst (v := zi (-1)) hx hb dX7_odds_30 rfl ?_
          obtain ⟨rfl, rfl⟩ := z_p hf
          exact kk _ _ _ ⟨_, _, rfl, dX7_odds_31⟩ hG
theorem ctm_odds (Γ : zG) (l : Launch) (a1 : Int32) (a2 : Int32) (a3 : Int32) : mCt Γ l yX7_odds (ws_ yX7_odds cX7_odds 4 (some .int)) 3 67 [.ref (G_m Γ 0), .int a1, .int a2, .int a3] (m_odds a1 a2 a3) zoi := mCt.mki (by decide +kernel) (Nat.le_of_ble_eq_true rfl) (wm_odds Γ l a1 a2 a3)
theorem ytm_odds : yX7_odds.cls = RX7 ∧ yX7_odds.cls ≠ "java/lang/invoke/MethodHandle" ∧ yX7_odds.cls ≠ "java/lang/invoke/VarHandle" ∧ (parseMethodDescriptor yX7_odds.desc).map (fun d => d.parameters.length) = some 3 := by decide +kernel
set_option maxHeartbeats 4000000 in
theorem wm_isOneHand_j53 (Γ : zG) (l : Launch) (b1 : Int32) (b2 : Int32) (t0 : Int32) : mRg Γ l yX7_isOneHand cX7_isOneHand 5 (some .boolean) 3 67 (m_isOneHand_j53 b1 b2 t0) (zAt0 5 53 [(0, .ref (G_m Γ 0)), (1, .int b1), (2, .int b2)] [.int t0]) (zLz cX7_isOneHand) := by
  intro p e R s m args below meth c Q A S H locs x S' g C hG hI hf kk
  obtain ⟨ls, rfl, hl⟩ := hI
  obtain ⟨⟨hx, hb, hml, hown, hts⟩, hr, hlk, hK, hR1, hR2⟩ := id C
  have C : zCx Γ p R s m args meth c cX7_isOneHand 5 RX7 (some .boolean) 3 67 := C
  refine lv_istore (lv' := [(4, .int t0), (0, .ref (G_m Γ 0)), (1, .int b1), (2, .int b2)]) hx hb dX7_isOneHand_53 hl (Nat.le_of_ble_eq_true rfl) rfl (fun ls hl => ?_)
  refine lv_iload hx hb dX7_isOneHand_55 (lv_at hl 0 rfl) ?_
  refine lv_if_eq (tgt := 78) hx hb dX7_isOneHand_57 (by decide) (fun c57 => ?_) (fun c57 => ?_)
  · have hf := z_t c57 hf
    refine lv_iconst (v := zi 0) hx hb dX7_isOneHand_78 rfl ?_
    obtain ⟨rfl, rfl⟩ := z_p hf
    exact kk _ _ _ ⟨_, _, rfl, dX7_isOneHand_79, Or.inl rfl⟩ hG
  · have hf := z_f c57 hf
    refine lv_aload_n hx hb dX7_isOneHand_60 rfl (lv_at hl 1 rfl) ?_
    refine lv_iload_n hx hb dX7_isOneHand_61 rfl (lv_at hl 2 rfl) ?_
    refine zm_cvi (As := [.int b1]) (rest := []) C hG hf (ctm_pieces Γ l b1) (lw_V q1933 q1935 qs84 q107 q1936) ytm_pieces rfl rfl (Nat.le_of_ble_eq_true rfl) (Nat.le_of_ble_eq_true rfl) hl.1 (Nat.le_of_ble_eq_true rfl) dX7_isOneHand_62 (fun v62 S H locs hG hf => ?_)
    refine lv_aload_n hx hb dX7_isOneHand_65 rfl (lv_at hl 1 rfl) ?_
    refine lv_iload_n hx hb dX7_isOneHand_66 rfl (lv_at hl 3 rfl) ?_
    refine zm_cvi (As := [.int b2]) (rest := [.int v62]) C hG hf (ctm_pieces Γ l b2) (lw_V q1933 q1935 qs84 q107 q1936) ytm_pieces rfl rfl (Nat.le_of_ble_eq_true rfl) (Nat.le_of_ble_eq_true rfl) hl.1 (Nat.le_of_ble_eq_true rfl) dX7_isOneHand_67 (fun v67 S H locs hG hf => ?_)
    refine lv_iand hx hb dX7_isOneHand_70 ?_
    refine lv_if_eq (tgt := 78) hx hb dX7_isOneHand_71 (by decide) (fun c71 => ?_) (fun c71 => ?_)
    · have hf := z_t c71 hf
      refine lv_iconst (v := zi 0) hx hb dX7_isOneHand_78 rfl ?_
      obtain ⟨rfl, rfl⟩ := z_p hf
      exact kk _ _ _ ⟨_, _, rfl, dX7_isOneHand_79, Or.inl rfl⟩ hG
    · have hf := z_f c71 hf
      refine lv_iconst (v := zi 1) hx hb dX7_isOneHand_74 rfl ?_
      refine lv_goto (tgt := 79) hx hb dX7_isOneHand_75 (by decide) ?_
      obtain ⟨rfl, rfl⟩ := z_p hf
      exact kk _ _ _ ⟨_, _, rfl, dX7_isOneHand_79, Or.inr rfl⟩ hG
set_option maxHeartbeats 4000000 in
theorem wm_isOneHand_j52 (Γ : zG) (l : Launch) (b1 : Int32) (b2 : Int32) : mRg Γ l yX7_isOneHand cX7_isOneHand 5 (some .boolean) 3 67 (m_isOneHand_j52 b1 b2) (zAt0 5 52 [(0, .ref (G_m Γ 0)), (1, .int b1), (2, .int b2)] []) (zLz cX7_isOneHand) := by
  intro p e R s m args below meth c Q A S H locs x S' g C hG hI hf kk
  obtain ⟨ls, rfl, hl⟩ := hI
  obtain ⟨⟨hx, hb, hml, hown, hts⟩, hr, hlk, hK, hR1, hR2⟩ := id C
  have C : zCx Γ p R s m args meth c cX7_isOneHand 5 RX7 (some .boolean) 3 67 := C
  refine lv_iconst (v := zi 0) hx hb dX7_isOneHand_52 rfl ?_
  exact wm_isOneHand_j53 Γ l b1 b2 (zi 0) p e R s m args below meth c Q A _ _ _ _ _ _ C hG ⟨ls, rfl, lv_sub hl [0, 1, 2] rfl⟩ hf kk
set_option maxHeartbeats 4000000 in
theorem wm_isOneHand (Γ : zG) (l : Launch) (a1 : Int32) (a2 : Int32) (a3 : Int32) : mRg Γ l yX7_isOneHand cX7_isOneHand 5 (some .boolean) 3 67 (m_isOneHand a1 a2 a3) (zAt0 5 0 (lv_args 0 [.ref (G_m Γ 0), .int a1, .int a2, .int a3]) []) (zLz cX7_isOneHand) := by
  intro p e R s m args below meth c Q A S H locs x S' g C hG hI hf kk
  obtain ⟨ls, rfl, hl⟩ := hI
  obtain ⟨⟨hx, hb, hml, hown, hts⟩, hr, hlk, hK, hR1, hR2⟩ := id C
  have C : zCx Γ p R s m args meth c cX7_isOneHand 5 RX7 (some .boolean) 3 67 := C
  have hl : lv_has ls 5 [(0, .ref (G_m Γ 0)), (1, .int a1), (2, .int a2), (3, .int a3)] := hl
  refine lv_aload_n hx hb dX7_isOneHand_0 rfl (lv_at hl 0 rfl) ?_
  refine lv_iload_n hx hb dX7_isOneHand_1 rfl (lv_at hl 1 rfl) ?_
  refine lv_iload_n hx hb dX7_isOneHand_2 rfl (lv_at hl 2 rfl) ?_
  refine zm_cvi (As := [.int a1, .int a2]) (rest := []) C hG hf (ctm_oddsOf Γ l a1 a2) (lw_V q1929 q1931 qs83 q107 q1932) ytm_oddsOf rfl rfl (Nat.le_of_ble_eq_true rfl) (Nat.le_of_ble_eq_true rfl) hl.1 (Nat.le_of_ble_eq_true rfl) dX7_isOneHand_3 (fun v3 S H locs hG hf => ?_)
  refine lv_iload_n hx hb dX7_isOneHand_6 rfl (lv_at hl 3 rfl) ?_
  refine lv_imul hx hb dX7_isOneHand_7 ?_
  refine lv_bipush (v := zi 20) hx hb dX7_isOneHand_8 (by decide +kernel) ?_
  refine lv_aload_n hx hb dX7_isOneHand_10 rfl (lv_at hl 0 rfl) ?_
  refine lv_iload_n hx hb dX7_isOneHand_11 rfl (lv_at hl 2 rfl) ?_
  refine zm_cvi (As := [.int a2]) (rest := [.int (zi 20), .int (v3 * a3)]) C hG hf (ctm_pieces Γ l a2) (lw_V q1933 q1935 qs84 q107 q1936) ytm_pieces rfl rfl (Nat.le_of_ble_eq_true rfl) (Nat.le_of_ble_eq_true rfl) hl.1 (Nat.le_of_ble_eq_true rfl) dX7_isOneHand_12 (fun v12 S H locs hG hf => ?_)
  refine zm_csi (As := [.int v12]) (rest := [.int (zi 20), .int (v3 * a3)]) C hG hf (ctm_ones Γ l v12) (lw_S q1858 q1859 q107 q1860) ytm_ones rfl rfl (Nat.le_of_ble_eq_true rfl) (Nat.le_of_ble_eq_true rfl) hl.1 (Nat.le_of_ble_eq_true rfl) dX7_isOneHand_15 (fun v15 S H locs hG hf => ?_)
  refine zm_csi (As := [.int (zi 20), .int v15]) (rest := [.int (v3 * a3)]) C hG hf (ctm_choose Γ l (zi 20) v15) (lw_S q1937 q1938 q107 q1939) ytm_choose rfl rfl (Nat.le_of_ble_eq_true rfl) (Nat.le_of_ble_eq_true rfl) hl.1 (Nat.le_of_ble_eq_true rfl) dX7_isOneHand_18 (fun v18 S H locs hG hf => ?_)
  refine lv_icmp_gt (tgt := 52) hx hb dX7_isOneHand_21 (by decide) (fun c21 => ?_) (fun c21 => ?_)
  · have hf := z_t c21 hf
    exact wm_isOneHand_j52 Γ l a1 a2 p e R s m args below meth c Q A _ _ _ _ _ _ C hG ⟨ls, rfl, lv_sub hl [0, 1, 2] rfl⟩ hf kk
  · have hf := z_f c21 hf
    refine lv_aload_n hx hb dX7_isOneHand_24 rfl (lv_at hl 0 rfl) ?_
    refine lv_iload_n hx hb dX7_isOneHand_25 rfl (lv_at hl 2 rfl) ?_
    refine lv_iload_n hx hb dX7_isOneHand_26 rfl (lv_at hl 1 rfl) ?_
    refine zm_cvi (As := [.int a2, .int a1]) (rest := []) C hG hf (ctm_oddsOf Γ l a2 a1) (lw_V q1929 q1931 qs83 q107 q1932) ytm_oddsOf rfl rfl (Nat.le_of_ble_eq_true rfl) (Nat.le_of_ble_eq_true rfl) hl.1 (Nat.le_of_ble_eq_true rfl) dX7_isOneHand_27 (fun v27 S H locs hG hf => ?_)
    refine lv_iload_n hx hb dX7_isOneHand_30 rfl (lv_at hl 3 rfl) ?_
    refine lv_imul hx hb dX7_isOneHand_31 ?_
    refine lv_bipush (v := zi 20) hx hb dX7_isOneHand_32 (by decide +kernel) ?_
    refine lv_aload_n hx hb dX7_isOneHand_34 rfl (lv_at hl 0 rfl) ?_
    refine lv_iload_n hx hb dX7_isOneHand_35 rfl (lv_at hl 1 rfl) ?_
    refine zm_cvi (As := [.int a1]) (rest := [.int (zi 20), .int (v27 * a3)]) C hG hf (ctm_pieces Γ l a1) (lw_V q1933 q1935 qs84 q107 q1936) ytm_pieces rfl rfl (Nat.le_of_ble_eq_true rfl) (Nat.le_of_ble_eq_true rfl) hl.1 (Nat.le_of_ble_eq_true rfl) dX7_isOneHand_36 (fun v36 S H locs hG hf => ?_)
    refine zm_csi (As := [.int v36]) (rest := [.int (zi 20), .int (v27 * a3)]) C hG hf (ctm_ones Γ l v36) (lw_S q1858 q1859 q107 q1860) ytm_ones rfl rfl (Nat.le_of_ble_eq_true rfl) (Nat.le_of_ble_eq_true rfl) hl.1 (Nat.le_of_ble_eq_true rfl) dX7_isOneHand_39 (fun v39 S H locs hG hf => ?_)
    refine zm_csi (As := [.int (zi 20), .int v39]) (rest := [.int (v27 * a3)]) C hG hf (ctm_choose Γ l (zi 20) v39) (lw_S q1937 q1938 q107 q1939) ytm_choose rfl rfl (Nat.le_of_ble_eq_true rfl) (Nat.le_of_ble_eq_true rfl) hl.1 (Nat.le_of_ble_eq_true rfl) dX7_isOneHand_42 (fun v42 S H locs hG hf => ?_)
    refine lv_icmp_gt (tgt := 52) hx hb dX7_isOneHand_45 (by decide) (fun c45 => ?_) (fun c45 => ?_)
    · have hf := z_t c45 hf
      exact wm_isOneHand_j52 Γ l a1 a2 p e R s m args below meth c Q A _ _ _ _ _ _ C hG ⟨ls, rfl, lv_sub hl [0, 1, 2] rfl⟩ hf kk
    · have hf := z_f c45 hf
      refine lv_iconst (v := zi 1) hx hb dX7_isOneHand_48 rfl ?_
      refine lv_goto (tgt := 53) hx hb dX7_isOneHand_49 (by decide) ?_
      exact wm_isOneHand_j53 Γ l a1 a2 (zi 1) p e R s m args below meth c Q A _ _ _ _ _ _ C hG ⟨ls, rfl, lv_sub hl [0, 1, 2] rfl⟩ hf kk
theorem ctm_isOneHand (Γ : zG) (l : Launch) (a1 : Int32) (a2 : Int32) (a3 : Int32) : mCt Γ l yX7_isOneHand (ws_ yX7_isOneHand cX7_isOneHand 5 (some .boolean)) 3 67 [.ref (G_m Γ 0), .int a1, .int a2, .int a3] (m_isOneHand a1 a2 a3) zoi := mCt.mkz (by decide +kernel) (Nat.le_of_ble_eq_true rfl) (wm_isOneHand Γ l a1 a2 a3)
theorem ytm_isOneHand : yX7_isOneHand.cls = RX7 ∧ yX7_isOneHand.cls ≠ "java/lang/invoke/MethodHandle" ∧ yX7_isOneHand.cls ≠ "java/lang/invoke/VarHandle" ∧ (parseMethodDescriptor yX7_isOneHand.desc).map (fun d => d.parameters.length) = some 3 := by decide +kernel
def im_ring_l28 (Γ : zG) (f2 : Int32) (m : MethodId) (s : Int32 × Int32) (g : JFrame) : Prop := zAt0 7 28 [(0, .ref (G_m Γ 0)), (2, .int f2), (3, .int s.1), (4, .int s.2)] [] m g
def em_ring_l28 (Γ : zG) (f2 : Int32) (m : MethodId) (e : Int32) (g : JFrame) : Prop := zAt0 7 117 [(0, .ref (G_m Γ 0)), (3, .int e)] [] m g
def im_ring_l40 (Γ : zG) (f2 : Int32) (f4 : Int32) (m : MethodId) (s : Int32 × Int32) (g : JFrame) : Prop := zAt0 7 40 [(0, .ref (G_m Γ 0)), (2, .int f2), (3, .int s.1), (4, .int f4), (5, .int s.2)] [] m g
def em_ring_l40 (Γ : zG) (f2 : Int32) (f4 : Int32) (m : MethodId) (e : Int32) (g : JFrame) : Prop := zAt0 7 114 [(0, .ref (G_m Γ 0)), (2, .int f2), (3, .int e), (4, .int f4)] [] m g
def im_ring_l54 (Γ : zG) (f2 : Int32) (f4 : Int32) (f5 : Int32) (m : MethodId) (s : Int32 × Int32) (g : JFrame) : Prop := zAt0 7 54 [(0, .ref (G_m Γ 0)), (2, .int f2), (3, .int s.1), (4, .int f4), (5, .int f5), (6, .int s.2)] [] m g
def em_ring_l54 (Γ : zG) (f2 : Int32) (f4 : Int32) (f5 : Int32) (m : MethodId) (e : Int32) (g : JFrame) : Prop := zAt0 7 108 [(0, .ref (G_m Γ 0)), (2, .int f2), (3, .int e), (4, .int f4), (5, .int f5)] [] m g
set_option maxHeartbeats 4000000 in
theorem wm_ring_l54_b (Γ : zG) (l : Launch) (f2 : Int32) (f4 : Int32) (f5 : Int32) (s3 : Int32) (s6 : Int32) : mRg Γ l yX7_ring cX7_ring 7 (some .int) 4 91 (m_ring_l54 f2 f4 f5 s3 s6) (zAt0 7 54 [(0, .ref (G_m Γ 0)), (2, .int f2), (3, .int s3), (4, .int f4), (5, .int f5), (6, .int s6)] []) (zLE (im_ring_l54 Γ f2 f4 f5) (em_ring_l54 Γ f2 f4 f5)) := by
  intro p e R s m args below meth c Q A S H locs x S' g C hG hI hf kk
  obtain ⟨ls, rfl, hl⟩ := hI
  obtain ⟨⟨hx, hb, hml, hown, hts⟩, hr, hlk, hK, hR1, hR2⟩ := id C
  have C : zCx Γ p R s m args meth c cX7_ring 7 RX7 (some .int) 4 91 := C
  refine lv_iload hx hb dX7_ring_54 (lv_at hl 5 rfl) ?_
  refine lv_aload_n hx hb dX7_ring_56 rfl (lv_at hl 0 rfl) ?_
  refine zm_ga C hG 0 (Nat.le_of_ble_eq_true rfl) (by decide) q1443 dX7_ring_57 ?_
  refine lv_iconst (v := zi 1) hx hb dX7_ring_60 rfl ?_
  refine zm_al C hG 0 hf (Nat.le_of_ble_eq_true rfl) rfl dX7_ring_61 (fun v61 hf => ?_)
  refine lv_icmp_ge (tgt := 108) hx hb dX7_ring_62 (by decide) (fun c62 => ?_) (fun c62 => ?_)
  · have hf := z_t c62 hf
    obtain ⟨rfl, rfl⟩ := z_p hf
    exact kk _ _ _ ⟨ls, rfl, lv_sub hl [0, 1, 2, 3, 4] rfl⟩ hG
  · have hf := z_f c62 hf
    refine lv_iload hx hb dX7_ring_65 (lv_at hl 3 rfl) ?_
    refine lv_iload hx hb dX7_ring_67 (lv_at hl 4 rfl) ?_
    refine lv_ishr hx hb dX7_ring_69 ?_
    refine lv_iconst (v := zi 1) hx hb dX7_ring_70 rfl ?_
    refine lv_iand hx hb dX7_ring_71 ?_
    refine lv_iconst (v := zi 1) hx hb dX7_ring_72 rfl ?_
    refine lv_icmp_ne (tgt := 102) hx hb dX7_ring_73 (by decide) (fun c73 => ?_) (fun c73 => ?_)
    · have hf := z_f c73 hf
      refine z_iinc (fun v => [(6, .int v), (0, .ref (G_m Γ 0)), (2, .int f2), (3, .int s3), (4, .int f4), (5, .int f5)]) hx hb hf dX7_ring_102 hl (k := 5) rfl (Nat.le_of_ble_eq_true rfl) (fun _ => rfl) (fun n102 ls hf hl => ?_)
      refine lv_goto (tgt := 54) hx hb dX7_ring_105 (by decide) ?_
      obtain ⟨rfl, rfl⟩ := z_p hf
      exact kk _ _ _ ⟨ls, rfl, lv_sub hl [1, 2, 3, 4, 5, 0] rfl⟩ hG
    · have hf := z_t c73 hf
      refine lv_iload hx hb dX7_ring_76 (lv_at hl 4 rfl) ?_
      refine lv_iload hx hb dX7_ring_78 (lv_at hl 5 rfl) ?_
      refine lv_icmp_eq (tgt := 102) hx hb dX7_ring_80 (by decide) (fun c80 => ?_) (fun c80 => ?_)
      · have hf := z_t c80 hf
        refine z_iinc (fun v => [(6, .int v), (0, .ref (G_m Γ 0)), (2, .int f2), (3, .int s3), (4, .int f4), (5, .int f5)]) hx hb hf dX7_ring_102 hl (k := 5) rfl (Nat.le_of_ble_eq_true rfl) (fun _ => rfl) (fun n102 ls hf hl => ?_)
        refine lv_goto (tgt := 54) hx hb dX7_ring_105 (by decide) ?_
        obtain ⟨rfl, rfl⟩ := z_p hf
        exact kk _ _ _ ⟨ls, rfl, lv_sub hl [1, 2, 3, 4, 5, 0] rfl⟩ hG
      · have hf := z_f c80 hf
        refine lv_aload_n hx hb dX7_ring_83 rfl (lv_at hl 0 rfl) ?_
        refine lv_iload hx hb dX7_ring_84 (lv_at hl 4 rfl) ?_
        refine lv_iload hx hb dX7_ring_86 (lv_at hl 5 rfl) ?_
        refine lv_iload_n hx hb dX7_ring_88 rfl (lv_at hl 1 rfl) ?_
        refine zm_cvi (As := [.int f5, .int s6, .int f2]) (rest := []) C hG hf (ctm_isOneHand Γ l f5 s6 f2) (lw_V q1944 q1946 qs85 q107 q1947) ytm_isOneHand rfl rfl (Nat.le_of_ble_eq_true rfl) (Nat.le_of_ble_eq_true rfl) hl.1 (Nat.le_of_ble_eq_true rfl) dX7_ring_89 (fun v89 S H locs hG hf => ?_)
        refine lv_if_eq (tgt := 102) hx hb dX7_ring_92 (by decide) (fun c92 => ?_) (fun c92 => ?_)
        · have hf := z_t c92 hf
          refine z_iinc (fun v => [(6, .int v), (0, .ref (G_m Γ 0)), (2, .int f2), (3, .int s3), (4, .int f4), (5, .int f5)]) hx hb hf dX7_ring_102 hl (k := 5) rfl (Nat.le_of_ble_eq_true rfl) (fun _ => rfl) (fun n102 ls hf hl => ?_)
          refine lv_goto (tgt := 54) hx hb dX7_ring_105 (by decide) ?_
          obtain ⟨rfl, rfl⟩ := z_p hf
          exact kk _ _ _ ⟨ls, rfl, lv_sub hl [1, 2, 3, 4, 5, 0] rfl⟩ hG
        · have hf := z_f c92 hf
          refine lv_iload_n hx hb dX7_ring_95 rfl (lv_at hl 2 rfl) ?_
          refine lv_iconst (v := zi 1) hx hb dX7_ring_96 rfl ?_
          refine lv_iload hx hb dX7_ring_97 (lv_at hl 5 rfl) ?_
          refine lv_ishl hx hb dX7_ring_99 ?_
          refine lv_ior hx hb dX7_ring_100 ?_
          refine z_top hf (fun n101 hf => ?_)
          refine lv_istore_n (lv' := [(3, .int n101), (0, .ref (G_m Γ 0)), (2, .int f2), (4, .int f4), (5, .int f5), (6, .int s6)]) hx hb dX7_ring_101 rfl hl (Nat.le_of_ble_eq_true rfl) rfl (fun ls hl => ?_)
          refine z_iinc (fun v => [(6, .int v), (3, .int n101), (0, .ref (G_m Γ 0)), (2, .int f2), (4, .int f4), (5, .int f5)]) hx hb hf dX7_ring_102 hl (k := 5) rfl (Nat.le_of_ble_eq_true rfl) (fun _ => rfl) (fun n102 ls hf hl => ?_)
          refine lv_goto (tgt := 54) hx hb dX7_ring_105 (by decide) ?_
          obtain ⟨rfl, rfl⟩ := z_p hf
          exact kk _ _ _ ⟨ls, rfl, lv_sub hl [2, 3, 1, 4, 5, 0] rfl⟩ hG
theorem wm_ring_l54 (Γ : zG) (l : Launch) (f2 : Int32) (f4 : Int32) (f5 : Int32) : ∀ s : Int32 × Int32, mRg Γ l yX7_ring cX7_ring 7 (some .int) 4 91 (m_ring_l54 f2 f4 f5 s.1 s.2) (fun m => im_ring_l54 Γ f2 f4 f5 m s) (zLE (im_ring_l54 Γ f2 f4 f5) (em_ring_l54 Γ f2 f4 f5)) := fun s => wm_ring_l54_b Γ l f2 f4 f5 s.1 s.2
set_option maxHeartbeats 4000000 in
theorem wm_ring_l40_b (Γ : zG) (l : Launch) (f2 : Int32) (f4 : Int32) (s3 : Int32) (s5 : Int32) : mRg Γ l yX7_ring cX7_ring 7 (some .int) 4 91 (m_ring_l40 f2 f4 s3 s5) (zAt0 7 40 [(0, .ref (G_m Γ 0)), (2, .int f2), (3, .int s3), (4, .int f4), (5, .int s5)] []) (zLE (im_ring_l40 Γ f2 f4) (em_ring_l40 Γ f2 f4)) := by
  intro p e R s m args below meth c Q A S H locs x S' g C hG hI hf kk
  obtain ⟨ls, rfl, hl⟩ := hI
  obtain ⟨⟨hx, hb, hml, hown, hts⟩, hr, hlk, hK, hR1, hR2⟩ := id C
  have C : zCx Γ p R s m args meth c cX7_ring 7 RX7 (some .int) 4 91 := C
  refine lv_iload hx hb dX7_ring_40 (lv_at hl 4 rfl) ?_
  refine lv_aload_n hx hb dX7_ring_42 rfl (lv_at hl 0 rfl) ?_
  refine zm_ga C hG 0 (Nat.le_of_ble_eq_true rfl) (by decide) q1443 dX7_ring_43 ?_
  refine lv_iconst (v := zi 1) hx hb dX7_ring_46 rfl ?_
  refine zm_al C hG 0 hf (Nat.le_of_ble_eq_true rfl) rfl dX7_ring_47 (fun v47 hf => ?_)
  refine lv_icmp_ge (tgt := 114) hx hb dX7_ring_48 (by decide) (fun c48 => ?_) (fun c48 => ?_)
  · have hf := z_t c48 hf
    obtain ⟨rfl, rfl⟩ := z_p hf
    exact kk _ _ _ ⟨ls, rfl, lv_sub hl [0, 1, 2, 3] rfl⟩ hG
  · have hf := z_f c48 hf
    refine lv_iconst (v := zi 0) hx hb dX7_ring_51 rfl ?_
    refine lv_istore (lv' := [(6, .int (zi 0)), (0, .ref (G_m Γ 0)), (2, .int f2), (3, .int s3), (4, .int f4), (5, .int s5)]) hx hb dX7_ring_52 hl (Nat.le_of_ble_eq_true rfl) rfl (fun ls hl => ?_)
    obtain ⟨e54, S, hlp, hf⟩ := nB_some hf
    refine mRg.loop (wm_ring_l54 Γ l f2 f4 s5) (s3, (zi 0)) p e R s m args below meth c Q A _ _ _ _ _ _ C hG ⟨ls, rfl, lv_sub hl [1, 2, 3, 4, 5, 0] rfl⟩ hlp (fun H locs g hL hG => ?_)
    obtain ⟨ls, rfl, hl⟩ := hL
    have hl : lv_has ls 7 [(0, .ref (G_m Γ 0)), (2, .int f2), (3, .int e54), (4, .int f4), (5, .int s5)] := hl
    refine z_iinc (fun v => [(5, .int v), (0, .ref (G_m Γ 0)), (2, .int f2), (3, .int e54), (4, .int f4)]) hx hb hf dX7_ring_108 hl (k := 4) rfl (Nat.le_of_ble_eq_true rfl) (fun _ => rfl) (fun n108 ls hf hl => ?_)
    refine lv_goto (tgt := 40) hx hb dX7_ring_111 (by decide) ?_
    obtain ⟨rfl, rfl⟩ := z_p hf
    exact kk _ _ _ ⟨ls, rfl, lv_sub hl [1, 2, 3, 4, 0] rfl⟩ hG
theorem wm_ring_l40 (Γ : zG) (l : Launch) (f2 : Int32) (f4 : Int32) : ∀ s : Int32 × Int32, mRg Γ l yX7_ring cX7_ring 7 (some .int) 4 91 (m_ring_l40 f2 f4 s.1 s.2) (fun m => im_ring_l40 Γ f2 f4 m s) (zLE (im_ring_l40 Γ f2 f4) (em_ring_l40 Γ f2 f4)) := fun s => wm_ring_l40_b Γ l f2 f4 s.1 s.2
set_option maxHeartbeats 4000000 in
theorem wm_ring_l28_b (Γ : zG) (l : Launch) (f2 : Int32) (s3 : Int32) (s4 : Int32) : mRg Γ l yX7_ring cX7_ring 7 (some .int) 4 91 (m_ring_l28 f2 s3 s4) (zAt0 7 28 [(0, .ref (G_m Γ 0)), (2, .int f2), (3, .int s3), (4, .int s4)] []) (zLE (im_ring_l28 Γ f2) (em_ring_l28 Γ f2)) := by
  intro p e R s m args below meth c Q A S H locs x S' g C hG hI hf kk
  obtain ⟨ls, rfl, hl⟩ := hI
  obtain ⟨⟨hx, hb, hml, hown, hts⟩, hr, hlk, hK, hR1, hR2⟩ := id C
  have C : zCx Γ p R s m args meth c cX7_ring 7 RX7 (some .int) 4 91 := C
  refine lv_iload_n hx hb dX7_ring_28 rfl (lv_at hl 2 rfl) ?_
  refine lv_iload hx hb dX7_ring_29 (lv_at hl 3 rfl) ?_
  refine lv_icmp_eq (tgt := 117) hx hb dX7_ring_31 (by decide) (fun c31 => ?_) (fun c31 => ?_)
  · have hf := z_t c31 hf
    obtain ⟨rfl, rfl⟩ := z_p hf
    exact kk _ _ _ ⟨ls, rfl, lv_sub hl [0, 2] rfl⟩ hG
  · have hf := z_f c31 hf
    refine lv_iload_n hx hb dX7_ring_34 rfl (lv_at hl 2 rfl) ?_
    refine lv_istore (lv' := [(4, .int s3), (0, .ref (G_m Γ 0)), (2, .int f2), (3, .int s3)]) hx hb dX7_ring_35 hl (Nat.le_of_ble_eq_true rfl) rfl (fun ls hl => ?_)
    refine lv_iconst (v := zi 0) hx hb dX7_ring_37 rfl ?_
    refine lv_istore (lv' := [(5, .int (zi 0)), (4, .int s3), (0, .ref (G_m Γ 0)), (2, .int f2), (3, .int s3)]) hx hb dX7_ring_38 hl (Nat.le_of_ble_eq_true rfl) rfl (fun ls hl => ?_)
    obtain ⟨e40, S, hlp, hf⟩ := nB_some hf
    refine mRg.loop (wm_ring_l40 Γ l f2 s3) (s3, (zi 0)) p e R s m args below meth c Q A _ _ _ _ _ _ C hG ⟨ls, rfl, lv_sub hl [2, 3, 4, 1, 0] rfl⟩ hlp (fun H locs g hL hG => ?_)
    obtain ⟨ls, rfl, hl⟩ := hL
    have hl : lv_has ls 7 [(0, .ref (G_m Γ 0)), (2, .int f2), (3, .int e40), (4, .int s3)] := hl
    refine lv_goto (tgt := 28) hx hb dX7_ring_114 (by decide) ?_
    obtain ⟨rfl, rfl⟩ := z_p hf
    exact kk _ _ _ ⟨ls, rfl, lv_sub hl [0, 1, 2, 3] rfl⟩ hG
theorem wm_ring_l28 (Γ : zG) (l : Launch) (f2 : Int32) : ∀ s : Int32 × Int32, mRg Γ l yX7_ring cX7_ring 7 (some .int) 4 91 (m_ring_l28 f2 s.1 s.2) (fun m => im_ring_l28 Γ f2 m s) (zLE (im_ring_l28 Γ f2) (em_ring_l28 Γ f2)) := fun s => wm_ring_l28_b Γ l f2 s.1 s.2
set_option maxHeartbeats 4000000 in
theorem wm_ring (Γ : zG) (l : Launch) (a1 : Int32) (a2 : Int32) : mRg Γ l yX7_ring cX7_ring 7 (some .int) 4 91 (m_ring a1 a2) (zAt0 7 0 (lv_args 0 [.ref (G_m Γ 0), .int a1, .int a2]) []) (zLi cX7_ring) := by
  intro p e R s m args below meth c Q A S H locs x S' g C hG hI hf kk
  obtain ⟨ls, rfl, hl⟩ := hI
  obtain ⟨⟨hx, hb, hml, hown, hts⟩, hr, hlk, hK, hR1, hR2⟩ := id C
  have C : zCx Γ p R s m args meth c cX7_ring 7 RX7 (some .int) 4 91 := C
  have hl : lv_has ls 7 [(0, .ref (G_m Γ 0)), (1, .int a1), (2, .int a2)] := hl
  refine lv_aload_n hx hb dX7_ring_0 rfl (lv_at hl 0 rfl) ?_
  refine lv_iload_n hx hb dX7_ring_1 rfl (lv_at hl 1 rfl) ?_
  refine zm_cvi (As := [.int a1]) (rest := []) C hG hf (ctm_isPage Γ l a1) (lw_V q1701 q1703 qs54 q107 q1704) ytm_isPage rfl rfl (Nat.le_of_ble_eq_true rfl) (Nat.le_of_ble_eq_true rfl) hl.1 (Nat.le_of_ble_eq_true rfl) dX7_ring_2 (fun v2 S H locs hG hf => ?_)
  refine lv_if_eq (tgt := 19) hx hb dX7_ring_5 (by decide) (fun c5 => ?_) (fun c5 => ?_)
  · have hf := z_t c5 hf
    refine lv_iconst (v := zi (-1)) hx hb dX7_ring_19 rfl ?_
    obtain ⟨rfl, rfl⟩ := z_p hf
    exact kk _ _ _ ⟨_, _, rfl, dX7_ring_20⟩ hG
  · have hf := z_f c5 hf
    refine lv_iload_n hx hb dX7_ring_8 rfl (lv_at hl 2 rfl) ?_
    refine lv_iconst (v := zi 1) hx hb dX7_ring_9 rfl ?_
    refine lv_sipush (v := zi 9999) hx hb dX7_ring_10 (by decide +kernel) ?_
    refine zm_csi (As := [.int a2, .int (zi 1), .int (zi 9999)]) (rest := []) C hG hf (ctm_isIn Γ l a2 (zi 1) (zi 9999)) (lw_S q1612 q1613 q107 q1614) ytm_isIn rfl rfl (Nat.le_of_ble_eq_true rfl) (Nat.le_of_ble_eq_true rfl) hl.1 (Nat.le_of_ble_eq_true rfl) dX7_ring_13 (fun v13 S H locs hG hf => ?_)
    refine lv_if_ne (tgt := 21) hx hb dX7_ring_16 (by decide) (fun c16 => ?_) (fun c16 => ?_)
    · have hf := z_f c16 hf
      refine lv_iconst (v := zi 1) hx hb dX7_ring_21 rfl ?_
      refine lv_iload_n hx hb dX7_ring_22 rfl (lv_at hl 1 rfl) ?_
      refine lv_ishl hx hb dX7_ring_23 ?_
      refine z_top hf (fun n24 hf => ?_)
      refine lv_istore_n (lv' := [(3, .int n24), (0, .ref (G_m Γ 0)), (1, .int a1), (2, .int a2)]) hx hb dX7_ring_24 rfl hl (Nat.le_of_ble_eq_true rfl) rfl (fun ls hl => ?_)
      refine lv_iconst (v := zi 0) hx hb dX7_ring_25 rfl ?_
      refine lv_istore (lv' := [(4, .int (zi 0)), (3, .int n24), (0, .ref (G_m Γ 0)), (1, .int a1), (2, .int a2)]) hx hb dX7_ring_26 hl (Nat.le_of_ble_eq_true rfl) rfl (fun ls hl => ?_)
      obtain ⟨e28, S, hlp, hf⟩ := nB_some hf
      refine mRg.loop (wm_ring_l28 Γ l a2) (n24, (zi 0)) p e R s m args below meth c Q A _ _ _ _ _ _ C hG ⟨ls, rfl, lv_sub hl [2, 4, 1, 0] rfl⟩ hlp (fun H locs g hL hG => ?_)
      obtain ⟨ls, rfl, hl⟩ := hL
      have hl : lv_has ls 7 [(0, .ref (G_m Γ 0)), (3, .int e28)] := hl
      refine lv_iload_n hx hb dX7_ring_117 rfl (lv_at hl 1 rfl) ?_
      obtain ⟨rfl, rfl⟩ := z_p hf
      exact kk _ _ _ ⟨_, _, rfl, dX7_ring_118⟩ hG
    · have hf := z_t c16 hf
      refine lv_iconst (v := zi (-1)) hx hb dX7_ring_19 rfl ?_
      obtain ⟨rfl, rfl⟩ := z_p hf
      exact kk _ _ _ ⟨_, _, rfl, dX7_ring_20⟩ hG
theorem ctm_ring (Γ : zG) (l : Launch) (a1 : Int32) (a2 : Int32) : mCt Γ l yX7_ring (ws_ yX7_ring cX7_ring 7 (some .int)) 4 91 [.ref (G_m Γ 0), .int a1, .int a2] (m_ring a1 a2) zoi := mCt.mki (by decide +kernel) (Nat.le_of_ble_eq_true rfl) (wm_ring Γ l a1 a2)
theorem ytm_ring : yX7_ring.cls = RX7 ∧ yX7_ring.cls ≠ "java/lang/invoke/MethodHandle" ∧ yX7_ring.cls ≠ "java/lang/invoke/VarHandle" ∧ (parseMethodDescriptor yX7_ring.desc).map (fun d => d.parameters.length) = some 2 := by decide +kernel
def im_sketchOf_l12 (Γ : zG) (f2 : Int32) (f4 : Int32) (m : MethodId) (s : Int32 × Int32) (g : JFrame) : Prop := zAt0 6 12 [(0, .ref (G_m Γ 0)), (2, .int f2), (3, .int s.1), (4, .int f4), (5, .int s.2)] [] m g
def em_sketchOf_l12 (Γ : zG) (f2 : Int32) (f4 : Int32) (m : MethodId) (e : Int32) (g : JFrame) : Prop := zAt0 6 72 [(0, .ref (G_m Γ 0)), (2, .int f2), (3, .int e)] [] m g
set_option maxHeartbeats 4000000 in
theorem wm_sketchOf_l12_b (Γ : zG) (l : Launch) (f2 : Int32) (f4 : Int32) (s3 : Int32) (s5 : Int32) : mRg Γ l yX7_sketchOf cX7_sketchOf 6 (some .int) 2 40 (m_sketchOf_l12 f2 f4 s3 s5) (zAt0 6 12 [(0, .ref (G_m Γ 0)), (2, .int f2), (3, .int s3), (4, .int f4), (5, .int s5)] []) (zLE (im_sketchOf_l12 Γ f2 f4) (em_sketchOf_l12 Γ f2 f4)) := by
  intro p e R s m args below meth c Q A S H locs x S' g C hG hI hf kk
  obtain ⟨ls, rfl, hl⟩ := hI
  obtain ⟨⟨hx, hb, hml, hown, hts⟩, hr, hlk, hK, hR1, hR2⟩ := id C
  have C : zCx Γ p R s m args meth c cX7_sketchOf 6 RX7 (some .int) 2 40 := C
  refine lv_iload hx hb dX7_sketchOf_12 (lv_at hl 4 rfl) ?_
  refine lv_aload_n hx hb dX7_sketchOf_14 rfl (lv_at hl 0 rfl) ?_
  refine zm_ga C hG 0 (Nat.le_of_ble_eq_true rfl) (by decide) q1443 dX7_sketchOf_15 ?_
  refine lv_iload hx hb dX7_sketchOf_18 (lv_at hl 3 rfl) ?_
  refine zm_al C hG 0 hf (Nat.le_of_ble_eq_true rfl) rfl dX7_sketchOf_20 (fun v20 hf => ?_)
  refine lv_icmp_ge (tgt := 72) hx hb dX7_sketchOf_21 (by decide) (fun c21 => ?_) (fun c21 => ?_)
  · have hf := z_t c21 hf
    obtain ⟨rfl, rfl⟩ := z_p hf
    exact kk _ _ _ ⟨ls, rfl, lv_sub hl [0, 1, 2] rfl⟩ hG
  · have hf := z_f c21 hf
    refine lv_iload_n hx hb dX7_sketchOf_24 rfl (lv_at hl 2 rfl) ?_
    refine lv_bipush (v := zi 31) hx hb dX7_sketchOf_25 (by decide +kernel) ?_
    refine lv_imul hx hb dX7_sketchOf_27 ?_
    refine lv_bipush (v := zi 10) hx hb dX7_sketchOf_28 (by decide +kernel) ?_
    refine lv_aload_n hx hb dX7_sketchOf_30 rfl (lv_at hl 0 rfl) ?_
    refine zm_ga C hG 0 (Nat.le_of_ble_eq_true rfl) (by decide) q1443 dX7_sketchOf_31 ?_
    refine lv_iload hx hb dX7_sketchOf_34 (lv_at hl 3 rfl) ?_
    refine lv_iconst (v := zi 1) hx hb dX7_sketchOf_36 rfl ?_
    refine lv_iadd hx hb dX7_sketchOf_37 ?_
    refine lv_iconst (v := zi 5) hx hb dX7_sketchOf_38 rfl ?_
    refine lv_iload hx hb dX7_sketchOf_39 (lv_at hl 4 rfl) ?_
    refine lv_imul hx hb dX7_sketchOf_41 ?_
    refine lv_iadd hx hb dX7_sketchOf_42 ?_
    refine zm_al C hG 0 hf (Nat.le_of_ble_eq_true rfl) rfl dX7_sketchOf_43 (fun v43 hf => ?_)
    refine lv_imul hx hb dX7_sketchOf_44 ?_
    refine lv_iadd hx hb dX7_sketchOf_45 ?_
    refine lv_aload_n hx hb dX7_sketchOf_46 rfl (lv_at hl 0 rfl) ?_
    refine zm_ga C hG 0 (Nat.le_of_ble_eq_true rfl) (by decide) q1443 dX7_sketchOf_47 ?_
    refine lv_iload hx hb dX7_sketchOf_50 (lv_at hl 3 rfl) ?_
    refine lv_iconst (v := zi 2) hx hb dX7_sketchOf_52 rfl ?_
    refine lv_iadd hx hb dX7_sketchOf_53 ?_
    refine lv_iconst (v := zi 5) hx hb dX7_sketchOf_54 rfl ?_
    refine lv_iload hx hb dX7_sketchOf_55 (lv_at hl 4 rfl) ?_
    refine lv_imul hx hb dX7_sketchOf_57 ?_
    refine lv_iadd hx hb dX7_sketchOf_58 ?_
    refine zm_al C hG 0 hf (Nat.le_of_ble_eq_true rfl) rfl dX7_sketchOf_59 (fun v59 hf => ?_)
    refine lv_iadd hx hb dX7_sketchOf_60 ?_
    refine lv_ldcw (v := (65535 : Int32)) hx hb hown (hts _ q1956) dX7_sketchOf_61 ?_
    refine lv_iand hx hb dX7_sketchOf_64 ?_
    refine z_top hf (fun n65 hf => ?_)
    refine lv_istore_n (lv' := [(3, .int n65), (0, .ref (G_m Γ 0)), (2, .int f2), (4, .int f4), (5, .int s5)]) hx hb dX7_sketchOf_65 rfl hl (Nat.le_of_ble_eq_true rfl) rfl (fun ls hl => ?_)
    refine z_iinc (fun v => [(5, .int v), (3, .int n65), (0, .ref (G_m Γ 0)), (2, .int f2), (4, .int f4)]) hx hb hf dX7_sketchOf_66 hl (k := 4) rfl (Nat.le_of_ble_eq_true rfl) (fun _ => rfl) (fun n66 ls hf hl => ?_)
    refine lv_goto (tgt := 12) hx hb dX7_sketchOf_69 (by decide) ?_
    obtain ⟨rfl, rfl⟩ := z_p hf
    exact kk _ _ _ ⟨ls, rfl, lv_sub hl [2, 3, 1, 4, 0] rfl⟩ hG
theorem wm_sketchOf_l12 (Γ : zG) (l : Launch) (f2 : Int32) (f4 : Int32) : ∀ s : Int32 × Int32, mRg Γ l yX7_sketchOf cX7_sketchOf 6 (some .int) 2 40 (m_sketchOf_l12 f2 f4 s.1 s.2) (fun m => im_sketchOf_l12 Γ f2 f4 m s) (zLE (im_sketchOf_l12 Γ f2 f4) (em_sketchOf_l12 Γ f2 f4)) := fun s => wm_sketchOf_l12_b Γ l f2 f4 s.1 s.2
set_option maxHeartbeats 4000000 in
theorem wm_sketchOf (Γ : zG) (l : Launch) (a1 : Int32) (a2 : Int32) : mRg Γ l yX7_sketchOf cX7_sketchOf 6 (some .int) 2 40 (m_sketchOf a1 a2) (zAt0 6 0 (lv_args 0 [.ref (G_m Γ 0), .int a1, .int a2]) []) (zLi cX7_sketchOf) := by
  intro p e R s m args below meth c Q A S H locs x S' g C hG hI hf kk
  obtain ⟨ls, rfl, hl⟩ := hI
  obtain ⟨⟨hx, hb, hml, hown, hts⟩, hr, hlk, hK, hR1, hR2⟩ := id C
  have C : zCx Γ p R s m args meth c cX7_sketchOf 6 RX7 (some .int) 2 40 := C
  have hl : lv_has ls 6 [(0, .ref (G_m Γ 0)), (1, .int a1), (2, .int a2)] := hl
  refine lv_bipush (v := zi 7) hx hb dX7_sketchOf_0 (by decide +kernel) ?_
  refine lv_istore_n (lv' := [(3, .int (zi 7)), (0, .ref (G_m Γ 0)), (1, .int a1), (2, .int a2)]) hx hb dX7_sketchOf_2 rfl hl (Nat.le_of_ble_eq_true rfl) rfl (fun ls hl => ?_)
  refine lv_iload_n hx hb dX7_sketchOf_3 rfl (lv_at hl 2 rfl) ?_
  refine zm_csi (As := [.int a1]) (rest := []) C hG hf (ctm_treeOf Γ l a1) (lw_S q1744 q1745 q107 q1746) ytm_treeOf rfl rfl (Nat.le_of_ble_eq_true rfl) (Nat.le_of_ble_eq_true rfl) hl.1 (Nat.le_of_ble_eq_true rfl) dX7_sketchOf_4 (fun v4 S H locs hG hf => ?_)
  refine lv_istore (lv' := [(4, .int v4), (3, .int (zi 7)), (0, .ref (G_m Γ 0)), (1, .int a1), (2, .int a2)]) hx hb dX7_sketchOf_7 hl (Nat.le_of_ble_eq_true rfl) rfl (fun ls hl => ?_)
  refine lv_iconst (v := zi 0) hx hb dX7_sketchOf_9 rfl ?_
  refine lv_istore (lv' := [(5, .int (zi 0)), (4, .int v4), (3, .int (zi 7)), (0, .ref (G_m Γ 0)), (1, .int a1), (2, .int a2)]) hx hb dX7_sketchOf_10 hl (Nat.le_of_ble_eq_true rfl) rfl (fun ls hl => ?_)
  obtain ⟨e12, S, hlp, hf⟩ := nB_some hf
  refine mRg.loop (wm_sketchOf_l12 Γ l a2 v4) ((zi 7), (zi 0)) p e R s m args below meth c Q A _ _ _ _ _ _ C hG ⟨ls, rfl, lv_sub hl [3, 5, 2, 1, 0] rfl⟩ hlp (fun H locs g hL hG => ?_)
  obtain ⟨ls, rfl, hl⟩ := hL
  have hl : lv_has ls 6 [(0, .ref (G_m Γ 0)), (2, .int a2), (3, .int e12)] := hl
  refine lv_iload_n hx hb dX7_sketchOf_72 rfl (lv_at hl 2 rfl) ?_
  refine lv_iconst (v := zi 1) hx hb dX7_sketchOf_73 rfl ?_
  refine lv_iload_n hx hb dX7_sketchOf_74 rfl (lv_at hl 1 rfl) ?_
  refine lv_ishl hx hb dX7_sketchOf_75 ?_
  refine lv_iconst (v := zi 1) hx hb dX7_sketchOf_76 rfl ?_
  refine lv_isub hx hb dX7_sketchOf_77 ?_
  refine lv_iand hx hb dX7_sketchOf_78 ?_
  obtain ⟨rfl, rfl⟩ := z_p hf
  exact kk _ _ _ ⟨_, _, rfl, dX7_sketchOf_79⟩ hG
theorem ctm_sketchOf (Γ : zG) (l : Launch) (a1 : Int32) (a2 : Int32) : mCt Γ l yX7_sketchOf (ws_ yX7_sketchOf cX7_sketchOf 6 (some .int)) 2 40 [.ref (G_m Γ 0), .int a1, .int a2] (m_sketchOf a1 a2) zoi := mCt.mki (by decide +kernel) (Nat.le_of_ble_eq_true rfl) (wm_sketchOf Γ l a1 a2)
theorem ytm_sketchOf : yX7_sketchOf.cls = RX7 ∧ yX7_sketchOf.cls ≠ "java/lang/invoke/MethodHandle" ∧ yX7_sketchOf.cls ≠ "java/lang/invoke/VarHandle" ∧ (parseMethodDescriptor yX7_sketchOf.desc).map (fun d => d.parameters.length) = some 2 := by decide +kernel
set_option maxHeartbeats 4000000 in
theorem wm_sketch (Γ : zG) (l : Launch) (a1 : Int32) (a2 : Int32) : mRg Γ l yX7_sketch cX7_sketch 3 (some .int) 3 65 (m_sketch a1 a2) (zAt0 3 0 (lv_args 0 [.ref (G_m Γ 0), .int a1, .int a2]) []) (zLi cX7_sketch) := by
  intro p e R s m args below meth c Q A S H locs x S' g C hG hI hf kk
  obtain ⟨ls, rfl, hl⟩ := hI
  obtain ⟨⟨hx, hb, hml, hown, hts⟩, hr, hlk, hK, hR1, hR2⟩ := id C
  have C : zCx Γ p R s m args meth c cX7_sketch 3 RX7 (some .int) 3 65 := C
  have hl : lv_has ls 3 [(0, .ref (G_m Γ 0)), (1, .int a1), (2, .int a2)] := hl
  refine lv_aload_n hx hb dX7_sketch_0 rfl (lv_at hl 0 rfl) ?_
  refine lv_iload_n hx hb dX7_sketch_1 rfl (lv_at hl 1 rfl) ?_
  refine zm_cvi (As := [.int a1]) (rest := []) C hG hf (ctm_isPage Γ l a1) (lw_V q1701 q1703 qs54 q107 q1704) ytm_isPage rfl rfl (Nat.le_of_ble_eq_true rfl) (Nat.le_of_ble_eq_true rfl) hl.1 (Nat.le_of_ble_eq_true rfl) dX7_sketch_2 (fun v2 S H locs hG hf => ?_)
  refine lv_if_eq (tgt := 27) hx hb dX7_sketch_5 (by decide) (fun c5 => ?_) (fun c5 => ?_)
  · have hf := z_t c5 hf
    refine lv_iconst (v := zi (-1)) hx hb dX7_sketch_27 rfl ?_
    obtain ⟨rfl, rfl⟩ := z_p hf
    exact kk _ _ _ ⟨_, _, rfl, dX7_sketch_28⟩ hG
  · have hf := z_f c5 hf
    refine lv_iload_n hx hb dX7_sketch_8 rfl (lv_at hl 2 rfl) ?_
    refine lv_iconst (v := zi 0) hx hb dX7_sketch_9 rfl ?_
    refine lv_bipush (v := zi 16) hx hb dX7_sketch_10 (by decide +kernel) ?_
    refine zm_csi (As := [.int a2, .int (zi 0), .int (zi 16)]) (rest := []) C hG hf (ctm_isIn Γ l a2 (zi 0) (zi 16)) (lw_S q1612 q1613 q107 q1614) ytm_isIn rfl rfl (Nat.le_of_ble_eq_true rfl) (Nat.le_of_ble_eq_true rfl) hl.1 (Nat.le_of_ble_eq_true rfl) dX7_sketch_12 (fun v12 S H locs hG hf => ?_)
    refine lv_if_eq (tgt := 27) hx hb dX7_sketch_15 (by decide) (fun c15 => ?_) (fun c15 => ?_)
    · have hf := z_t c15 hf
      refine lv_iconst (v := zi (-1)) hx hb dX7_sketch_27 rfl ?_
      obtain ⟨rfl, rfl⟩ := z_p hf
      exact kk _ _ _ ⟨_, _, rfl, dX7_sketch_28⟩ hG
    · have hf := z_f c15 hf
      refine lv_aload_n hx hb dX7_sketch_18 rfl (lv_at hl 0 rfl) ?_
      refine lv_iload_n hx hb dX7_sketch_19 rfl (lv_at hl 1 rfl) ?_
      refine lv_iload_n hx hb dX7_sketch_20 rfl (lv_at hl 2 rfl) ?_
      refine zm_cvi (As := [.int a1, .int a2]) (rest := []) C hG hf (ctm_sketchOf Γ l a1 a2) (lw_V q1952 q1954 qs86 q107 q1955) ytm_sketchOf rfl rfl (Nat.le_of_ble_eq_true rfl) (Nat.le_of_ble_eq_true rfl) hl.1 (Nat.le_of_ble_eq_true rfl) dX7_sketch_21 (fun v21 S H locs hG hf => ?_)
      refine lv_goto (tgt := 28) hx hb dX7_sketch_24 (by decide) ?_
      obtain ⟨rfl, rfl⟩ := z_p hf
      exact kk _ _ _ ⟨_, _, rfl, dX7_sketch_28⟩ hG
theorem ctm_sketch (Γ : zG) (l : Launch) (a1 : Int32) (a2 : Int32) : mCt Γ l yX7_sketch (ws_ yX7_sketch cX7_sketch 3 (some .int)) 3 65 [.ref (G_m Γ 0), .int a1, .int a2] (m_sketch a1 a2) zoi := mCt.mki (by decide +kernel) (Nat.le_of_ble_eq_true rfl) (wm_sketch Γ l a1 a2)
theorem ytm_sketch : yX7_sketch.cls = RX7 ∧ yX7_sketch.cls ≠ "java/lang/invoke/MethodHandle" ∧ yX7_sketch.cls ≠ "java/lang/invoke/VarHandle" ∧ (parseMethodDescriptor yX7_sketch.desc).map (fun d => d.parameters.length) = some 2 := by decide +kernel
def im_leaves_l23 (Γ : zG) (f1 : Int32) (f2 : Int32) (m : MethodId) (s : Int32) (g : JFrame) : Prop := zAt0 6 23 [(0, .ref (G_m Γ 0)), (1, .int f1), (2, .int f2), (3, .int s)] [] m g
def em_leaves_l23 (Γ : zG) (f1 : Int32) (f2 : Int32) (m : MethodId) (e : Int32 ⊕ (Unit)) (g : JFrame) : Prop := (Sum.elim (fun e => zAt0 6 82 [(0, .ref (G_m Γ 0)), (3, .int e)] [] m g) (fun e => zAt0 6 90 [(0, .ref (G_m Γ 0))] [] m g)) e
def im_leaves_l33 (Γ : zG) (f1 : Int32) (f2 : Int32) (f3 : Int32) (m : MethodId) (s : Int32 × Int32) (g : JFrame) : Prop := zAt0 6 33 [(0, .ref (G_m Γ 0)), (1, .int f1), (2, .int f2), (3, .int f3), (4, .int s.1), (5, .int s.2)] [] m g
def em_leaves_l33 (Γ : zG) (f1 : Int32) (f2 : Int32) (f3 : Int32) (m : MethodId) (e : Int32) (g : JFrame) : Prop := zAt0 6 76 [(0, .ref (G_m Γ 0)), (1, .int f1), (2, .int f2), (3, .int f3), (4, .int e)] [] m g
set_option maxHeartbeats 4000000 in
theorem wm_leaves_l33_j67 (Γ : zG) (l : Launch) (b1 : Int32) (b2 : Int32) (b3 : Int32) (b5 : Int32) (t0 : Int32) (t1 : Int32) : mRg Γ l yX7_leaves cX7_leaves 6 (some .int) 3 65 (m_leaves_l33_j67 b1 b2 b3 b5 t0 t1) (zAt0 6 67 [(0, .ref (G_m Γ 0)), (1, .int b1), (2, .int b2), (3, .int b3), (5, .int b5)] [.int t0, .int t1]) (zLE (im_leaves_l33 Γ b1 b2 b3) (em_leaves_l33 Γ b1 b2 b3)) := by
  intro p e R s m args below meth c Q A S H locs x S' g C hG hI hf kk
  obtain ⟨ls, rfl, hl⟩ := hI
  obtain ⟨⟨hx, hb, hml, hown, hts⟩, hr, hlk, hK, hR1, hR2⟩ := id C
  have C : zCx Γ p R s m args meth c cX7_leaves 6 RX7 (some .int) 3 65 := C
  refine lv_iadd hx hb dX7_leaves_67 ?_
  refine z_top hf (fun n68 hf => ?_)
  refine lv_istore (lv' := [(4, .int n68), (0, .ref (G_m Γ 0)), (1, .int b1), (2, .int b2), (3, .int b3), (5, .int b5)]) hx hb dX7_leaves_68 hl (Nat.le_of_ble_eq_true rfl) rfl (fun ls hl => ?_)
  refine z_iinc (fun v => [(5, .int v), (4, .int n68), (0, .ref (G_m Γ 0)), (1, .int b1), (2, .int b2), (3, .int b3)]) hx hb hf dX7_leaves_70 hl (k := 5) rfl (Nat.le_of_ble_eq_true rfl) (fun _ => rfl) (fun n70 ls hf hl => ?_)
  refine lv_goto (tgt := 33) hx hb dX7_leaves_73 (by decide) ?_
  obtain ⟨rfl, rfl⟩ := z_p hf
  exact kk _ _ _ ⟨ls, rfl, lv_sub hl [2, 3, 4, 5, 1, 0] rfl⟩ hG
set_option maxHeartbeats 4000000 in
theorem wm_leaves_l33_b (Γ : zG) (l : Launch) (f1 : Int32) (f2 : Int32) (f3 : Int32) (s4 : Int32) (s5 : Int32) : mRg Γ l yX7_leaves cX7_leaves 6 (some .int) 3 65 (m_leaves_l33 f1 f2 f3 s4 s5) (zAt0 6 33 [(0, .ref (G_m Γ 0)), (1, .int f1), (2, .int f2), (3, .int f3), (4, .int s4), (5, .int s5)] []) (zLE (im_leaves_l33 Γ f1 f2 f3) (em_leaves_l33 Γ f1 f2 f3)) := by
  intro p e R s m args below meth c Q A S H locs x S' g C hG hI hf kk
  obtain ⟨ls, rfl, hl⟩ := hI
  obtain ⟨⟨hx, hb, hml, hown, hts⟩, hr, hlk, hK, hR1, hR2⟩ := id C
  have C : zCx Γ p R s m args meth c cX7_leaves 6 RX7 (some .int) 3 65 := C
  refine lv_iload hx hb dX7_leaves_33 (lv_at hl 5 rfl) ?_
  refine lv_aload_n hx hb dX7_leaves_35 rfl (lv_at hl 0 rfl) ?_
  refine zm_ga C hG 0 (Nat.le_of_ble_eq_true rfl) (by decide) q1443 dX7_leaves_36 ?_
  refine lv_iconst (v := zi 1) hx hb dX7_leaves_39 rfl ?_
  refine zm_al C hG 0 hf (Nat.le_of_ble_eq_true rfl) rfl dX7_leaves_40 (fun v40 hf => ?_)
  refine lv_icmp_ge (tgt := 76) hx hb dX7_leaves_41 (by decide) (fun c41 => ?_) (fun c41 => ?_)
  · have hf := z_t c41 hf
    obtain ⟨rfl, rfl⟩ := z_p hf
    exact kk _ _ _ ⟨ls, rfl, lv_sub hl [0, 1, 2, 3, 4] rfl⟩ hG
  · have hf := z_f c41 hf
    refine lv_iload hx hb dX7_leaves_44 (lv_at hl 4 rfl) ?_
    refine lv_aload_n hx hb dX7_leaves_46 rfl (lv_at hl 0 rfl) ?_
    refine lv_iload hx hb dX7_leaves_47 (lv_at hl 5 rfl) ?_
    refine lv_iload_n hx hb dX7_leaves_49 rfl (lv_at hl 3 rfl) ?_
    refine zm_cvi (As := [.int s5, .int f3]) (rest := [.int s4]) C hG hf (ctm_sketchOf Γ l s5 f3) (lw_V q1952 q1954 qs86 q107 q1955) ytm_sketchOf rfl rfl (Nat.le_of_ble_eq_true rfl) (Nat.le_of_ble_eq_true rfl) hl.1 (Nat.le_of_ble_eq_true rfl) dX7_leaves_50 (fun v50 S H locs hG hf => ?_)
    refine lv_aload_n hx hb dX7_leaves_53 rfl (lv_at hl 0 rfl) ?_
    refine lv_iload_n hx hb dX7_leaves_54 rfl (lv_at hl 1 rfl) ?_
    refine lv_iload_n hx hb dX7_leaves_55 rfl (lv_at hl 3 rfl) ?_
    refine zm_cvi (As := [.int f1, .int f3]) (rest := [.int v50, .int s4]) C hG hf (ctm_sketchOf Γ l f1 f3) (lw_V q1952 q1954 qs86 q107 q1955) ytm_sketchOf rfl rfl (Nat.le_of_ble_eq_true rfl) (Nat.le_of_ble_eq_true rfl) hl.1 (Nat.le_of_ble_eq_true rfl) dX7_leaves_56 (fun v56 S H locs hG hf => ?_)
    refine lv_icmp_ne (tgt := 66) hx hb dX7_leaves_59 (by decide) (fun c59 => ?_) (fun c59 => ?_)
    · have hf := z_f c59 hf
      refine lv_iconst (v := zi 0) hx hb dX7_leaves_66 rfl ?_
      exact wm_leaves_l33_j67 Γ l f1 f2 f3 s5 (zi 0) s4 p e R s m args below meth c Q A _ _ _ _ _ _ C hG ⟨ls, rfl, lv_sub hl [0, 1, 2, 3, 5] rfl⟩ hf kk
    · have hf := z_t c59 hf
      refine lv_iconst (v := zi 1) hx hb dX7_leaves_62 rfl ?_
      refine lv_goto (tgt := 67) hx hb dX7_leaves_63 (by decide) ?_
      exact wm_leaves_l33_j67 Γ l f1 f2 f3 s5 (zi 1) s4 p e R s m args below meth c Q A _ _ _ _ _ _ C hG ⟨ls, rfl, lv_sub hl [0, 1, 2, 3, 5] rfl⟩ hf kk
theorem wm_leaves_l33 (Γ : zG) (l : Launch) (f1 : Int32) (f2 : Int32) (f3 : Int32) : ∀ s : Int32 × Int32, mRg Γ l yX7_leaves cX7_leaves 6 (some .int) 3 65 (m_leaves_l33 f1 f2 f3 s.1 s.2) (fun m => im_leaves_l33 Γ f1 f2 f3 m s) (zLE (im_leaves_l33 Γ f1 f2 f3) (em_leaves_l33 Γ f1 f2 f3)) := fun s => wm_leaves_l33_b Γ l f1 f2 f3 s.1 s.2
set_option maxHeartbeats 4000000 in
theorem wm_leaves_l23_b (Γ : zG) (l : Launch) (f1 : Int32) (f2 : Int32) (s3 : Int32) : mRg Γ l yX7_leaves cX7_leaves 6 (some .int) 3 65 (m_leaves_l23 f1 f2 s3) (zAt0 6 23 [(0, .ref (G_m Γ 0)), (1, .int f1), (2, .int f2), (3, .int s3)] []) (zLE (im_leaves_l23 Γ f1 f2) (em_leaves_l23 Γ f1 f2)) := by
  intro p e R s m args below meth c Q A S H locs x S' g C hG hI hf kk
  obtain ⟨ls, rfl, hl⟩ := hI
  obtain ⟨⟨hx, hb, hml, hown, hts⟩, hr, hlk, hK, hR1, hR2⟩ := id C
  have C : zCx Γ p R s m args meth c cX7_leaves 6 RX7 (some .int) 3 65 := C
  refine lv_iload_n hx hb dX7_leaves_23 rfl (lv_at hl 3 rfl) ?_
  refine lv_if_lt (tgt := 90) hx hb dX7_leaves_24 (by decide) (fun c24 => ?_) (fun c24 => ?_)
  · have hf := z_t c24 hf
    obtain ⟨rfl, rfl⟩ := z_p hf
    exact kk _ _ _ ⟨ls, rfl, lv_sub hl [0] rfl⟩ hG
  · have hf := z_f c24 hf
    refine lv_iconst (v := zi 0) hx hb dX7_leaves_27 rfl ?_
    refine lv_istore (lv' := [(4, .int (zi 0)), (0, .ref (G_m Γ 0)), (1, .int f1), (2, .int f2), (3, .int s3)]) hx hb dX7_leaves_28 hl (Nat.le_of_ble_eq_true rfl) rfl (fun ls hl => ?_)
    refine lv_iconst (v := zi 0) hx hb dX7_leaves_30 rfl ?_
    refine lv_istore (lv' := [(5, .int (zi 0)), (4, .int (zi 0)), (0, .ref (G_m Γ 0)), (1, .int f1), (2, .int f2), (3, .int s3)]) hx hb dX7_leaves_31 hl (Nat.le_of_ble_eq_true rfl) rfl (fun ls hl => ?_)
    obtain ⟨e33, S, hlp, hf⟩ := nB_some hf
    refine mRg.loop (wm_leaves_l33 Γ l f1 f2 s3) ((zi 0), (zi 0)) p e R s m args below meth c Q A _ _ _ _ _ _ C hG ⟨ls, rfl, lv_sub hl [2, 3, 4, 5, 1, 0] rfl⟩ hlp (fun H locs g hL hG => ?_)
    obtain ⟨ls, rfl, hl⟩ := hL
    have hl : lv_has ls 6 [(0, .ref (G_m Γ 0)), (1, .int f1), (2, .int f2), (3, .int s3), (4, .int e33)] := hl
    refine lv_iload hx hb dX7_leaves_76 (lv_at hl 4 rfl) ?_
    refine lv_iload_n hx hb dX7_leaves_78 rfl (lv_at hl 2 rfl) ?_
    refine lv_icmp_lt (tgt := 84) hx hb dX7_leaves_79 (by decide) (fun c79 => ?_) (fun c79 => ?_)
    · have hf := z_t c79 hf
      refine z_iinc (fun v => [(3, .int v), (0, .ref (G_m Γ 0)), (1, .int f1), (2, .int f2), (4, .int e33)]) hx hb hf dX7_leaves_84 hl (k := 3) rfl (Nat.le_of_ble_eq_true rfl) (fun _ => rfl) (fun n84 ls hf hl => ?_)
      refine lv_goto (tgt := 23) hx hb dX7_leaves_87 (by decide) ?_
      obtain ⟨rfl, rfl⟩ := z_p hf
      exact kk _ _ _ ⟨ls, rfl, lv_sub hl [1, 2, 3, 0] rfl⟩ hG
    · have hf := z_f c79 hf
      obtain ⟨rfl, rfl⟩ := z_p hf
      exact kk _ _ _ ⟨ls, rfl, lv_sub hl [0, 3] rfl⟩ hG
theorem wm_leaves_l23 (Γ : zG) (l : Launch) (f1 : Int32) (f2 : Int32) : ∀ s : Int32, mRg Γ l yX7_leaves cX7_leaves 6 (some .int) 3 65 (m_leaves_l23 f1 f2 s) (fun m => im_leaves_l23 Γ f1 f2 m s) (zLE (im_leaves_l23 Γ f1 f2) (em_leaves_l23 Γ f1 f2)) := fun s => wm_leaves_l23_b Γ l f1 f2 s
set_option maxHeartbeats 4000000 in
theorem wm_leaves (Γ : zG) (l : Launch) (a1 : Int32) (a2 : Int32) : mRg Γ l yX7_leaves cX7_leaves 6 (some .int) 3 65 (m_leaves a1 a2) (zAt0 6 0 (lv_args 0 [.ref (G_m Γ 0), .int a1, .int a2]) []) (zLi cX7_leaves) := by
  intro p e R s m args below meth c Q A S H locs x S' g C hG hI hf kk
  obtain ⟨ls, rfl, hl⟩ := hI
  obtain ⟨⟨hx, hb, hml, hown, hts⟩, hr, hlk, hK, hR1, hR2⟩ := id C
  have C : zCx Γ p R s m args meth c cX7_leaves 6 RX7 (some .int) 3 65 := C
  have hl : lv_has ls 6 [(0, .ref (G_m Γ 0)), (1, .int a1), (2, .int a2)] := hl
  refine lv_aload_n hx hb dX7_leaves_0 rfl (lv_at hl 0 rfl) ?_
  refine lv_iload_n hx hb dX7_leaves_1 rfl (lv_at hl 1 rfl) ?_
  refine zm_cvi (As := [.int a1]) (rest := []) C hG hf (ctm_isPage Γ l a1) (lw_V q1701 q1703 qs54 q107 q1704) ytm_isPage rfl rfl (Nat.le_of_ble_eq_true rfl) (Nat.le_of_ble_eq_true rfl) hl.1 (Nat.le_of_ble_eq_true rfl) dX7_leaves_2 (fun v2 S H locs hG hf => ?_)
  refine lv_if_eq (tgt := 18) hx hb dX7_leaves_5 (by decide) (fun c5 => ?_) (fun c5 => ?_)
  · have hf := z_t c5 hf
    refine lv_iconst (v := zi (-1)) hx hb dX7_leaves_18 rfl ?_
    obtain ⟨rfl, rfl⟩ := z_p hf
    exact kk _ _ _ ⟨_, _, rfl, dX7_leaves_19⟩ hG
  · have hf := z_f c5 hf
    refine lv_iload_n hx hb dX7_leaves_8 rfl (lv_at hl 2 rfl) ?_
    refine lv_iconst (v := zi 1) hx hb dX7_leaves_9 rfl ?_
    refine lv_bipush (v := zi 10) hx hb dX7_leaves_10 (by decide +kernel) ?_
    refine zm_csi (As := [.int a2, .int (zi 1), .int (zi 10)]) (rest := []) C hG hf (ctm_isIn Γ l a2 (zi 1) (zi 10)) (lw_S q1612 q1613 q107 q1614) ytm_isIn rfl rfl (Nat.le_of_ble_eq_true rfl) (Nat.le_of_ble_eq_true rfl) hl.1 (Nat.le_of_ble_eq_true rfl) dX7_leaves_12 (fun v12 S H locs hG hf => ?_)
    refine lv_if_ne (tgt := 20) hx hb dX7_leaves_15 (by decide) (fun c15 => ?_) (fun c15 => ?_)
    · have hf := z_f c15 hf
      refine lv_bipush (v := zi 16) hx hb dX7_leaves_20 (by decide +kernel) ?_
      refine lv_istore_n (lv' := [(3, .int (zi 16)), (0, .ref (G_m Γ 0)), (1, .int a1), (2, .int a2)]) hx hb dX7_leaves_22 rfl hl (Nat.le_of_ble_eq_true rfl) rfl (fun ls hl => ?_)
      obtain ⟨e23, S, hlp, hf⟩ := nB_some hf
      refine mRg.loop (wm_leaves_l23 Γ l a1 a2) (zi 16) p e R s m args below meth c Q A _ _ _ _ _ _ C hG ⟨ls, rfl, lv_sub hl [1, 2, 3, 0] rfl⟩ hlp (fun H locs g hL hG => ?_)
      rcases e23 with e23 | e23
      · have hf := z_dl hf
        obtain ⟨ls, rfl, hl⟩ := hL
        have hl : lv_has ls 6 [(0, .ref (G_m Γ 0)), (3, .int e23)] := hl
        refine lv_iload_n hx hb dX7_leaves_82 rfl (lv_at hl 1 rfl) ?_
        obtain ⟨rfl, rfl⟩ := z_p hf
        exact kk _ _ _ ⟨_, _, rfl, dX7_leaves_83⟩ hG
      · have hf := z_dr hf
        obtain ⟨ls, rfl, hl⟩ := hL
        have hl : lv_has ls 6 [(0, .ref (G_m Γ 0))] := hl
        refine lv_iconst (v := zi (-1)) hx hb dX7_leaves_90 rfl ?_
        obtain ⟨rfl, rfl⟩ := z_p hf
        exact kk _ _ _ ⟨_, _, rfl, dX7_leaves_91⟩ hG
    · have hf := z_t c15 hf
      refine lv_iconst (v := zi (-1)) hx hb dX7_leaves_18 rfl ?_
      obtain ⟨rfl, rfl⟩ := z_p hf
      exact kk _ _ _ ⟨_, _, rfl, dX7_leaves_19⟩ hG
theorem ctm_leaves (Γ : zG) (l : Launch) (a1 : Int32) (a2 : Int32) : mCt Γ l yX7_leaves (ws_ yX7_leaves cX7_leaves 6 (some .int)) 3 65 [.ref (G_m Γ 0), .int a1, .int a2] (m_leaves a1 a2) zoi := mCt.mki (by decide +kernel) (Nat.le_of_ble_eq_true rfl) (wm_leaves Γ l a1 a2)
theorem ytm_leaves : yX7_leaves.cls = RX7 ∧ yX7_leaves.cls ≠ "java/lang/invoke/MethodHandle" ∧ yX7_leaves.cls ≠ "java/lang/invoke/VarHandle" ∧ (parseMethodDescriptor yX7_leaves.desc).map (fun d => d.parameters.length) = some 2 := by decide +kernel
def im_warn_l24 (Γ : zG) (f1 : Int32) (f2 : Int32) (f3 : Int32) (m : MethodId) (s : Int32 × Int32) (g : JFrame) : Prop := zAt0 7 24 [(0, .ref (G_m Γ 0)), (1, .int f1), (2, .int f2), (3, .int f3), (4, .int s.1), (5, .int s.2)] [] m g
def em_warn_l24 (Γ : zG) (f1 : Int32) (f2 : Int32) (f3 : Int32) (m : MethodId) (e : Int32) (g : JFrame) : Prop := zAt0 7 85 [(0, .ref (G_m Γ 0)), (4, .int e)] [] m g
set_option maxHeartbeats 4000000 in
theorem wm_warn_l24_j55 (Γ : zG) (l : Launch) (b1 : Int32) (b2 : Int32) (b3 : Int32) (b4 : Int32) (b5 : Int32) (t0 : Int32) : mRg Γ l yX7_warn cX7_warn 7 (some .int) 7 168 (m_warn_l24_j55 b1 b2 b3 b4 b5 t0) (zAt0 7 55 [(0, .ref (G_m Γ 0)), (1, .int b1), (2, .int b2), (3, .int b3), (4, .int b4), (5, .int b5)] [.int t0]) (zLE (im_warn_l24 Γ b1 b2 b3) (em_warn_l24 Γ b1 b2 b3)) := by
  intro p e R s m args below meth c Q A S H locs x S' g C hG hI hf kk
  obtain ⟨ls, rfl, hl⟩ := hI
  obtain ⟨⟨hx, hb, hml, hown, hts⟩, hr, hlk, hK, hR1, hR2⟩ := id C
  have C : zCx Γ p R s m args meth c cX7_warn 7 RX7 (some .int) 7 168 := C
  refine lv_istore (lv' := [(6, .int t0), (0, .ref (G_m Γ 0)), (1, .int b1), (2, .int b2), (3, .int b3), (4, .int b4), (5, .int b5)]) hx hb dX7_warn_55 hl (Nat.le_of_ble_eq_true rfl) rfl (fun ls hl => ?_)
  refine lv_iload hx hb dX7_warn_57 (lv_at hl 0 rfl) ?_
  refine lv_if_eq (tgt := 79) hx hb dX7_warn_59 (by decide) (fun c59 => ?_) (fun c59 => ?_)
  · have hf := z_t c59 hf
    refine z_iinc (fun v => [(5, .int v), (6, .int t0), (0, .ref (G_m Γ 0)), (1, .int b1), (2, .int b2), (3, .int b3), (4, .int b4)]) hx hb hf dX7_warn_79 hl (k := 6) rfl (Nat.le_of_ble_eq_true rfl) (fun _ => rfl) (fun n79 ls hf hl => ?_)
    refine lv_goto (tgt := 24) hx hb dX7_warn_82 (by decide) ?_
    obtain ⟨rfl, rfl⟩ := z_p hf
    exact kk _ _ _ ⟨ls, rfl, lv_sub hl [2, 3, 4, 5, 6, 0] rfl⟩ hG
  · have hf := z_f c59 hf
    refine lv_aload_n hx hb dX7_warn_62 rfl (lv_at hl 1 rfl) ?_
    refine zm_gf C hG 31 hf (Nat.le_of_ble_eq_true rfl) rfl q1474 dX7_warn_63 (fun v63 hf => ?_)
    refine lv_iload_n hx hb dX7_warn_66 rfl (lv_at hl 2 rfl) ?_
    refine lv_icmp_ne (tgt := 79) hx hb dX7_warn_67 (by decide) (fun c67 => ?_) (fun c67 => ?_)
    · have hf := z_f c67 hf
      refine z_iinc (fun v => [(5, .int v), (6, .int t0), (0, .ref (G_m Γ 0)), (1, .int b1), (2, .int b2), (3, .int b3), (4, .int b4)]) hx hb hf dX7_warn_79 hl (k := 6) rfl (Nat.le_of_ble_eq_true rfl) (fun _ => rfl) (fun n79 ls hf hl => ?_)
      refine lv_goto (tgt := 24) hx hb dX7_warn_82 (by decide) ?_
      obtain ⟨rfl, rfl⟩ := z_p hf
      exact kk _ _ _ ⟨ls, rfl, lv_sub hl [2, 3, 4, 5, 6, 0] rfl⟩ hG
    · have hf := z_t c67 hf
      refine lv_iload hx hb dX7_warn_70 (lv_at hl 5 rfl) ?_
      refine lv_iconst (v := zi 1) hx hb dX7_warn_72 rfl ?_
      refine lv_iload hx hb dX7_warn_73 (lv_at hl 6 rfl) ?_
      refine lv_ishl hx hb dX7_warn_75 ?_
      refine lv_ior hx hb dX7_warn_76 ?_
      refine z_top hf (fun n77 hf => ?_)
      refine lv_istore (lv' := [(4, .int n77), (6, .int t0), (0, .ref (G_m Γ 0)), (1, .int b1), (2, .int b2), (3, .int b3), (5, .int b5)]) hx hb dX7_warn_77 hl (Nat.le_of_ble_eq_true rfl) rfl (fun ls hl => ?_)
      refine z_iinc (fun v => [(5, .int v), (4, .int n77), (6, .int t0), (0, .ref (G_m Γ 0)), (1, .int b1), (2, .int b2), (3, .int b3)]) hx hb hf dX7_warn_79 hl (k := 6) rfl (Nat.le_of_ble_eq_true rfl) (fun _ => rfl) (fun n79 ls hf hl => ?_)
      refine lv_goto (tgt := 24) hx hb dX7_warn_82 (by decide) ?_
      obtain ⟨rfl, rfl⟩ := z_p hf
      exact kk _ _ _ ⟨ls, rfl, lv_sub hl [3, 4, 5, 6, 1, 0] rfl⟩ hG
set_option maxHeartbeats 4000000 in
theorem wm_warn_l24_b (Γ : zG) (l : Launch) (f1 : Int32) (f2 : Int32) (f3 : Int32) (s4 : Int32) (s5 : Int32) : mRg Γ l yX7_warn cX7_warn 7 (some .int) 7 168 (m_warn_l24 f1 f2 f3 s4 s5) (zAt0 7 24 [(0, .ref (G_m Γ 0)), (1, .int f1), (2, .int f2), (3, .int f3), (4, .int s4), (5, .int s5)] []) (zLE (im_warn_l24 Γ f1 f2 f3) (em_warn_l24 Γ f1 f2 f3)) := by
  intro p e R s m args below meth c Q A S H locs x S' g C hG hI hf kk
  obtain ⟨ls, rfl, hl⟩ := hI
  obtain ⟨⟨hx, hb, hml, hown, hts⟩, hr, hlk, hK, hR1, hR2⟩ := id C
  have C : zCx Γ p R s m args meth c cX7_warn 7 RX7 (some .int) 7 168 := C
  refine lv_iload hx hb dX7_warn_24 (lv_at hl 5 rfl) ?_
  refine lv_aload_n hx hb dX7_warn_26 rfl (lv_at hl 0 rfl) ?_
  refine zm_ga C hG 0 (Nat.le_of_ble_eq_true rfl) (by decide) q1443 dX7_warn_27 ?_
  refine lv_iconst (v := zi 1) hx hb dX7_warn_30 rfl ?_
  refine zm_al C hG 0 hf (Nat.le_of_ble_eq_true rfl) rfl dX7_warn_31 (fun v31 hf => ?_)
  refine lv_icmp_ge (tgt := 85) hx hb dX7_warn_32 (by decide) (fun c32 => ?_) (fun c32 => ?_)
  · have hf := z_t c32 hf
    obtain ⟨rfl, rfl⟩ := z_p hf
    exact kk _ _ _ ⟨ls, rfl, lv_sub hl [0, 4] rfl⟩ hG
  · have hf := z_f c32 hf
    refine lv_aload_n hx hb dX7_warn_35 rfl (lv_at hl 0 rfl) ?_
    refine lv_iload hx hb dX7_warn_36 (lv_at hl 5 rfl) ?_
    refine lv_iload_n hx hb dX7_warn_38 rfl (lv_at hl 2 rfl) ?_
    refine lv_iload_n hx hb dX7_warn_39 rfl (lv_at hl 3 rfl) ?_
    refine zm_cvi (As := [.int s5, .int f2, .int f3]) (rest := []) C hG hf (ctm_signsOf Γ l s5 f2 f3) (lw_V q1831 q1833 qs70 q107 q1834) ytm_signsOf rfl rfl (Nat.le_of_ble_eq_true rfl) (Nat.le_of_ble_eq_true rfl) hl.1 (Nat.le_of_ble_eq_true rfl) dX7_warn_40 (fun v40 S H locs hG hf => ?_)
    refine zm_csi (As := [.int v40]) (rest := []) C hG hf (ctm_sayOf Γ l v40) (lw_S q1855 q1856 q107 q1857) ytm_sayOf rfl rfl (Nat.le_of_ble_eq_true rfl) (Nat.le_of_ble_eq_true rfl) hl.1 (Nat.le_of_ble_eq_true rfl) dX7_warn_43 (fun v43 S H locs hG hf => ?_)
    refine lv_iconst (v := zi 2) hx hb dX7_warn_46 rfl ?_
    refine lv_icmp_ne (tgt := 54) hx hb dX7_warn_47 (by decide) (fun c47 => ?_) (fun c47 => ?_)
    · have hf := z_f c47 hf
      refine lv_iconst (v := zi 0) hx hb dX7_warn_54 rfl ?_
      exact wm_warn_l24_j55 Γ l f1 f2 f3 s4 s5 (zi 0) p e R s m args below meth c Q A _ _ _ _ _ _ C hG ⟨ls, rfl, lv_sub hl [0, 1, 2, 3, 4, 5] rfl⟩ hf kk
    · have hf := z_t c47 hf
      refine lv_iconst (v := zi 1) hx hb dX7_warn_50 rfl ?_
      refine lv_goto (tgt := 55) hx hb dX7_warn_51 (by decide) ?_
      exact wm_warn_l24_j55 Γ l f1 f2 f3 s4 s5 (zi 1) p e R s m args below meth c Q A _ _ _ _ _ _ C hG ⟨ls, rfl, lv_sub hl [0, 1, 2, 3, 4, 5] rfl⟩ hf kk
theorem wm_warn_l24 (Γ : zG) (l : Launch) (f1 : Int32) (f2 : Int32) (f3 : Int32) : ∀ s : Int32 × Int32, mRg Γ l yX7_warn cX7_warn 7 (some .int) 7 168 (m_warn_l24 f1 f2 f3 s.1 s.2) (fun m => im_warn_l24 Γ f1 f2 f3 m s) (zLE (im_warn_l24 Γ f1 f2 f3) (em_warn_l24 Γ f1 f2 f3)) := fun s => wm_warn_l24_b Γ l f1 f2 f3 s.1 s.2
set_option maxHeartbeats 4000000 in
theorem wm_warn (Γ : zG) (l : Launch) (a1 : Int32) (a2 : Int32) (a3 : Int32) : mRg Γ l yX7_warn cX7_warn 7 (some .int) 7 168 (m_warn a1 a2 a3) (zAt0 7 0 (lv_args 0 [.ref (G_m Γ 0), .int a1, .int a2, .int a3]) []) (zLi cX7_warn) := by
  intro p e R s m args below meth c Q A S H locs x S' g C hG hI hf kk
  obtain ⟨ls, rfl, hl⟩ := hI
  obtain ⟨⟨hx, hb, hml, hown, hts⟩, hr, hlk, hK, hR1, hR2⟩ := id C
  have C : zCx Γ p R s m args meth c cX7_warn 7 RX7 (some .int) 7 168 := C
  have hl : lv_has ls 7 [(0, .ref (G_m Γ 0)), (1, .int a1), (2, .int a2), (3, .int a3)] := hl
  refine lv_aload_n hx hb dX7_warn_0 rfl (lv_at hl 0 rfl) ?_
  refine lv_iload_n hx hb dX7_warn_1 rfl (lv_at hl 1 rfl) ?_
  refine zm_cvi (As := [.int a1]) (rest := []) C hG hf (ctm_isHouse Γ l a1) (lw_V q1608 q1610 qs42 q107 q1611) ytm_isHouse rfl rfl (Nat.le_of_ble_eq_true rfl) (Nat.le_of_ble_eq_true rfl) hl.1 (Nat.le_of_ble_eq_true rfl) dX7_warn_2 (fun v2 S H locs hG hf => ?_)
  refine lv_if_eq (tgt := 16) hx hb dX7_warn_5 (by decide) (fun c5 => ?_) (fun c5 => ?_)
  · have hf := z_t c5 hf
    refine lv_iconst (v := zi (-1)) hx hb dX7_warn_16 rfl ?_
    obtain ⟨rfl, rfl⟩ := z_p hf
    exact kk _ _ _ ⟨_, _, rfl, dX7_warn_17⟩ hG
  · have hf := z_f c5 hf
    refine lv_iload_n hx hb dX7_warn_8 rfl (lv_at hl 2 rfl) ?_
    refine lv_iload_n hx hb dX7_warn_9 rfl (lv_at hl 3 rfl) ?_
    refine zm_csi (As := [.int a2, .int a3]) (rest := []) C hG hf (ctm_isPerson Γ l a2 a3) (lw_S q1741 q1742 q107 q1743) ytm_isPerson rfl rfl (Nat.le_of_ble_eq_true rfl) (Nat.le_of_ble_eq_true rfl) hl.1 (Nat.le_of_ble_eq_true rfl) dX7_warn_10 (fun v10 S H locs hG hf => ?_)
    refine lv_if_ne (tgt := 18) hx hb dX7_warn_13 (by decide) (fun c13 => ?_) (fun c13 => ?_)
    · have hf := z_f c13 hf
      refine lv_iconst (v := zi 0) hx hb dX7_warn_18 rfl ?_
      refine lv_istore (lv' := [(4, .int (zi 0)), (0, .ref (G_m Γ 0)), (1, .int a1), (2, .int a2), (3, .int a3)]) hx hb dX7_warn_19 hl (Nat.le_of_ble_eq_true rfl) rfl (fun ls hl => ?_)
      refine lv_iconst (v := zi 0) hx hb dX7_warn_21 rfl ?_
      refine lv_istore (lv' := [(5, .int (zi 0)), (4, .int (zi 0)), (0, .ref (G_m Γ 0)), (1, .int a1), (2, .int a2), (3, .int a3)]) hx hb dX7_warn_22 hl (Nat.le_of_ble_eq_true rfl) rfl (fun ls hl => ?_)
      obtain ⟨e24, S, hlp, hf⟩ := nB_some hf
      refine mRg.loop (wm_warn_l24 Γ l a1 a2 a3) ((zi 0), (zi 0)) p e R s m args below meth c Q A _ _ _ _ _ _ C hG ⟨ls, rfl, lv_sub hl [2, 3, 4, 5, 1, 0] rfl⟩ hlp (fun H locs g hL hG => ?_)
      obtain ⟨ls, rfl, hl⟩ := hL
      have hl : lv_has ls 7 [(0, .ref (G_m Γ 0)), (4, .int e24)] := hl
      refine lv_iload hx hb dX7_warn_85 (lv_at hl 1 rfl) ?_
      obtain ⟨rfl, rfl⟩ := z_p hf
      exact kk _ _ _ ⟨_, _, rfl, dX7_warn_87⟩ hG
    · have hf := z_t c13 hf
      refine lv_iconst (v := zi (-1)) hx hb dX7_warn_16 rfl ?_
      obtain ⟨rfl, rfl⟩ := z_p hf
      exact kk _ _ _ ⟨_, _, rfl, dX7_warn_17⟩ hG
theorem ctm_warn (Γ : zG) (l : Launch) (a1 : Int32) (a2 : Int32) (a3 : Int32) : mCt Γ l yX7_warn (ws_ yX7_warn cX7_warn 7 (some .int)) 7 168 [.ref (G_m Γ 0), .int a1, .int a2, .int a3] (m_warn a1 a2 a3) zoi := mCt.mki (by decide +kernel) (Nat.le_of_ble_eq_true rfl) (wm_warn Γ l a1 a2 a3)
theorem ytm_warn : yX7_warn.cls = RX7 ∧ yX7_warn.cls ≠ "java/lang/invoke/MethodHandle" ∧ yX7_warn.cls ≠ "java/lang/invoke/VarHandle" ∧ (parseMethodDescriptor yX7_warn.desc).map (fun d => d.parameters.length) = some 3 := by decide +kernel
set_option maxHeartbeats 4000000 in
theorem wm_puts (Γ : zG) (l : Launch) (a1 : Int32) (a2 : Int32) : mRg Γ l yX7_puts cX7_puts 3 none 0 0 (m_puts a1 a2) (zAt0 3 0 (lv_args 0 [.ref (G_m Γ 0), .int a1, .int a2]) []) (zLv cX7_puts) := by
  intro p e R s m args below meth c Q A S H locs x S' g C hG hI hf kk
  obtain ⟨ls, rfl, hl⟩ := hI
  obtain ⟨⟨hx, hb, hml, hown, hts⟩, hr, hlk, hK, hR1, hR2⟩ := id C
  have C : zCx Γ p R s m args meth c cX7_puts 3 RX7 none 0 0 := C
  have hl : lv_has ls 3 [(0, .ref (G_m Γ 0)), (1, .int a1), (2, .int a2)] := hl
  refine lv_aload_n hx hb dX7_puts_0 rfl (lv_at hl 0 rfl) ?_
  refine zm_gf C hG 42 hf (Nat.le_of_ble_eq_true rfl) rfl q1485 dX7_puts_1 (fun v1 hf => ?_)
  refine lv_bipush (v := zi 20) hx hb dX7_puts_4 (by decide +kernel) ?_
  refine lv_icmp_ge (tgt := 23) hx hb dX7_puts_6 (by decide) (fun c6 => ?_) (fun c6 => ?_)
  · have hf := z_t c6 hf
    obtain ⟨rfl, rfl⟩ := z_p hf
    exact kk _ _ _ ⟨_, _, rfl, dX7_puts_23⟩ hG
  · have hf := z_f c6 hf
    refine lv_aload_n hx hb dX7_puts_9 rfl (lv_at hl 0 rfl) ?_
    refine zm_ga C hG 43 (Nat.le_of_ble_eq_true rfl) (by decide) q1486 dX7_puts_10 ?_
    refine lv_iconst (v := zi 4) hx hb dX7_puts_13 rfl ?_
    refine lv_aload_n hx hb dX7_puts_14 rfl (lv_at hl 0 rfl) ?_
    refine zm_gf C hG 42 hf (Nat.le_of_ble_eq_true rfl) rfl q1485 dX7_puts_15 (fun v15 hf => ?_)
    refine lv_imul hx hb dX7_puts_18 ?_
    refine lv_iload_n hx hb dX7_puts_19 rfl (lv_at hl 1 rfl) ?_
    refine lv_iadd hx hb dX7_puts_20 ?_
    refine lv_iload_n hx hb dX7_puts_21 rfl (lv_at hl 2 rfl) ?_
    refine zm_as C hG 43 hf (Nat.le_of_ble_eq_true rfl) rfl dX7_puts_22 (fun S H locs hG hf => ?_)
    obtain ⟨rfl, rfl⟩ := z_p hf
    exact kk _ _ _ ⟨_, _, rfl, dX7_puts_23⟩ hG
theorem ctm_puts (Γ : zG) (l : Launch) (a1 : Int32) (a2 : Int32) : mCt Γ l yX7_puts (ws_ yX7_puts cX7_puts 3 none) 0 0 [.ref (G_m Γ 0), .int a1, .int a2] (m_puts a1 a2) zov := mCt.mkv (by decide +kernel) (Nat.le_of_ble_eq_true rfl) (wm_puts Γ l a1 a2)
theorem ytm_puts : yX7_puts.cls = RX7 ∧ yX7_puts.cls ≠ "java/lang/invoke/MethodHandle" ∧ yX7_puts.cls ≠ "java/lang/invoke/VarHandle" ∧ (parseMethodDescriptor yX7_puts.desc).map (fun d => d.parameters.length) = some 2 := by decide +kernel
set_option maxHeartbeats 4000000 in
theorem wm_must (Γ : zG) (l : Launch) (a1 : Int32) : mRg Γ l yX7_must cX7_must 2 none 4 87 (m_must a1) (zAt0 2 0 (lv_args 0 [.ref (G_m Γ 0), .int a1]) []) (zLv cX7_must) := by
  intro p e R s m args below meth c Q A S H locs x S' g C hG hI hf kk
  obtain ⟨ls, rfl, hl⟩ := hI
  obtain ⟨⟨hx, hb, hml, hown, hts⟩, hr, hlk, hK, hR1, hR2⟩ := id C
  have C : zCx Γ p R s m args meth c cX7_must 2 RX7 none 4 87 := C
  have hl : lv_has ls 2 [(0, .ref (G_m Γ 0)), (1, .int a1)] := hl
  refine lv_aload_n hx hb dX7_must_0 rfl (lv_at hl 0 rfl) ?_
  refine lv_iload_n hx hb dX7_must_1 rfl (lv_at hl 1 rfl) ?_
  refine zm_cvi (As := [.int a1]) (rest := []) C hG hf (ctm_isWord Γ l a1) (lw_V q1664 q1666 qs50 q107 q1667) ytm_isWord rfl rfl (Nat.le_of_ble_eq_true rfl) (Nat.le_of_ble_eq_true rfl) hl.1 (Nat.le_of_ble_eq_true rfl) dX7_must_2 (fun v2 S H locs hG hf => ?_)
  refine lv_if_eq (tgt := 15) hx hb dX7_must_5 (by decide) (fun c5 => ?_) (fun c5 => ?_)
  · have hf := z_t c5 hf
    refine lv_aload_n hx hb dX7_must_15 rfl (lv_at hl 0 rfl) ?_
    refine zm_cvv (As := []) (rest := []) C hG hf (ctm_ends Γ l) (lw_V q1652 q1654 qs47 q107 q1655) ytm_ends rfl rfl (Nat.le_of_ble_eq_true rfl) (Nat.le_of_ble_eq_true rfl) hl.1 (Nat.le_of_ble_eq_true rfl) dX7_must_16 (fun S H locs hG hf => ?_)
    obtain ⟨rfl, rfl⟩ := z_p hf
    exact kk _ _ _ ⟨_, _, rfl, dX7_must_19⟩ hG
  · have hf := z_f c5 hf
    refine lv_aload_n hx hb dX7_must_8 rfl (lv_at hl 0 rfl) ?_
    refine zm_cvv (As := []) (rest := []) C hG hf (ctm_advance Γ l) (lw_V q1622 q1624 qs44 q107 q1625) ytm_advance rfl rfl (Nat.le_of_ble_eq_true rfl) (Nat.le_of_ble_eq_true rfl) hl.1 (Nat.le_of_ble_eq_true rfl) dX7_must_9 (fun S H locs hG hf => ?_)
    refine lv_goto (tgt := 19) hx hb dX7_must_12 (by decide) ?_
    obtain ⟨rfl, rfl⟩ := z_p hf
    exact kk _ _ _ ⟨_, _, rfl, dX7_must_19⟩ hG
theorem ctm_must (Γ : zG) (l : Launch) (a1 : Int32) : mCt Γ l yX7_must (ws_ yX7_must cX7_must 2 none) 4 87 [.ref (G_m Γ 0), .int a1] (m_must a1) zov := mCt.mkv (by decide +kernel) (Nat.le_of_ble_eq_true rfl) (wm_must Γ l a1)
theorem ytm_must : yX7_must.cls = RX7 ∧ yX7_must.cls ≠ "java/lang/invoke/MethodHandle" ∧ yX7_must.cls ≠ "java/lang/invoke/VarHandle" ∧ (parseMethodDescriptor yX7_must.desc).map (fun d => d.parameters.length) = some 1 := by decide +kernel
set_option maxHeartbeats 4000000 in
theorem wm_oneTo (Γ : zG) (l : Launch) (a1 : Int32) (a2 : Int32) : mRg Γ l yX7_oneTo cX7_oneTo 3 none 5 109 (m_oneTo a1 a2) (zAt0 3 0 (lv_args 0 [.ref (G_m Γ 0), .int a1, .int a2]) []) (zLv cX7_oneTo) := by
  intro p e R s m args below meth c Q A S H locs x S' g C hG hI hf kk
  obtain ⟨ls, rfl, hl⟩ := hI
  obtain ⟨⟨hx, hb, hml, hown, hts⟩, hr, hlk, hK, hR1, hR2⟩ := id C
  have C : zCx Γ p R s m args meth c cX7_oneTo 3 RX7 none 5 109 := C
  have hl : lv_has ls 3 [(0, .ref (G_m Γ 0)), (1, .int a1), (2, .int a2)] := hl
  refine lv_aload_n hx hb dX7_oneTo_0 rfl (lv_at hl 0 rfl) ?_
  refine lv_iconst (v := zi 1) hx hb dX7_oneTo_1 rfl ?_
  refine lv_aload_n hx hb dX7_oneTo_2 rfl (lv_at hl 0 rfl) ?_
  refine lv_iload_n hx hb dX7_oneTo_3 rfl (lv_at hl 1 rfl) ?_
  refine zm_cvi (As := [.int a1]) (rest := [.int (zi 1), .ref (G_m Γ 0)]) C hG hf (ctm_numbered Γ l a1) (lw_V q1660 q1662 qs49 q107 q1663) ytm_numbered rfl rfl (Nat.le_of_ble_eq_true rfl) (Nat.le_of_ble_eq_true rfl) hl.1 (Nat.le_of_ble_eq_true rfl) dX7_oneTo_4 (fun v4 S H locs hG hf => ?_)
  refine zm_cvv (As := [.int (zi 1), .int v4]) (rest := []) C hG hf (ctm_puts Γ l (zi 1) v4) (lw_V q1973 q1975 qs88 q107 q1976) ytm_puts rfl rfl (Nat.le_of_ble_eq_true rfl) (Nat.le_of_ble_eq_true rfl) hl.1 (Nat.le_of_ble_eq_true rfl) dX7_oneTo_7 (fun S H locs hG hf => ?_)
  refine lv_aload_n hx hb dX7_oneTo_10 rfl (lv_at hl 0 rfl) ?_
  refine lv_bipush (v := zi 11) hx hb dX7_oneTo_11 (by decide +kernel) ?_
  refine zm_cvv (As := [.int (zi 11)]) (rest := []) C hG hf (ctm_must Γ l (zi 11)) (lw_V q1977 q1979 qs89 q107 q1980) ytm_must rfl rfl (Nat.le_of_ble_eq_true rfl) (Nat.le_of_ble_eq_true rfl) hl.1 (Nat.le_of_ble_eq_true rfl) dX7_oneTo_13 (fun S H locs hG hf => ?_)
  refine lv_aload_n hx hb dX7_oneTo_16 rfl (lv_at hl 0 rfl) ?_
  refine lv_iconst (v := zi 2) hx hb dX7_oneTo_17 rfl ?_
  refine lv_aload_n hx hb dX7_oneTo_18 rfl (lv_at hl 0 rfl) ?_
  refine lv_iload_n hx hb dX7_oneTo_19 rfl (lv_at hl 2 rfl) ?_
  refine zm_cvi (As := [.int a2]) (rest := [.int (zi 2), .ref (G_m Γ 0)]) C hG hf (ctm_numbered Γ l a2) (lw_V q1660 q1662 qs49 q107 q1663) ytm_numbered rfl rfl (Nat.le_of_ble_eq_true rfl) (Nat.le_of_ble_eq_true rfl) hl.1 (Nat.le_of_ble_eq_true rfl) dX7_oneTo_20 (fun v20 S H locs hG hf => ?_)
  refine zm_cvv (As := [.int (zi 2), .int v20]) (rest := []) C hG hf (ctm_puts Γ l (zi 2) v20) (lw_V q1973 q1975 qs88 q107 q1976) ytm_puts rfl rfl (Nat.le_of_ble_eq_true rfl) (Nat.le_of_ble_eq_true rfl) hl.1 (Nat.le_of_ble_eq_true rfl) dX7_oneTo_23 (fun S H locs hG hf => ?_)
  obtain ⟨rfl, rfl⟩ := z_p hf
  exact kk _ _ _ ⟨_, _, rfl, dX7_oneTo_26⟩ hG
theorem ctm_oneTo (Γ : zG) (l : Launch) (a1 : Int32) (a2 : Int32) : mCt Γ l yX7_oneTo (ws_ yX7_oneTo cX7_oneTo 3 none) 5 109 [.ref (G_m Γ 0), .int a1, .int a2] (m_oneTo a1 a2) zov := mCt.mkv (by decide +kernel) (Nat.le_of_ble_eq_true rfl) (wm_oneTo Γ l a1 a2)
theorem ytm_oneTo : yX7_oneTo.cls = RX7 ∧ yX7_oneTo.cls ≠ "java/lang/invoke/MethodHandle" ∧ yX7_oneTo.cls ≠ "java/lang/invoke/VarHandle" ∧ (parseMethodDescriptor yX7_oneTo.desc).map (fun d => d.parameters.length) = some 2 := by decide +kernel
set_option maxHeartbeats 4000000 in
theorem wm_aLine_j43 (Γ : zG) (l : Launch) : mRg Γ l yX7_aLine cX7_aLine 2 none 6 131 (m_aLine_j43) (zAt0 2 43 [(0, .ref (G_m Γ 0))] []) (zLv cX7_aLine) := by
  intro p e R s m args below meth c Q A S H locs x S' g C hG hI hf kk
  obtain ⟨ls, rfl, hl⟩ := hI
  obtain ⟨⟨hx, hb, hml, hown, hts⟩, hr, hlk, hK, hR1, hR2⟩ := id C
  have C : zCx Γ p R s m args meth c cX7_aLine 2 RX7 none 6 131 := C
  refine lv_aload_n hx hb dX7_aLine_43 rfl (lv_at hl 0 rfl) ?_
  refine zm_cvv (As := []) (rest := []) C hG hf (ctm_ends Γ l) (lw_V q1652 q1654 qs47 q107 q1655) ytm_ends rfl rfl (Nat.le_of_ble_eq_true rfl) (Nat.le_of_ble_eq_true rfl) hl.1 (Nat.le_of_ble_eq_true rfl) dX7_aLine_44 (fun S H locs hG hf => ?_)
  obtain ⟨rfl, rfl⟩ := z_p hf
  exact kk _ _ _ ⟨_, _, rfl, dX7_aLine_47⟩ hG
set_option maxHeartbeats 4000000 in
theorem wm_aLine_j144 (Γ : zG) (l : Launch) : mRg Γ l yX7_aLine cX7_aLine 2 none 6 131 (m_aLine_j144) (zAt0 2 144 [(0, .ref (G_m Γ 0))] []) (zLv cX7_aLine) := by
  intro p e R s m args below meth c Q A S H locs x S' g C hG hI hf kk
  obtain ⟨ls, rfl, hl⟩ := hI
  obtain ⟨⟨hx, hb, hml, hown, hts⟩, hr, hlk, hK, hR1, hR2⟩ := id C
  have C : zCx Γ p R s m args meth c cX7_aLine 2 RX7 none 6 131 := C
  refine lv_aload_n hx hb dX7_aLine_144 rfl (lv_at hl 0 rfl) ?_
  refine zm_cvv (As := []) (rest := []) C hG hf (ctm_ends Γ l) (lw_V q1652 q1654 qs47 q107 q1655) ytm_ends rfl rfl (Nat.le_of_ble_eq_true rfl) (Nat.le_of_ble_eq_true rfl) hl.1 (Nat.le_of_ble_eq_true rfl) dX7_aLine_145 (fun S H locs hG hf => ?_)
  obtain ⟨rfl, rfl⟩ := z_p hf
  exact kk _ _ _ ⟨_, _, rfl, dX7_aLine_148⟩ hG
set_option maxHeartbeats 4000000 in
theorem wm_aLine_j305 (Γ : zG) (l : Launch) : mRg Γ l yX7_aLine cX7_aLine 2 none 6 131 (m_aLine_j305) (zAt0 2 305 [(0, .ref (G_m Γ 0))] []) (zLv cX7_aLine) := by
  intro p e R s m args below meth c Q A S H locs x S' g C hG hI hf kk
  obtain ⟨ls, rfl, hl⟩ := hI
  obtain ⟨⟨hx, hb, hml, hown, hts⟩, hr, hlk, hK, hR1, hR2⟩ := id C
  have C : zCx Γ p R s m args meth c cX7_aLine 2 RX7 none 6 131 := C
  refine lv_aload_n hx hb dX7_aLine_305 rfl (lv_at hl 0 rfl) ?_
  refine lv_dup hx hb dX7_aLine_306 rfl ?_
  refine zm_gf C hG 42 hf (Nat.le_of_ble_eq_true rfl) rfl q1485 dX7_aLine_307 (fun v307 hf => ?_)
  refine lv_iconst (v := zi 1) hx hb dX7_aLine_310 rfl ?_
  refine lv_iadd hx hb dX7_aLine_311 ?_
  refine zm_pf C hG 42 hf (Nat.le_of_ble_eq_true rfl) rfl rfl (by decide +kernel) q1485 dX7_aLine_312 (fun S H locs hG hf => ?_)
  obtain ⟨rfl, rfl⟩ := z_p hf
  exact kk _ _ _ ⟨_, _, rfl, dX7_aLine_315⟩ hG
set_option maxHeartbeats 4000000 in
theorem wm_aLine_j285 (Γ : zG) (l : Launch) : mRg Γ l yX7_aLine cX7_aLine 2 none 6 131 (m_aLine_j285) (zAt0 2 285 [(0, .ref (G_m Γ 0))] []) (zLv cX7_aLine) := by
  intro p e R s m args below meth c Q A S H locs x S' g C hG hI hf kk
  obtain ⟨ls, rfl, hl⟩ := hI
  obtain ⟨⟨hx, hb, hml, hown, hts⟩, hr, hlk, hK, hR1, hR2⟩ := id C
  have C : zCx Γ p R s m args meth c cX7_aLine 2 RX7 none 6 131 := C
  refine lv_aload_n hx hb dX7_aLine_285 rfl (lv_at hl 0 rfl) ?_
  refine lv_bipush (v := zi 59) hx hb dX7_aLine_286 (by decide +kernel) ?_
  refine zm_cvi (As := [.int (zi 59)]) (rest := []) C hG hf (ctm_isSign Γ l (zi 59)) (lw_V q1668 q1670 qs51 q107 q1671) ytm_isSign rfl rfl (Nat.le_of_ble_eq_true rfl) (Nat.le_of_ble_eq_true rfl) hl.1 (Nat.le_of_ble_eq_true rfl) dX7_aLine_288 (fun v288 S H locs hG hf => ?_)
  refine lv_if_eq (tgt := 301) hx hb dX7_aLine_291 (by decide) (fun c291 => ?_) (fun c291 => ?_)
  · have hf := z_t c291 hf
    refine lv_aload_n hx hb dX7_aLine_301 rfl (lv_at hl 0 rfl) ?_
    refine zm_cvv (As := []) (rest := []) C hG hf (ctm_ends Γ l) (lw_V q1652 q1654 qs47 q107 q1655) ytm_ends rfl rfl (Nat.le_of_ble_eq_true rfl) (Nat.le_of_ble_eq_true rfl) hl.1 (Nat.le_of_ble_eq_true rfl) dX7_aLine_302 (fun S H locs hG hf => ?_)
    exact wm_aLine_j305 Γ l p e R s m args below meth c Q A _ _ _ _ _ _ C hG ⟨ls, rfl, lv_sub hl [0] rfl⟩ hf kk
  · have hf := z_f c291 hf
    refine lv_aload_n hx hb dX7_aLine_294 rfl (lv_at hl 0 rfl) ?_
    refine zm_cvv (As := []) (rest := []) C hG hf (ctm_advance Γ l) (lw_V q1622 q1624 qs44 q107 q1625) ytm_advance rfl rfl (Nat.le_of_ble_eq_true rfl) (Nat.le_of_ble_eq_true rfl) hl.1 (Nat.le_of_ble_eq_true rfl) dX7_aLine_295 (fun S H locs hG hf => ?_)
    refine lv_goto (tgt := 305) hx hb dX7_aLine_298 (by decide) ?_
    exact wm_aLine_j305 Γ l p e R s m args below meth c Q A _ _ _ _ _ _ C hG ⟨ls, rfl, lv_sub hl [0] rfl⟩ hf kk
set_option maxHeartbeats 4000000 in
theorem wm_aLine_j240 (Γ : zG) (l : Launch) : mRg Γ l yX7_aLine cX7_aLine 2 none 6 131 (m_aLine_j240) (zAt0 2 240 [(0, .ref (G_m Γ 0))] []) (zLv cX7_aLine) := by
  intro p e R s m args below meth c Q A S H locs x S' g C hG hI hf kk
  obtain ⟨ls, rfl, hl⟩ := hI
  obtain ⟨⟨hx, hb, hml, hown, hts⟩, hr, hlk, hK, hR1, hR2⟩ := id C
  have C : zCx Γ p R s m args meth c cX7_aLine 2 RX7 none 6 131 := C
  refine lv_aload_n hx hb dX7_aLine_240 rfl (lv_at hl 0 rfl) ?_
  refine lv_iconst (v := zi 2) hx hb dX7_aLine_241 rfl ?_
  refine lv_aload_n hx hb dX7_aLine_242 rfl (lv_at hl 0 rfl) ?_
  refine lv_bipush (v := zi 99) hx hb dX7_aLine_243 (by decide +kernel) ?_
  refine zm_cvi (As := [.int (zi 99)]) (rest := [.int (zi 2), .ref (G_m Γ 0)]) C hG hf (ctm_numbered Γ l (zi 99)) (lw_V q1660 q1662 qs49 q107 q1663) ytm_numbered rfl rfl (Nat.le_of_ble_eq_true rfl) (Nat.le_of_ble_eq_true rfl) hl.1 (Nat.le_of_ble_eq_true rfl) dX7_aLine_245 (fun v245 S H locs hG hf => ?_)
  refine zm_cvv (As := [.int (zi 2), .int v245]) (rest := []) C hG hf (ctm_puts Γ l (zi 2) v245) (lw_V q1973 q1975 qs88 q107 q1976) ytm_puts rfl rfl (Nat.le_of_ble_eq_true rfl) (Nat.le_of_ble_eq_true rfl) hl.1 (Nat.le_of_ble_eq_true rfl) dX7_aLine_248 (fun S H locs hG hf => ?_)
  refine lv_aload_n hx hb dX7_aLine_251 rfl (lv_at hl 0 rfl) ?_
  refine lv_bipush (v := zi 16) hx hb dX7_aLine_252 (by decide +kernel) ?_
  refine zm_cvv (As := [.int (zi 16)]) (rest := []) C hG hf (ctm_must Γ l (zi 16)) (lw_V q1977 q1979 qs89 q107 q1980) ytm_must rfl rfl (Nat.le_of_ble_eq_true rfl) (Nat.le_of_ble_eq_true rfl) hl.1 (Nat.le_of_ble_eq_true rfl) dX7_aLine_254 (fun S H locs hG hf => ?_)
  refine lv_aload_n hx hb dX7_aLine_257 rfl (lv_at hl 0 rfl) ?_
  refine lv_iconst (v := zi 3) hx hb dX7_aLine_258 rfl ?_
  refine lv_aload_n hx hb dX7_aLine_259 rfl (lv_at hl 0 rfl) ?_
  refine lv_bipush (v := zi 20) hx hb dX7_aLine_260 (by decide +kernel) ?_
  refine zm_cvi (As := [.int (zi 20)]) (rest := [.int (zi 3), .ref (G_m Γ 0)]) C hG hf (ctm_numbered Γ l (zi 20)) (lw_V q1660 q1662 qs49 q107 q1663) ytm_numbered rfl rfl (Nat.le_of_ble_eq_true rfl) (Nat.le_of_ble_eq_true rfl) hl.1 (Nat.le_of_ble_eq_true rfl) dX7_aLine_262 (fun v262 S H locs hG hf => ?_)
  refine zm_cvv (As := [.int (zi 3), .int v262]) (rest := []) C hG hf (ctm_puts Γ l (zi 3) v262) (lw_V q1973 q1975 qs88 q107 q1976) ytm_puts rfl rfl (Nat.le_of_ble_eq_true rfl) (Nat.le_of_ble_eq_true rfl) hl.1 (Nat.le_of_ble_eq_true rfl) dX7_aLine_265 (fun S H locs hG hf => ?_)
  refine lv_goto (tgt := 285) hx hb dX7_aLine_268 (by decide) ?_
  exact wm_aLine_j285 Γ l p e R s m args below meth c Q A _ _ _ _ _ _ C hG ⟨ls, rfl, lv_sub hl [0] rfl⟩ hf kk
set_option maxHeartbeats 4000000 in
theorem wm_aLine_j66 (Γ : zG) (l : Launch) (b1 : Int32) : mRg Γ l yX7_aLine cX7_aLine 2 none 6 131 (m_aLine_j66 b1) (zAt0 2 66 [(0, .ref (G_m Γ 0)), (1, .int b1)] []) (zLv cX7_aLine) := by
  intro p e R s m args below meth c Q A S H locs x S' g C hG hI hf kk
  obtain ⟨ls, rfl, hl⟩ := hI
  obtain ⟨⟨hx, hb, hml, hown, hts⟩, hr, hlk, hK, hR1, hR2⟩ := id C
  have C : zCx Γ p R s m args meth c cX7_aLine 2 RX7 none 6 131 := C
  refine lv_aload_n hx hb dX7_aLine_66 rfl (lv_at hl 0 rfl) ?_
  refine zm_cvv (As := []) (rest := []) C hG hf (ctm_advance Γ l) (lw_V q1622 q1624 qs44 q107 q1625) ytm_advance rfl rfl (Nat.le_of_ble_eq_true rfl) (Nat.le_of_ble_eq_true rfl) hl.1 (Nat.le_of_ble_eq_true rfl) dX7_aLine_67 (fun S H locs hG hf => ?_)
  refine lv_aload_n hx hb dX7_aLine_70 rfl (lv_at hl 0 rfl) ?_
  refine lv_iconst (v := zi 0) hx hb dX7_aLine_71 rfl ?_
  refine lv_iload_n hx hb dX7_aLine_72 rfl (lv_at hl 1 rfl) ?_
  refine zm_cvv (As := [.int (zi 0), .int b1]) (rest := []) C hG hf (ctm_puts Γ l (zi 0) b1) (lw_V q1973 q1975 qs88 q107 q1976) ytm_puts rfl rfl (Nat.le_of_ble_eq_true rfl) (Nat.le_of_ble_eq_true rfl) hl.1 (Nat.le_of_ble_eq_true rfl) dX7_aLine_73 (fun S H locs hG hf => ?_)
  refine lv_iload_n hx hb dX7_aLine_76 rfl (lv_at hl 1 rfl) ?_
  by_cases c77_0 : b1 = zi 10
  · have hf := z_t c77_0 hf
    refine lv_tableIn (off := 43) (tgt := 120) hx hb dX7_aLine_77 (by rw [c77_0]; decide +kernel) (by rw [c77_0]; decide +kernel) (by rw [c77_0]; decide +kernel) (by decide) ?_
    refine lv_aload_n hx hb dX7_aLine_120 rfl (lv_at hl 0 rfl) ?_
    refine zm_gf C hG 9 hf (Nat.le_of_ble_eq_true rfl) rfl q1452 dX7_aLine_121 (fun v121 hf => ?_)
    refine lv_if_ne (tgt := 144) hx hb dX7_aLine_124 (by decide) (fun c124 => ?_) (fun c124 => ?_)
    · have hf := z_f c124 hf
      exact wm_aLine_j144 Γ l p e R s m args below meth c Q A _ _ _ _ _ _ C hG ⟨ls, rfl, lv_sub hl [0] rfl⟩ hf kk
    · have hf := z_t c124 hf
      refine lv_aload_n hx hb dX7_aLine_127 rfl (lv_at hl 0 rfl) ?_
      refine zm_gf C hG 5 hf (Nat.le_of_ble_eq_true rfl) rfl q1448 dX7_aLine_128 (fun v128 hf => ?_)
      refine lv_iconst (v := zi 3) hx hb dX7_aLine_131 rfl ?_
      refine lv_icmp_ne (tgt := 144) hx hb dX7_aLine_132 (by decide) (fun c132 => ?_) (fun c132 => ?_)
      · have hf := z_f c132 hf
        exact wm_aLine_j144 Γ l p e R s m args below meth c Q A _ _ _ _ _ _ C hG ⟨ls, rfl, lv_sub hl [0] rfl⟩ hf kk
      · have hf := z_t c132 hf
        refine lv_aload_n hx hb dX7_aLine_135 rfl (lv_at hl 0 rfl) ?_
        refine zm_gf C hG 8 hf (Nat.le_of_ble_eq_true rfl) rfl q1451 dX7_aLine_136 (fun v136 hf => ?_)
        refine lv_bipush (v := zi 7) hx hb dX7_aLine_139 (by decide +kernel) ?_
        refine lv_icmp_le (tgt := 149) hx hb dX7_aLine_141 (by decide) (fun c141 => ?_) (fun c141 => ?_)
        · have hf := z_t c141 hf
          refine lv_aload_n hx hb dX7_aLine_149 rfl (lv_at hl 0 rfl) ?_
          refine lv_iconst (v := zi 1) hx hb dX7_aLine_150 rfl ?_
          refine lv_aload_n hx hb dX7_aLine_151 rfl (lv_at hl 0 rfl) ?_
          refine zm_gf C hG 8 hf (Nat.le_of_ble_eq_true rfl) rfl q1451 dX7_aLine_152 (fun v152 hf => ?_)
          refine zm_cvv (As := [.int (zi 1), .int v152]) (rest := []) C hG hf (ctm_puts Γ l (zi 1) v152) (lw_V q1973 q1975 qs88 q107 q1976) ytm_puts rfl rfl (Nat.le_of_ble_eq_true rfl) (Nat.le_of_ble_eq_true rfl) hl.1 (Nat.le_of_ble_eq_true rfl) dX7_aLine_155 (fun S H locs hG hf => ?_)
          refine lv_aload_n hx hb dX7_aLine_158 rfl (lv_at hl 0 rfl) ?_
          refine zm_cvv (As := []) (rest := []) C hG hf (ctm_advance Γ l) (lw_V q1622 q1624 qs44 q107 q1625) ytm_advance rfl rfl (Nat.le_of_ble_eq_true rfl) (Nat.le_of_ble_eq_true rfl) hl.1 (Nat.le_of_ble_eq_true rfl) dX7_aLine_159 (fun S H locs hG hf => ?_)
          refine lv_aload_n hx hb dX7_aLine_162 rfl (lv_at hl 0 rfl) ?_
          refine lv_bipush (v := zi 11) hx hb dX7_aLine_163 (by decide +kernel) ?_
          refine zm_cvv (As := [.int (zi 11)]) (rest := []) C hG hf (ctm_must Γ l (zi 11)) (lw_V q1977 q1979 qs89 q107 q1980) ytm_must rfl rfl (Nat.le_of_ble_eq_true rfl) (Nat.le_of_ble_eq_true rfl) hl.1 (Nat.le_of_ble_eq_true rfl) dX7_aLine_165 (fun S H locs hG hf => ?_)
          refine lv_aload_n hx hb dX7_aLine_168 rfl (lv_at hl 0 rfl) ?_
          refine lv_iconst (v := zi 2) hx hb dX7_aLine_169 rfl ?_
          refine lv_aload_n hx hb dX7_aLine_170 rfl (lv_at hl 0 rfl) ?_
          refine lv_iconst (v := zi 5) hx hb dX7_aLine_171 rfl ?_
          refine zm_cvi (As := [.int (zi 5)]) (rest := [.int (zi 2), .ref (G_m Γ 0)]) C hG hf (ctm_numbered Γ l (zi 5)) (lw_V q1660 q1662 qs49 q107 q1663) ytm_numbered rfl rfl (Nat.le_of_ble_eq_true rfl) (Nat.le_of_ble_eq_true rfl) hl.1 (Nat.le_of_ble_eq_true rfl) dX7_aLine_172 (fun v172 S H locs hG hf => ?_)
          refine zm_cvv (As := [.int (zi 2), .int v172]) (rest := []) C hG hf (ctm_puts Γ l (zi 2) v172) (lw_V q1973 q1975 qs88 q107 q1976) ytm_puts rfl rfl (Nat.le_of_ble_eq_true rfl) (Nat.le_of_ble_eq_true rfl) hl.1 (Nat.le_of_ble_eq_true rfl) dX7_aLine_175 (fun S H locs hG hf => ?_)
          refine lv_goto (tgt := 285) hx hb dX7_aLine_178 (by decide) ?_
          exact wm_aLine_j285 Γ l p e R s m args below meth c Q A _ _ _ _ _ _ C hG ⟨ls, rfl, lv_sub hl [0] rfl⟩ hf kk
        · have hf := z_f c141 hf
          exact wm_aLine_j144 Γ l p e R s m args below meth c Q A _ _ _ _ _ _ C hG ⟨ls, rfl, lv_sub hl [0] rfl⟩ hf kk
  · have hf := z_f c77_0 hf
    by_cases c77_1 : b1 = zi 11
    · have hf := z_t c77_1 hf
      refine lv_tableIn (off := 208) (tgt := 285) hx hb dX7_aLine_77 (by rw [c77_1]; decide +kernel) (by rw [c77_1]; decide +kernel) (by rw [c77_1]; decide +kernel) (by decide) ?_
      exact wm_aLine_j285 Γ l p e R s m args below meth c Q A _ _ _ _ _ _ C hG ⟨ls, rfl, lv_sub hl [0] rfl⟩ hf kk
    · have hf := z_f c77_1 hf
      by_cases c77_2 : b1 = zi 12
      · have hf := z_t c77_2 hf
        refine lv_tableIn (off := 104) (tgt := 181) hx hb dX7_aLine_77 (by rw [c77_2]; decide +kernel) (by rw [c77_2]; decide +kernel) (by rw [c77_2]; decide +kernel) (by decide) ?_
        refine lv_aload_n hx hb dX7_aLine_181 rfl (lv_at hl 0 rfl) ?_
        refine lv_iconst (v := zi 5) hx hb dX7_aLine_182 rfl ?_
        refine lv_iconst (v := zi 5) hx hb dX7_aLine_183 rfl ?_
        refine zm_cvv (As := [.int (zi 5), .int (zi 5)]) (rest := []) C hG hf (ctm_oneTo Γ l (zi 5) (zi 5)) (lw_V q1981 q1983 qs90 q107 q1984) ytm_oneTo rfl rfl (Nat.le_of_ble_eq_true rfl) (Nat.le_of_ble_eq_true rfl) hl.1 (Nat.le_of_ble_eq_true rfl) dX7_aLine_184 (fun S H locs hG hf => ?_)
        refine lv_goto (tgt := 285) hx hb dX7_aLine_187 (by decide) ?_
        exact wm_aLine_j285 Γ l p e R s m args below meth c Q A _ _ _ _ _ _ C hG ⟨ls, rfl, lv_sub hl [0] rfl⟩ hf kk
      · have hf := z_f c77_2 hf
        by_cases c77_3 : b1 = zi 13
        · have hf := z_t c77_3 hf
          refine lv_tableIn (off := 113) (tgt := 190) hx hb dX7_aLine_77 (by rw [c77_3]; decide +kernel) (by rw [c77_3]; decide +kernel) (by rw [c77_3]; decide +kernel) (by decide) ?_
          refine lv_aload_n hx hb dX7_aLine_190 rfl (lv_at hl 0 rfl) ?_
          refine lv_bipush (v := zi 99) hx hb dX7_aLine_191 (by decide +kernel) ?_
          refine lv_iconst (v := zi 5) hx hb dX7_aLine_193 rfl ?_
          refine zm_cvv (As := [.int (zi 99), .int (zi 5)]) (rest := []) C hG hf (ctm_oneTo Γ l (zi 99) (zi 5)) (lw_V q1981 q1983 qs90 q107 q1984) ytm_oneTo rfl rfl (Nat.le_of_ble_eq_true rfl) (Nat.le_of_ble_eq_true rfl) hl.1 (Nat.le_of_ble_eq_true rfl) dX7_aLine_194 (fun S H locs hG hf => ?_)
          refine lv_goto (tgt := 285) hx hb dX7_aLine_197 (by decide) ?_
          exact wm_aLine_j285 Γ l p e R s m args below meth c Q A _ _ _ _ _ _ C hG ⟨ls, rfl, lv_sub hl [0] rfl⟩ hf kk
        · have hf := z_f c77_3 hf
          by_cases c77_4 : b1 = zi 14
          · have hf := z_t c77_4 hf
            refine lv_tableIn (off := 123) (tgt := 200) hx hb dX7_aLine_77 (by rw [c77_4]; decide +kernel) (by rw [c77_4]; decide +kernel) (by rw [c77_4]; decide +kernel) (by decide) ?_
            refine lv_aload_n hx hb dX7_aLine_200 rfl (lv_at hl 0 rfl) ?_
            refine lv_iconst (v := zi 5) hx hb dX7_aLine_201 rfl ?_
            refine lv_bipush (v := zi 9) hx hb dX7_aLine_202 (by decide +kernel) ?_
            refine zm_cvv (As := [.int (zi 5), .int (zi 9)]) (rest := []) C hG hf (ctm_oneTo Γ l (zi 5) (zi 9)) (lw_V q1981 q1983 qs90 q107 q1984) ytm_oneTo rfl rfl (Nat.le_of_ble_eq_true rfl) (Nat.le_of_ble_eq_true rfl) hl.1 (Nat.le_of_ble_eq_true rfl) dX7_aLine_204 (fun S H locs hG hf => ?_)
            refine lv_goto (tgt := 285) hx hb dX7_aLine_207 (by decide) ?_
            exact wm_aLine_j285 Γ l p e R s m args below meth c Q A _ _ _ _ _ _ C hG ⟨ls, rfl, lv_sub hl [0] rfl⟩ hf kk
          · have hf := z_f c77_4 hf
            by_cases c77_5 : b1 = zi 15
            · have hf := z_t c77_5 hf
              refine lv_tableIn (off := 133) (tgt := 210) hx hb dX7_aLine_77 (by rw [c77_5]; decide +kernel) (by rw [c77_5]; decide +kernel) (by rw [c77_5]; decide +kernel) (by decide) ?_
              refine lv_aload_n hx hb dX7_aLine_210 rfl (lv_at hl 0 rfl) ?_
              refine lv_iconst (v := zi 1) hx hb dX7_aLine_211 rfl ?_
              refine lv_aload_n hx hb dX7_aLine_212 rfl (lv_at hl 0 rfl) ?_
              refine lv_iconst (v := zi 5) hx hb dX7_aLine_213 rfl ?_
              refine zm_cvi (As := [.int (zi 5)]) (rest := [.int (zi 1), .ref (G_m Γ 0)]) C hG hf (ctm_numbered Γ l (zi 5)) (lw_V q1660 q1662 qs49 q107 q1663) ytm_numbered rfl rfl (Nat.le_of_ble_eq_true rfl) (Nat.le_of_ble_eq_true rfl) hl.1 (Nat.le_of_ble_eq_true rfl) dX7_aLine_214 (fun v214 S H locs hG hf => ?_)
              refine zm_cvv (As := [.int (zi 1), .int v214]) (rest := []) C hG hf (ctm_puts Γ l (zi 1) v214) (lw_V q1973 q1975 qs88 q107 q1976) ytm_puts rfl rfl (Nat.le_of_ble_eq_true rfl) (Nat.le_of_ble_eq_true rfl) hl.1 (Nat.le_of_ble_eq_true rfl) dX7_aLine_217 (fun S H locs hG hf => ?_)
              refine lv_aload_n hx hb dX7_aLine_220 rfl (lv_at hl 0 rfl) ?_
              refine lv_bipush (v := zi 60) hx hb dX7_aLine_221 (by decide +kernel) ?_
              refine zm_cvi (As := [.int (zi 60)]) (rest := []) C hG hf (ctm_isSign Γ l (zi 60)) (lw_V q1668 q1670 qs51 q107 q1671) ytm_isSign rfl rfl (Nat.le_of_ble_eq_true rfl) (Nat.le_of_ble_eq_true rfl) hl.1 (Nat.le_of_ble_eq_true rfl) dX7_aLine_223 (fun v223 S H locs hG hf => ?_)
              refine lv_if_eq (tgt := 236) hx hb dX7_aLine_226 (by decide) (fun c226 => ?_) (fun c226 => ?_)
              · have hf := z_t c226 hf
                refine lv_aload_n hx hb dX7_aLine_236 rfl (lv_at hl 0 rfl) ?_
                refine zm_cvv (As := []) (rest := []) C hG hf (ctm_ends Γ l) (lw_V q1652 q1654 qs47 q107 q1655) ytm_ends rfl rfl (Nat.le_of_ble_eq_true rfl) (Nat.le_of_ble_eq_true rfl) hl.1 (Nat.le_of_ble_eq_true rfl) dX7_aLine_237 (fun S H locs hG hf => ?_)
                exact wm_aLine_j240 Γ l p e R s m args below meth c Q A _ _ _ _ _ _ C hG ⟨ls, rfl, lv_sub hl [0] rfl⟩ hf kk
              · have hf := z_f c226 hf
                refine lv_aload_n hx hb dX7_aLine_229 rfl (lv_at hl 0 rfl) ?_
                refine zm_cvv (As := []) (rest := []) C hG hf (ctm_advance Γ l) (lw_V q1622 q1624 qs44 q107 q1625) ytm_advance rfl rfl (Nat.le_of_ble_eq_true rfl) (Nat.le_of_ble_eq_true rfl) hl.1 (Nat.le_of_ble_eq_true rfl) dX7_aLine_230 (fun S H locs hG hf => ?_)
                refine lv_goto (tgt := 240) hx hb dX7_aLine_233 (by decide) ?_
                exact wm_aLine_j240 Γ l p e R s m args below meth c Q A _ _ _ _ _ _ C hG ⟨ls, rfl, lv_sub hl [0] rfl⟩ hf kk
            · have hf := z_f c77_5 hf
              by_cases c77_6 : b1 = zi 16
              · have hf := z_t c77_6 hf
                refine lv_tableIn (off := 194) (tgt := 271) hx hb dX7_aLine_77 (by rw [c77_6]; decide +kernel) (by rw [c77_6]; decide +kernel) (by rw [c77_6]; decide +kernel) (by decide) ?_
                refine lv_aload_n hx hb dX7_aLine_271 rfl (lv_at hl 0 rfl) ?_
                refine lv_iconst (v := zi 3) hx hb dX7_aLine_272 rfl ?_
                refine lv_aload_n hx hb dX7_aLine_273 rfl (lv_at hl 0 rfl) ?_
                refine lv_bipush (v := zi 20) hx hb dX7_aLine_274 (by decide +kernel) ?_
                refine zm_cvi (As := [.int (zi 20)]) (rest := [.int (zi 3), .ref (G_m Γ 0)]) C hG hf (ctm_numbered Γ l (zi 20)) (lw_V q1660 q1662 qs49 q107 q1663) ytm_numbered rfl rfl (Nat.le_of_ble_eq_true rfl) (Nat.le_of_ble_eq_true rfl) hl.1 (Nat.le_of_ble_eq_true rfl) dX7_aLine_276 (fun v276 S H locs hG hf => ?_)
                refine zm_cvv (As := [.int (zi 3), .int v276]) (rest := []) C hG hf (ctm_puts Γ l (zi 3) v276) (lw_V q1973 q1975 qs88 q107 q1976) ytm_puts rfl rfl (Nat.le_of_ble_eq_true rfl) (Nat.le_of_ble_eq_true rfl) hl.1 (Nat.le_of_ble_eq_true rfl) dX7_aLine_279 (fun S H locs hG hf => ?_)
                refine lv_goto (tgt := 285) hx hb dX7_aLine_282 (by decide) ?_
                exact wm_aLine_j285 Γ l p e R s m args below meth c Q A _ _ _ _ _ _ C hG ⟨ls, rfl, lv_sub hl [0] rfl⟩ hf kk
              · have hf := z_f c77_6 hf
                refine lv_tableOut (tgt := 285) hx hb dX7_aLine_77 (z_tab (fun k h1 h2 => by rcases (show k = 10 ∨ k = 11 ∨ k = 12 ∨ k = 13 ∨ k = 14 ∨ k = 15 ∨ k = 16 by omega) with rfl | rfl | rfl | rfl | rfl | rfl | rfl <;> assumption)) (by decide) ?_
                exact wm_aLine_j285 Γ l p e R s m args below meth c Q A _ _ _ _ _ _ C hG ⟨ls, rfl, lv_sub hl [0] rfl⟩ hf kk
set_option maxHeartbeats 4000000 in
theorem wm_aLine (Γ : zG) (l : Launch) : mRg Γ l yX7_aLine cX7_aLine 2 none 6 131 (m_aLine) (zAt0 2 0 (lv_args 0 [.ref (G_m Γ 0)]) []) (zLv cX7_aLine) := by
  intro p e R s m args below meth c Q A S H locs x S' g C hG hI hf kk
  obtain ⟨ls, rfl, hl⟩ := hI
  obtain ⟨⟨hx, hb, hml, hown, hts⟩, hr, hlk, hK, hR1, hR2⟩ := id C
  have C : zCx Γ p R s m args meth c cX7_aLine 2 RX7 none 6 131 := C
  have hl : lv_has ls 2 [(0, .ref (G_m Γ 0))] := hl
  refine lv_aload_n hx hb dX7_aLine_0 rfl (lv_at hl 0 rfl) ?_
  refine zm_gf C hG 8 hf (Nat.le_of_ble_eq_true rfl) rfl q1451 dX7_aLine_1 (fun v1 hf => ?_)
  refine lv_istore_n (lv' := [(1, .int v1), (0, .ref (G_m Γ 0))]) hx hb dX7_aLine_4 rfl hl (Nat.le_of_ble_eq_true rfl) rfl (fun ls hl => ?_)
  refine lv_aload_n hx hb dX7_aLine_5 rfl (lv_at hl 1 rfl) ?_
  refine zm_gf C hG 9 hf (Nat.le_of_ble_eq_true rfl) rfl q1452 dX7_aLine_6 (fun v6 hf => ?_)
  refine lv_if_ne (tgt := 43) hx hb dX7_aLine_9 (by decide) (fun c9 => ?_) (fun c9 => ?_)
  · have hf := z_f c9 hf
    exact wm_aLine_j43 Γ l p e R s m args below meth c Q A _ _ _ _ _ _ C hG ⟨ls, rfl, lv_sub hl [1] rfl⟩ hf kk
  · have hf := z_t c9 hf
    refine lv_aload_n hx hb dX7_aLine_12 rfl (lv_at hl 1 rfl) ?_
    refine zm_gf C hG 5 hf (Nat.le_of_ble_eq_true rfl) rfl q1448 dX7_aLine_13 (fun v13 hf => ?_)
    refine lv_iconst (v := zi 3) hx hb dX7_aLine_16 rfl ?_
    refine lv_icmp_ne (tgt := 43) hx hb dX7_aLine_17 (by decide) (fun c17 => ?_) (fun c17 => ?_)
    · have hf := z_f c17 hf
      exact wm_aLine_j43 Γ l p e R s m args below meth c Q A _ _ _ _ _ _ C hG ⟨ls, rfl, lv_sub hl [1] rfl⟩ hf kk
    · have hf := z_t c17 hf
      refine lv_aload_n hx hb dX7_aLine_20 rfl (lv_at hl 1 rfl) ?_
      refine zm_gf C hG 8 hf (Nat.le_of_ble_eq_true rfl) rfl q1451 dX7_aLine_21 (fun v21 hf => ?_)
      refine lv_bipush (v := zi 10) hx hb dX7_aLine_24 (by decide +kernel) ?_
      refine lv_bipush (v := zi 17) hx hb dX7_aLine_26 (by decide +kernel) ?_
      refine zm_csi (As := [.int v21, .int (zi 10), .int (zi 17)]) (rest := []) C hG hf (ctm_isIn Γ l v21 (zi 10) (zi 17)) (lw_S q1612 q1613 q107 q1614) ytm_isIn rfl rfl (Nat.le_of_ble_eq_true rfl) (Nat.le_of_ble_eq_true rfl) hl.1 (Nat.le_of_ble_eq_true rfl) dX7_aLine_28 (fun v28 S H locs hG hf => ?_)
      refine lv_if_eq (tgt := 43) hx hb dX7_aLine_31 (by decide) (fun c31 => ?_) (fun c31 => ?_)
      · have hf := z_t c31 hf
        exact wm_aLine_j43 Γ l p e R s m args below meth c Q A _ _ _ _ _ _ C hG ⟨ls, rfl, lv_sub hl [1] rfl⟩ hf kk
      · have hf := z_f c31 hf
        refine lv_aload_n hx hb dX7_aLine_34 rfl (lv_at hl 1 rfl) ?_
        refine zm_gf C hG 8 hf (Nat.le_of_ble_eq_true rfl) rfl q1451 dX7_aLine_35 (fun v35 hf => ?_)
        refine lv_bipush (v := zi 11) hx hb dX7_aLine_38 (by decide +kernel) ?_
        refine lv_icmp_ne (tgt := 48) hx hb dX7_aLine_40 (by decide) (fun c40 => ?_) (fun c40 => ?_)
        · have hf := z_f c40 hf
          refine lv_aload_n hx hb dX7_aLine_48 rfl (lv_at hl 1 rfl) ?_
          refine zm_gf C hG 42 hf (Nat.le_of_ble_eq_true rfl) rfl q1485 dX7_aLine_49 (fun v49 hf => ?_)
          refine lv_bipush (v := zi 20) hx hb dX7_aLine_52 (by decide +kernel) ?_
          refine lv_icmp_ne (tgt := 66) hx hb dX7_aLine_54 (by decide) (fun c54 => ?_) (fun c54 => ?_)
          · have hf := z_f c54 hf
            exact wm_aLine_j66 Γ l v1 p e R s m args below meth c Q A _ _ _ _ _ _ C hG ⟨ls, rfl, lv_sub hl [1, 0] rfl⟩ hf kk
          · have hf := z_t c54 hf
            refine lv_aload_n hx hb dX7_aLine_57 rfl (lv_at hl 1 rfl) ?_
            refine lv_iconst (v := zi 3) hx hb dX7_aLine_58 rfl ?_
            refine lv_aload_n hx hb dX7_aLine_59 rfl (lv_at hl 1 rfl) ?_
            refine zm_gf C hG 4 hf (Nat.le_of_ble_eq_true rfl) rfl q1447 dX7_aLine_60 (fun v60 hf => ?_)
            refine zm_cvv (As := [.int (zi 3), .int v60]) (rest := []) C hG hf (ctm_also Γ l (zi 3) v60) (lw_V q1656 q1658 qs48 q107 q1659) ytm_also rfl rfl (Nat.le_of_ble_eq_true rfl) (Nat.le_of_ble_eq_true rfl) hl.1 (Nat.le_of_ble_eq_true rfl) dX7_aLine_63 (fun S H locs hG hf => ?_)
            exact wm_aLine_j66 Γ l v1 p e R s m args below meth c Q A _ _ _ _ _ _ C hG ⟨ls, rfl, lv_sub hl [1, 0] rfl⟩ hf kk
        · have hf := z_t c40 hf
          exact wm_aLine_j43 Γ l p e R s m args below meth c Q A _ _ _ _ _ _ C hG ⟨ls, rfl, lv_sub hl [1] rfl⟩ hf kk
theorem ctm_aLine (Γ : zG) (l : Launch) : mCt Γ l yX7_aLine (ws_ yX7_aLine cX7_aLine 2 none) 6 131 [.ref (G_m Γ 0)] (m_aLine) zov := mCt.mkv (by decide +kernel) (Nat.le_of_ble_eq_true rfl) (wm_aLine Γ l)
theorem ytm_aLine : yX7_aLine.cls = RX7 ∧ yX7_aLine.cls ≠ "java/lang/invoke/MethodHandle" ∧ yX7_aLine.cls ≠ "java/lang/invoke/VarHandle" ∧ (parseMethodDescriptor yX7_aLine.desc).map (fun d => d.parameters.length) = some 0 := by decide +kernel
def im_program_l24 (Γ : zG) (f1 : Int32) (m : MethodId) (s : Unit) (g : JFrame) : Prop := zAt0 3 24 [(0, .ref (G_m Γ 0)), (1, .int f1)] [] m g
def em_program_l24 (Γ : zG) (f1 : Int32) (m : MethodId) (e : Unit) (g : JFrame) : Prop := zAt0 3 45 [(0, .ref (G_m Γ 0)), (1, .int f1)] [] m g
set_option maxHeartbeats 4000000 in
theorem wm_program_l24_b (Γ : zG) (l : Launch) (f1 : Int32) : mRg Γ l yX7_program cX7_program 3 (some .int) 7 152 (m_program_l24 f1) (zAt0 3 24 [(0, .ref (G_m Γ 0)), (1, .int f1)] []) (zLE (im_program_l24 Γ f1) (em_program_l24 Γ f1)) := by
  intro p e R s m args below meth c Q A S H locs x S' g C hG hI hf kk
  obtain ⟨ls, rfl, hl⟩ := hI
  obtain ⟨⟨hx, hb, hml, hown, hts⟩, hr, hlk, hK, hR1, hR2⟩ := id C
  have C : zCx Γ p R s m args meth c cX7_program 3 RX7 (some .int) 7 152 := C
  refine lv_aload_n hx hb dX7_program_24 rfl (lv_at hl 0 rfl) ?_
  refine zm_gf C hG 9 hf (Nat.le_of_ble_eq_true rfl) rfl q1452 dX7_program_25 (fun v25 hf => ?_)
  refine lv_if_ne (tgt := 45) hx hb dX7_program_28 (by decide) (fun c28 => ?_) (fun c28 => ?_)
  · have hf := z_f c28 hf
    obtain ⟨rfl, rfl⟩ := z_p hf
    exact kk _ _ _ ⟨ls, rfl, lv_sub hl [0, 1] rfl⟩ hG
  · have hf := z_t c28 hf
    refine lv_aload_n hx hb dX7_program_31 rfl (lv_at hl 0 rfl) ?_
    refine zm_gf C hG 5 hf (Nat.le_of_ble_eq_true rfl) rfl q1448 dX7_program_32 (fun v32 hf => ?_)
    refine lv_if_eq (tgt := 45) hx hb dX7_program_35 (by decide) (fun c35 => ?_) (fun c35 => ?_)
    · have hf := z_t c35 hf
      obtain ⟨rfl, rfl⟩ := z_p hf
      exact kk _ _ _ ⟨ls, rfl, lv_sub hl [0, 1] rfl⟩ hG
    · have hf := z_f c35 hf
      refine lv_aload_n hx hb dX7_program_38 rfl (lv_at hl 0 rfl) ?_
      refine zm_cvv (As := []) (rest := []) C hG hf (ctm_aLine Γ l) (lw_V q1969 q1971 qs87 q107 q1972) ytm_aLine rfl rfl (Nat.le_of_ble_eq_true rfl) (Nat.le_of_ble_eq_true rfl) hl.1 (Nat.le_of_ble_eq_true rfl) dX7_program_39 (fun S H locs hG hf => ?_)
      refine lv_goto (tgt := 24) hx hb dX7_program_42 (by decide) ?_
      obtain ⟨rfl, rfl⟩ := z_p hf
      exact kk _ _ _ ⟨ls, rfl, lv_sub hl [0, 1] rfl⟩ hG
theorem wm_program_l24 (Γ : zG) (l : Launch) (f1 : Int32) : ∀ s : Unit, mRg Γ l yX7_program cX7_program 3 (some .int) 7 152 (m_program_l24 f1) (fun m => im_program_l24 Γ f1 m s) (zLE (im_program_l24 Γ f1) (em_program_l24 Γ f1)) := fun s => wm_program_l24_b Γ l f1
def im_program_l75 (Γ : zG) (f1 : Int32) (m : MethodId) (s : Int32) (g : JFrame) : Prop := zAt0 3 75 [(0, .ref (G_m Γ 0)), (1, .int f1), (2, .int s)] [] m g
def em_program_l75 (Γ : zG) (f1 : Int32) (m : MethodId) (e : Unit) (g : JFrame) : Prop := zAt0 3 107 [(0, .ref (G_m Γ 0))] [] m g
set_option maxHeartbeats 4000000 in
theorem wm_program_l75_b (Γ : zG) (l : Launch) (f1 : Int32) (s2 : Int32) : mRg Γ l yX7_program cX7_program 3 (some .int) 7 152 (m_program_l75 f1 s2) (zAt0 3 75 [(0, .ref (G_m Γ 0)), (1, .int f1), (2, .int s2)] []) (zLE (im_program_l75 Γ f1) (em_program_l75 Γ f1)) := by
  intro p e R s m args below meth c Q A S H locs x S' g C hG hI hf kk
  obtain ⟨ls, rfl, hl⟩ := hI
  obtain ⟨⟨hx, hb, hml, hown, hts⟩, hr, hlk, hK, hR1, hR2⟩ := id C
  have C : zCx Γ p R s m args meth c cX7_program 3 RX7 (some .int) 7 152 := C
  refine lv_iload_n hx hb dX7_program_75 rfl (lv_at hl 2 rfl) ?_
  refine lv_bipush (v := zi 80) hx hb dX7_program_76 (by decide +kernel) ?_
  refine lv_icmp_ge (tgt := 107) hx hb dX7_program_78 (by decide) (fun c78 => ?_) (fun c78 => ?_)
  · have hf := z_t c78 hf
    obtain ⟨rfl, rfl⟩ := z_p hf
    exact kk _ _ _ ⟨ls, rfl, lv_sub hl [0] rfl⟩ hG
  · have hf := z_f c78 hf
    refine lv_aload_n hx hb dX7_program_81 rfl (lv_at hl 0 rfl) ?_
    refine zm_ga C hG 0 (Nat.le_of_ble_eq_true rfl) (by decide) q1443 dX7_program_82 ?_
    refine lv_iload_n hx hb dX7_program_85 rfl (lv_at hl 1 rfl) ?_
    refine zm_csi (As := [.int f1]) (rest := [.ref (G_m Γ (0 + 1))]) C hG hf (ctm_pageAt Γ l f1) (lw_S q1683 q1684 q107 q1685) ytm_pageAt rfl rfl (Nat.le_of_ble_eq_true rfl) (Nat.le_of_ble_eq_true rfl) hl.1 (Nat.le_of_ble_eq_true rfl) dX7_program_86 (fun v86 S H locs hG hf => ?_)
    refine lv_bipush (v := zi 121) hx hb dX7_program_89 (by decide +kernel) ?_
    refine lv_iadd hx hb dX7_program_91 ?_
    refine lv_iload_n hx hb dX7_program_92 rfl (lv_at hl 2 rfl) ?_
    refine lv_iadd hx hb dX7_program_93 ?_
    refine lv_aload_n hx hb dX7_program_94 rfl (lv_at hl 0 rfl) ?_
    refine zm_ga C hG 43 (Nat.le_of_ble_eq_true rfl) (by decide) q1486 dX7_program_95 ?_
    refine lv_iload_n hx hb dX7_program_98 rfl (lv_at hl 2 rfl) ?_
    refine zm_al C hG 43 hf (Nat.le_of_ble_eq_true rfl) rfl dX7_program_99 (fun v99 hf => ?_)
    refine zm_as C hG 0 hf (Nat.le_of_ble_eq_true rfl) rfl dX7_program_100 (fun S H locs hG hf => ?_)
    refine z_iinc (fun v => [(2, .int v), (0, .ref (G_m Γ 0)), (1, .int f1)]) hx hb hf dX7_program_101 hl (k := 2) rfl (Nat.le_of_ble_eq_true rfl) (fun _ => rfl) (fun n101 ls hf hl => ?_)
    refine lv_goto (tgt := 75) hx hb dX7_program_104 (by decide) ?_
    obtain ⟨rfl, rfl⟩ := z_p hf
    exact kk _ _ _ ⟨ls, rfl, lv_sub hl [1, 2, 0] rfl⟩ hG
theorem wm_program_l75 (Γ : zG) (l : Launch) (f1 : Int32) : ∀ s : Int32, mRg Γ l yX7_program cX7_program 3 (some .int) 7 152 (m_program_l75 f1 s) (fun m => im_program_l75 Γ f1 m s) (zLE (im_program_l75 Γ f1) (em_program_l75 Γ f1)) := fun s => wm_program_l75_b Γ l f1 s
set_option maxHeartbeats 4000000 in
theorem wm_program (Γ : zG) (l : Launch) (a1 : Int32) : mRg Γ l yX7_program cX7_program 3 (some .int) 7 152 (m_program a1) (zAt0 3 0 (lv_args 0 [.ref (G_m Γ 0), .int a1]) []) (zLi cX7_program) := by
  intro p e R s m args below meth c Q A S H locs x S' g C hG hI hf kk
  obtain ⟨ls, rfl, hl⟩ := hI
  obtain ⟨⟨hx, hb, hml, hown, hts⟩, hr, hlk, hK, hR1, hR2⟩ := id C
  have C : zCx Γ p R s m args meth c cX7_program 3 RX7 (some .int) 7 152 := C
  have hl : lv_has ls 3 [(0, .ref (G_m Γ 0)), (1, .int a1)] := hl
  refine lv_aload_n hx hb dX7_program_0 rfl (lv_at hl 0 rfl) ?_
  refine zm_cvv (As := []) (rest := []) C hG hf (ctm_begins Γ l) (lw_V q1604 q1606 qs41 q107 q1607) ytm_begins rfl rfl (Nat.le_of_ble_eq_true rfl) (Nat.le_of_ble_eq_true rfl) hl.1 (Nat.le_of_ble_eq_true rfl) dX7_program_1 (fun S H locs hG hf => ?_)
  refine lv_aload_n hx hb dX7_program_4 rfl (lv_at hl 0 rfl) ?_
  refine lv_iload_n hx hb dX7_program_5 rfl (lv_at hl 1 rfl) ?_
  refine zm_cvi (As := [.int a1]) (rest := []) C hG hf (ctm_isPage Γ l a1) (lw_V q1701 q1703 qs54 q107 q1704) ytm_isPage rfl rfl (Nat.le_of_ble_eq_true rfl) (Nat.le_of_ble_eq_true rfl) hl.1 (Nat.le_of_ble_eq_true rfl) dX7_program_6 (fun v6 S H locs hG hf => ?_)
  refine lv_if_ne (tgt := 15) hx hb dX7_program_9 (by decide) (fun c9 => ?_) (fun c9 => ?_)
  · have hf := z_f c9 hf
    refine lv_aload_n hx hb dX7_program_15 rfl (lv_at hl 0 rfl) ?_
    refine lv_iconst (v := zi 0) hx hb dX7_program_16 rfl ?_
    refine zm_pf C hG 42 hf (Nat.le_of_ble_eq_true rfl) rfl rfl (by decide +kernel) q1485 dX7_program_17 (fun S H locs hG hf => ?_)
    refine lv_aload_n hx hb dX7_program_20 rfl (lv_at hl 0 rfl) ?_
    refine zm_cvv (As := []) (rest := []) C hG hf (ctm_advance Γ l) (lw_V q1622 q1624 qs44 q107 q1625) ytm_advance rfl rfl (Nat.le_of_ble_eq_true rfl) (Nat.le_of_ble_eq_true rfl) hl.1 (Nat.le_of_ble_eq_true rfl) dX7_program_21 (fun S H locs hG hf => ?_)
    obtain ⟨e24, S, hlp, hf⟩ := nB_some hf
    refine mRg.loop (wm_program_l24 Γ l a1) () p e R s m args below meth c Q A _ _ _ _ _ _ C hG ⟨ls, rfl, lv_sub hl [0, 1] rfl⟩ hlp (fun H locs g hL hG => ?_)
    obtain ⟨ls, rfl, hl⟩ := hL
    have hl : lv_has ls 3 [(0, .ref (G_m Γ 0)), (1, .int a1)] := hl
    refine lv_aload_n hx hb dX7_program_45 rfl (lv_at hl 0 rfl) ?_
    refine zm_ga C hG 0 (Nat.le_of_ble_eq_true rfl) (by decide) q1443 dX7_program_46 ?_
    refine lv_bipush (v := zi 7) hx hb dX7_program_49 (by decide +kernel) ?_
    refine zm_al C hG 0 hf (Nat.le_of_ble_eq_true rfl) rfl dX7_program_51 (fun v51 hf => ?_)
    refine lv_if_eq (tgt := 57) hx hb dX7_program_52 (by decide) (fun c52 => ?_) (fun c52 => ?_)
    · have hf := z_t c52 hf
      refine lv_aload_n hx hb dX7_program_57 rfl (lv_at hl 0 rfl) ?_
      refine zm_ga C hG 0 (Nat.le_of_ble_eq_true rfl) (by decide) q1443 dX7_program_58 ?_
      refine lv_iload_n hx hb dX7_program_61 rfl (lv_at hl 1 rfl) ?_
      refine zm_csi (As := [.int a1]) (rest := [.ref (G_m Γ (0 + 1))]) C hG hf (ctm_pageAt Γ l a1) (lw_S q1683 q1684 q107 q1685) ytm_pageAt rfl rfl (Nat.le_of_ble_eq_true rfl) (Nat.le_of_ble_eq_true rfl) hl.1 (Nat.le_of_ble_eq_true rfl) dX7_program_62 (fun v62 S H locs hG hf => ?_)
      refine lv_bipush (v := zi 120) hx hb dX7_program_65 (by decide +kernel) ?_
      refine lv_iadd hx hb dX7_program_67 ?_
      refine lv_aload_n hx hb dX7_program_68 rfl (lv_at hl 0 rfl) ?_
      refine zm_gf C hG 42 hf (Nat.le_of_ble_eq_true rfl) rfl q1485 dX7_program_69 (fun v69 hf => ?_)
      refine zm_as C hG 0 hf (Nat.le_of_ble_eq_true rfl) rfl dX7_program_72 (fun S H locs hG hf => ?_)
      refine lv_iconst (v := zi 0) hx hb dX7_program_73 rfl ?_
      refine lv_istore_n (lv' := [(2, .int (zi 0)), (0, .ref (G_m Γ 0)), (1, .int a1)]) hx hb dX7_program_74 rfl hl (Nat.le_of_ble_eq_true rfl) rfl (fun ls hl => ?_)
      obtain ⟨e75, S, hlp, hf⟩ := nB_some hf
      refine mRg.loop (wm_program_l75 Γ l a1) (zi 0) p e R s m args below meth c Q A _ _ _ _ _ _ C hG ⟨ls, rfl, lv_sub hl [1, 2, 0] rfl⟩ hlp (fun H locs g hL hG => ?_)
      obtain ⟨ls, rfl, hl⟩ := hL
      have hl : lv_has ls 3 [(0, .ref (G_m Γ 0))] := hl
      refine lv_aload_n hx hb dX7_program_107 rfl (lv_at hl 0 rfl) ?_
      refine zm_gf C hG 42 hf (Nat.le_of_ble_eq_true rfl) rfl q1485 dX7_program_108 (fun v108 hf => ?_)
      obtain ⟨rfl, rfl⟩ := z_p hf
      exact kk _ _ _ ⟨_, _, rfl, dX7_program_111⟩ hG
    · have hf := z_f c52 hf
      refine lv_iconst (v := zi (-1)) hx hb dX7_program_55 rfl ?_
      obtain ⟨rfl, rfl⟩ := z_p hf
      exact kk _ _ _ ⟨_, _, rfl, dX7_program_56⟩ hG
  · have hf := z_t c9 hf
    refine lv_bipush (v := zi (-2)) hx hb dX7_program_12 (by decide +kernel) ?_
    obtain ⟨rfl, rfl⟩ := z_p hf
    exact kk _ _ _ ⟨_, _, rfl, dX7_program_14⟩ hG
theorem ctm_program (Γ : zG) (l : Launch) (a1 : Int32) : mCt Γ l yX7_program (ws_ yX7_program cX7_program 3 (some .int)) 7 152 [.ref (G_m Γ 0), .int a1] (m_program a1) zoi := mCt.mki (by decide +kernel) (Nat.le_of_ble_eq_true rfl) (wm_program Γ l a1)
theorem ytm_program : yX7_program.cls = RX7 ∧ yX7_program.cls ≠ "java/lang/invoke/MethodHandle" ∧ yX7_program.cls ≠ "java/lang/invoke/VarHandle" ∧ (parseMethodDescriptor yX7_program.desc).map (fun d => d.parameters.length) = some 1 := by decide +kernel
set_option maxHeartbeats 4000000 in
theorem wm_isAddress (Γ : zG) (l : Launch) (a0 : Int32) : mRg Γ l yX7_isAddress cX7_isAddress 1 (some .boolean) 1 22 (m_isAddress a0) (zAt0 1 0 (lv_args 0 [.int a0]) []) (zLz cX7_isAddress) := by
  intro p e R s m args below meth c Q A S H locs x S' g C hG hI hf kk
  obtain ⟨ls, rfl, hl⟩ := hI
  obtain ⟨⟨hx, hb, hml, hown, hts⟩, hr, hlk, hK, hR1, hR2⟩ := id C
  have C : zCx Γ p R s m args meth c cX7_isAddress 1 RX7 (some .boolean) 1 22 := C
  have hl : lv_has ls 1 [(0, .int a0)] := hl
  refine lv_iload_n hx hb dX7_isAddress_0 rfl (lv_at hl 0 rfl) ?_
  refine lv_iconst (v := zi 0) hx hb dX7_isAddress_1 rfl ?_
  refine lv_bipush (v := zi 9) hx hb dX7_isAddress_2 (by decide +kernel) ?_
  refine zm_csi (As := [.int a0, .int (zi 0), .int (zi 9)]) (rest := []) C hG hf (ctm_isIn Γ l a0 (zi 0) (zi 9)) (lw_S q1612 q1613 q107 q1614) ytm_isIn rfl rfl (Nat.le_of_ble_eq_true rfl) (Nat.le_of_ble_eq_true rfl) hl.1 (Nat.le_of_ble_eq_true rfl) dX7_isAddress_4 (fun v4 S H locs hG hf => ?_)
  obtain ⟨hz, hf⟩ := z_c hf
  obtain ⟨rfl, rfl⟩ := z_p hf
  exact kk _ _ _ ⟨_, _, rfl, dX7_isAddress_7, hz⟩ hG
theorem ctm_isAddress (Γ : zG) (l : Launch) (a0 : Int32) : mCt Γ l yX7_isAddress (ws_ yX7_isAddress cX7_isAddress 1 (some .boolean)) 1 22 [.int a0] (m_isAddress a0) zoi := mCt.mkz (by decide +kernel) (Nat.le_of_ble_eq_true rfl) (wm_isAddress Γ l a0)
theorem ytm_isAddress : yX7_isAddress.cls = RX7 ∧ yX7_isAddress.cls ≠ "java/lang/invoke/MethodHandle" ∧ yX7_isAddress.cls ≠ "java/lang/invoke/VarHandle" ∧ (parseMethodDescriptor yX7_isAddress.desc).map (fun d => d.parameters.length) = some 1 := by decide +kernel
set_option maxHeartbeats 4000000 in
theorem wm_relay_j19 (Γ : zG) (l : Launch) (b1 : Int32) (b2 : Int32) : mRg Γ l yX7_relay cX7_relay 3 (some .boolean) 2 42 (m_relay_j19 b1 b2) (zAt0 3 19 [(0, .ref (G_m Γ 0)), (1, .int b1), (2, .int b2)] []) (zLz cX7_relay) := by
  intro p e R s m args below meth c Q A S H locs x S' g C hG hI hf kk
  obtain ⟨ls, rfl, hl⟩ := hI
  obtain ⟨⟨hx, hb, hml, hown, hts⟩, hr, hlk, hK, hR1, hR2⟩ := id C
  have C : zCx Γ p R s m args meth c cX7_relay 3 RX7 (some .boolean) 2 42 := C
  refine lv_iload_n hx hb dX7_relay_19 rfl (lv_at hl 1 rfl) ?_
  refine lv_iload_n hx hb dX7_relay_20 rfl (lv_at hl 2 rfl) ?_
  refine lv_icmp_ne (tgt := 26) hx hb dX7_relay_21 (by decide) (fun c21 => ?_) (fun c21 => ?_)
  · have hf := z_f c21 hf
    refine lv_aload_n hx hb dX7_relay_26 rfl (lv_at hl 0 rfl) ?_
    refine zm_ga C hG 0 (Nat.le_of_ble_eq_true rfl) (by decide) q1443 dX7_relay_27 ?_
    refine lv_sipush (v := zi 4770) hx hb dX7_relay_30 (by decide +kernel) ?_
    refine lv_iload_n hx hb dX7_relay_33 rfl (lv_at hl 1 rfl) ?_
    refine lv_iadd hx hb dX7_relay_34 ?_
    refine lv_iload_n hx hb dX7_relay_35 rfl (lv_at hl 2 rfl) ?_
    refine lv_iconst (v := zi 1) hx hb dX7_relay_36 rfl ?_
    refine lv_iadd hx hb dX7_relay_37 ?_
    refine zm_as C hG 0 hf (Nat.le_of_ble_eq_true rfl) rfl dX7_relay_38 (fun S H locs hG hf => ?_)
    refine lv_iconst (v := zi 1) hx hb dX7_relay_39 rfl ?_
    obtain ⟨rfl, rfl⟩ := z_p hf
    exact kk _ _ _ ⟨_, _, rfl, dX7_relay_40, Or.inr rfl⟩ hG
  · have hf := z_t c21 hf
    refine lv_iconst (v := zi 0) hx hb dX7_relay_24 rfl ?_
    obtain ⟨rfl, rfl⟩ := z_p hf
    exact kk _ _ _ ⟨_, _, rfl, dX7_relay_25, Or.inl rfl⟩ hG
set_option maxHeartbeats 4000000 in
theorem wm_relay (Γ : zG) (l : Launch) (a1 : Int32) (a2 : Int32) : mRg Γ l yX7_relay cX7_relay 3 (some .boolean) 2 42 (m_relay a1 a2) (zAt0 3 0 (lv_args 0 [.ref (G_m Γ 0), .int a1, .int a2]) []) (zLz cX7_relay) := by
  intro p e R s m args below meth c Q A S H locs x S' g C hG hI hf kk
  obtain ⟨ls, rfl, hl⟩ := hI
  obtain ⟨⟨hx, hb, hml, hown, hts⟩, hr, hlk, hK, hR1, hR2⟩ := id C
  have C : zCx Γ p R s m args meth c cX7_relay 3 RX7 (some .boolean) 2 42 := C
  have hl : lv_has ls 3 [(0, .ref (G_m Γ 0)), (1, .int a1), (2, .int a2)] := hl
  refine lv_iload_n hx hb dX7_relay_0 rfl (lv_at hl 1 rfl) ?_
  refine zm_csi (As := [.int a1]) (rest := []) C hG hf (ctm_isAddress Γ l a1) (lw_S q1989 q1990 q107 q1991) ytm_isAddress rfl rfl (Nat.le_of_ble_eq_true rfl) (Nat.le_of_ble_eq_true rfl) hl.1 (Nat.le_of_ble_eq_true rfl) dX7_relay_1 (fun v1 S H locs hG hf => ?_)
  refine lv_if_eq (tgt := 24) hx hb dX7_relay_4 (by decide) (fun c4 => ?_) (fun c4 => ?_)
  · have hf := z_t c4 hf
    refine lv_iconst (v := zi 0) hx hb dX7_relay_24 rfl ?_
    obtain ⟨rfl, rfl⟩ := z_p hf
    exact kk _ _ _ ⟨_, _, rfl, dX7_relay_25, Or.inl rfl⟩ hG
  · have hf := z_f c4 hf
    refine lv_iload_n hx hb dX7_relay_7 rfl (lv_at hl 2 rfl) ?_
    refine lv_iconst (v := zi (-1)) hx hb dX7_relay_8 rfl ?_
    refine lv_icmp_eq (tgt := 19) hx hb dX7_relay_9 (by decide) (fun c9 => ?_) (fun c9 => ?_)
    · have hf := z_t c9 hf
      exact wm_relay_j19 Γ l a1 a2 p e R s m args below meth c Q A _ _ _ _ _ _ C hG ⟨ls, rfl, lv_sub hl [0, 1, 2] rfl⟩ hf kk
    · have hf := z_f c9 hf
      refine lv_iload_n hx hb dX7_relay_12 rfl (lv_at hl 2 rfl) ?_
      refine zm_csi (As := [.int a2]) (rest := []) C hG hf (ctm_isAddress Γ l a2) (lw_S q1989 q1990 q107 q1991) ytm_isAddress rfl rfl (Nat.le_of_ble_eq_true rfl) (Nat.le_of_ble_eq_true rfl) hl.1 (Nat.le_of_ble_eq_true rfl) dX7_relay_13 (fun v13 S H locs hG hf => ?_)
      refine lv_if_eq (tgt := 24) hx hb dX7_relay_16 (by decide) (fun c16 => ?_) (fun c16 => ?_)
      · have hf := z_t c16 hf
        refine lv_iconst (v := zi 0) hx hb dX7_relay_24 rfl ?_
        obtain ⟨rfl, rfl⟩ := z_p hf
        exact kk _ _ _ ⟨_, _, rfl, dX7_relay_25, Or.inl rfl⟩ hG
      · have hf := z_f c16 hf
        exact wm_relay_j19 Γ l a1 a2 p e R s m args below meth c Q A _ _ _ _ _ _ C hG ⟨ls, rfl, lv_sub hl [0, 1, 2] rfl⟩ hf kk
theorem ctm_relay (Γ : zG) (l : Launch) (a1 : Int32) (a2 : Int32) : mCt Γ l yX7_relay (ws_ yX7_relay cX7_relay 3 (some .boolean)) 2 42 [.ref (G_m Γ 0), .int a1, .int a2] (m_relay a1 a2) zoi := mCt.mkz (by decide +kernel) (Nat.le_of_ble_eq_true rfl) (wm_relay Γ l a1 a2)
theorem ytm_relay : yX7_relay.cls = RX7 ∧ yX7_relay.cls ≠ "java/lang/invoke/MethodHandle" ∧ yX7_relay.cls ≠ "java/lang/invoke/VarHandle" ∧ (parseMethodDescriptor yX7_relay.desc).map (fun d => d.parameters.length) = some 2 := by decide +kernel
set_option maxHeartbeats 4000000 in
theorem wm_owner_j22 (Γ : zG) (l : Launch) (b1 : Int32) (b2 : Int32) : mRg Γ l yX7_owner cX7_owner 3 (some .boolean) 2 43 (m_owner_j22 b1 b2) (zAt0 3 22 [(0, .ref (G_m Γ 0)), (1, .int b1), (2, .int b2)] []) (zLz cX7_owner) := by
  intro p e R s m args below meth c Q A S H locs x S' g C hG hI hf kk
  obtain ⟨ls, rfl, hl⟩ := hI
  obtain ⟨⟨hx, hb, hml, hown, hts⟩, hr, hlk, hK, hR1, hR2⟩ := id C
  have C : zCx Γ p R s m args meth c cX7_owner 3 RX7 (some .boolean) 2 43 := C
  refine lv_aload_n hx hb dX7_owner_22 rfl (lv_at hl 0 rfl) ?_
  refine zm_ga C hG 0 (Nat.le_of_ble_eq_true rfl) (by decide) q1443 dX7_owner_23 ?_
  refine lv_sipush (v := zi 4780) hx hb dX7_owner_26 (by decide +kernel) ?_
  refine lv_iload_n hx hb dX7_owner_29 rfl (lv_at hl 1 rfl) ?_
  refine lv_iadd hx hb dX7_owner_30 ?_
  refine lv_iload_n hx hb dX7_owner_31 rfl (lv_at hl 2 rfl) ?_
  refine lv_iconst (v := zi 1) hx hb dX7_owner_32 rfl ?_
  refine lv_iadd hx hb dX7_owner_33 ?_
  refine zm_as C hG 0 hf (Nat.le_of_ble_eq_true rfl) rfl dX7_owner_34 (fun S H locs hG hf => ?_)
  refine lv_iconst (v := zi 1) hx hb dX7_owner_35 rfl ?_
  obtain ⟨rfl, rfl⟩ := z_p hf
  exact kk _ _ _ ⟨_, _, rfl, dX7_owner_36, Or.inr rfl⟩ hG
set_option maxHeartbeats 4000000 in
theorem wm_owner (Γ : zG) (l : Launch) (a1 : Int32) (a2 : Int32) : mRg Γ l yX7_owner cX7_owner 3 (some .boolean) 2 43 (m_owner a1 a2) (zAt0 3 0 (lv_args 0 [.ref (G_m Γ 0), .int a1, .int a2]) []) (zLz cX7_owner) := by
  intro p e R s m args below meth c Q A S H locs x S' g C hG hI hf kk
  obtain ⟨ls, rfl, hl⟩ := hI
  obtain ⟨⟨hx, hb, hml, hown, hts⟩, hr, hlk, hK, hR1, hR2⟩ := id C
  have C : zCx Γ p R s m args meth c cX7_owner 3 RX7 (some .boolean) 2 43 := C
  have hl : lv_has ls 3 [(0, .ref (G_m Γ 0)), (1, .int a1), (2, .int a2)] := hl
  refine lv_iload_n hx hb dX7_owner_0 rfl (lv_at hl 1 rfl) ?_
  refine zm_csi (As := [.int a1]) (rest := []) C hG hf (ctm_isAddress Γ l a1) (lw_S q1989 q1990 q107 q1991) ytm_isAddress rfl rfl (Nat.le_of_ble_eq_true rfl) (Nat.le_of_ble_eq_true rfl) hl.1 (Nat.le_of_ble_eq_true rfl) dX7_owner_1 (fun v1 S H locs hG hf => ?_)
  refine lv_if_eq (tgt := 20) hx hb dX7_owner_4 (by decide) (fun c4 => ?_) (fun c4 => ?_)
  · have hf := z_t c4 hf
    refine lv_iconst (v := zi 0) hx hb dX7_owner_20 rfl ?_
    obtain ⟨rfl, rfl⟩ := z_p hf
    exact kk _ _ _ ⟨_, _, rfl, dX7_owner_21, Or.inl rfl⟩ hG
  · have hf := z_f c4 hf
    refine lv_iload_n hx hb dX7_owner_7 rfl (lv_at hl 2 rfl) ?_
    refine lv_iconst (v := zi (-1)) hx hb dX7_owner_8 rfl ?_
    refine lv_icmp_eq (tgt := 22) hx hb dX7_owner_9 (by decide) (fun c9 => ?_) (fun c9 => ?_)
    · have hf := z_t c9 hf
      exact wm_owner_j22 Γ l a1 a2 p e R s m args below meth c Q A _ _ _ _ _ _ C hG ⟨ls, rfl, lv_sub hl [0, 1, 2] rfl⟩ hf kk
    · have hf := z_f c9 hf
      refine lv_aload_n hx hb dX7_owner_12 rfl (lv_at hl 0 rfl) ?_
      refine lv_iload_n hx hb dX7_owner_13 rfl (lv_at hl 2 rfl) ?_
      refine zm_cvi (As := [.int a2]) (rest := []) C hG hf (ctm_isHouse Γ l a2) (lw_V q1608 q1610 qs42 q107 q1611) ytm_isHouse rfl rfl (Nat.le_of_ble_eq_true rfl) (Nat.le_of_ble_eq_true rfl) hl.1 (Nat.le_of_ble_eq_true rfl) dX7_owner_14 (fun v14 S H locs hG hf => ?_)
      refine lv_if_ne (tgt := 22) hx hb dX7_owner_17 (by decide) (fun c17 => ?_) (fun c17 => ?_)
      · have hf := z_f c17 hf
        exact wm_owner_j22 Γ l a1 a2 p e R s m args below meth c Q A _ _ _ _ _ _ C hG ⟨ls, rfl, lv_sub hl [0, 1, 2] rfl⟩ hf kk
      · have hf := z_t c17 hf
        refine lv_iconst (v := zi 0) hx hb dX7_owner_20 rfl ?_
        obtain ⟨rfl, rfl⟩ := z_p hf
        exact kk _ _ _ ⟨_, _, rfl, dX7_owner_21, Or.inl rfl⟩ hG
theorem ctm_owner (Γ : zG) (l : Launch) (a1 : Int32) (a2 : Int32) : mCt Γ l yX7_owner (ws_ yX7_owner cX7_owner 3 (some .boolean)) 2 43 [.ref (G_m Γ 0), .int a1, .int a2] (m_owner a1 a2) zoi := mCt.mkz (by decide +kernel) (Nat.le_of_ble_eq_true rfl) (wm_owner Γ l a1 a2)
theorem ytm_owner : yX7_owner.cls = RX7 ∧ yX7_owner.cls ≠ "java/lang/invoke/MethodHandle" ∧ yX7_owner.cls ≠ "java/lang/invoke/VarHandle" ∧ (parseMethodDescriptor yX7_owner.desc).map (fun d => d.parameters.length) = some 2 := by decide +kernel
def im_endOf_l7 (Γ : zG) (m : MethodId) (s : Int32) (g : JFrame) : Prop := zAt0 3 7 [(0, .ref (G_m Γ 0)), (2, .int s)] [] m g
def em_endOf_l7 (Γ : zG) (m : MethodId) (e : Unit ⊕ (Int32)) (g : JFrame) : Prop := (Sum.elim (fun e => zAt0 3 52 [(0, .ref (G_m Γ 0))] [] m g) (fun e => zAt0 3 54 [(0, .ref (G_m Γ 0)), (2, .int e)] [] m g)) e
set_option maxHeartbeats 4000000 in
theorem wm_endOf_l7_b (Γ : zG) (l : Launch) (s2 : Int32) : mRg Γ l yX7_endOf cX7_endOf 3 (some .int) 0 0 (m_endOf_l7 s2) (zAt0 3 7 [(0, .ref (G_m Γ 0)), (2, .int s2)] []) (zLE (im_endOf_l7 Γ) (em_endOf_l7 Γ)) := by
  intro p e R s m args below meth c Q A S H locs x S' g C hG hI hf kk
  obtain ⟨ls, rfl, hl⟩ := hI
  obtain ⟨⟨hx, hb, hml, hown, hts⟩, hr, hlk, hK, hR1, hR2⟩ := id C
  have C : zCx Γ p R s m args meth c cX7_endOf 3 RX7 (some .int) 0 0 := C
  refine lv_aload_n hx hb dX7_endOf_7 rfl (lv_at hl 0 rfl) ?_
  refine zm_ga C hG 0 (Nat.le_of_ble_eq_true rfl) (by decide) q1443 dX7_endOf_8 ?_
  refine lv_sipush (v := zi 4770) hx hb dX7_endOf_11 (by decide +kernel) ?_
  refine lv_iload_n hx hb dX7_endOf_14 rfl (lv_at hl 1 rfl) ?_
  refine lv_iadd hx hb dX7_endOf_15 ?_
  refine zm_al C hG 0 hf (Nat.le_of_ble_eq_true rfl) rfl dX7_endOf_16 (fun v16 hf => ?_)
  refine lv_if_le (tgt := 54) hx hb dX7_endOf_17 (by decide) (fun c17 => ?_) (fun c17 => ?_)
  · have hf := z_t c17 hf
    obtain ⟨rfl, rfl⟩ := z_p hf
    exact kk _ _ _ ⟨ls, rfl, lv_sub hl [0, 1] rfl⟩ hG
  · have hf := z_f c17 hf
    refine lv_aload_n hx hb dX7_endOf_20 rfl (lv_at hl 0 rfl) ?_
    refine zm_ga C hG 0 (Nat.le_of_ble_eq_true rfl) (by decide) q1443 dX7_endOf_21 ?_
    refine lv_sipush (v := zi 4770) hx hb dX7_endOf_24 (by decide +kernel) ?_
    refine lv_iload_n hx hb dX7_endOf_27 rfl (lv_at hl 1 rfl) ?_
    refine lv_iadd hx hb dX7_endOf_28 ?_
    refine zm_al C hG 0 hf (Nat.le_of_ble_eq_true rfl) rfl dX7_endOf_29 (fun v29 hf => ?_)
    refine lv_iconst (v := zi 1) hx hb dX7_endOf_30 rfl ?_
    refine lv_isub hx hb dX7_endOf_31 ?_
    refine z_top hf (fun n32 hf => ?_)
    refine lv_istore_n (lv' := [(2, .int n32), (0, .ref (G_m Γ 0))]) hx hb dX7_endOf_32 rfl hl (Nat.le_of_ble_eq_true rfl) rfl (fun ls hl => ?_)
    refine lv_aload_n hx hb dX7_endOf_33 rfl (lv_at hl 1 rfl) ?_
    refine lv_dup hx hb dX7_endOf_34 rfl ?_
    refine zm_gf C hG 47 hf (Nat.le_of_ble_eq_true rfl) rfl q1490 dX7_endOf_35 (fun v35 hf => ?_)
    refine lv_iconst (v := zi 1) hx hb dX7_endOf_38 rfl ?_
    refine lv_iadd hx hb dX7_endOf_39 ?_
    refine zm_pf C hG 47 hf (Nat.le_of_ble_eq_true rfl) rfl rfl (by decide +kernel) q1490 dX7_endOf_40 (fun S H locs hG hf => ?_)
    refine lv_aload_n hx hb dX7_endOf_43 rfl (lv_at hl 1 rfl) ?_
    refine zm_gf C hG 47 hf (Nat.le_of_ble_eq_true rfl) rfl q1490 dX7_endOf_44 (fun v44 hf => ?_)
    refine lv_bipush (v := zi 10) hx hb dX7_endOf_47 (by decide +kernel) ?_
    refine lv_icmp_le (tgt := 7) hx hb dX7_endOf_49 (by decide) (fun c49 => ?_) (fun c49 => ?_)
    · have hf := z_t c49 hf
      obtain ⟨rfl, rfl⟩ := z_p hf
      exact kk _ _ _ ⟨ls, rfl, lv_sub hl [1, 0] rfl⟩ hG
    · have hf := z_f c49 hf
      obtain ⟨rfl, rfl⟩ := z_p hf
      exact kk _ _ _ ⟨ls, rfl, lv_sub hl [1] rfl⟩ hG
theorem wm_endOf_l7 (Γ : zG) (l : Launch) : ∀ s : Int32, mRg Γ l yX7_endOf cX7_endOf 3 (some .int) 0 0 (m_endOf_l7 s) (fun m => im_endOf_l7 Γ m s) (zLE (im_endOf_l7 Γ) (em_endOf_l7 Γ)) := fun s => wm_endOf_l7_b Γ l s
set_option maxHeartbeats 4000000 in
theorem wm_endOf (Γ : zG) (l : Launch) (a1 : Int32) : mRg Γ l yX7_endOf cX7_endOf 3 (some .int) 0 0 (m_endOf a1) (zAt0 3 0 (lv_args 0 [.ref (G_m Γ 0), .int a1]) []) (zLi cX7_endOf) := by
  intro p e R s m args below meth c Q A S H locs x S' g C hG hI hf kk
  obtain ⟨ls, rfl, hl⟩ := hI
  obtain ⟨⟨hx, hb, hml, hown, hts⟩, hr, hlk, hK, hR1, hR2⟩ := id C
  have C : zCx Γ p R s m args meth c cX7_endOf 3 RX7 (some .int) 0 0 := C
  have hl : lv_has ls 3 [(0, .ref (G_m Γ 0)), (1, .int a1)] := hl
  refine lv_iload_n hx hb dX7_endOf_0 rfl (lv_at hl 1 rfl) ?_
  refine lv_istore_n (lv' := [(2, .int a1), (0, .ref (G_m Γ 0)), (1, .int a1)]) hx hb dX7_endOf_1 rfl hl (Nat.le_of_ble_eq_true rfl) rfl (fun ls hl => ?_)
  refine lv_aload_n hx hb dX7_endOf_2 rfl (lv_at hl 1 rfl) ?_
  refine lv_iconst (v := zi 0) hx hb dX7_endOf_3 rfl ?_
  refine zm_pf C hG 47 hf (Nat.le_of_ble_eq_true rfl) rfl rfl (by decide +kernel) q1490 dX7_endOf_4 (fun S H locs hG hf => ?_)
  obtain ⟨e7, S, hlp, hf⟩ := nB_some hf
  refine mRg.loop (wm_endOf_l7 Γ l) a1 p e R s m args below meth c Q A _ _ _ _ _ _ C hG ⟨ls, rfl, lv_sub hl [1, 0] rfl⟩ hlp (fun H locs g hL hG => ?_)
  rcases e7 with e7 | e7
  · have hf := z_dl hf
    obtain ⟨ls, rfl, hl⟩ := hL
    have hl : lv_has ls 3 [(0, .ref (G_m Γ 0))] := hl
    refine lv_iconst (v := zi (-1)) hx hb dX7_endOf_52 rfl ?_
    obtain ⟨rfl, rfl⟩ := z_p hf
    exact kk _ _ _ ⟨_, _, rfl, dX7_endOf_53⟩ hG
  · have hf := z_dr hf
    obtain ⟨ls, rfl, hl⟩ := hL
    have hl : lv_has ls 3 [(0, .ref (G_m Γ 0)), (2, .int e7)] := hl
    refine lv_iload_n hx hb dX7_endOf_54 rfl (lv_at hl 1 rfl) ?_
    obtain ⟨rfl, rfl⟩ := z_p hf
    exact kk _ _ _ ⟨_, _, rfl, dX7_endOf_55⟩ hG
theorem ctm_endOf (Γ : zG) (l : Launch) (a1 : Int32) : mCt Γ l yX7_endOf (ws_ yX7_endOf cX7_endOf 3 (some .int)) 0 0 [.ref (G_m Γ 0), .int a1] (m_endOf a1) zoi := mCt.mki (by decide +kernel) (Nat.le_of_ble_eq_true rfl) (wm_endOf Γ l a1)
theorem ytm_endOf : yX7_endOf.cls = RX7 ∧ yX7_endOf.cls ≠ "java/lang/invoke/MethodHandle" ∧ yX7_endOf.cls ≠ "java/lang/invoke/VarHandle" ∧ (parseMethodDescriptor yX7_endOf.desc).map (fun d => d.parameters.length) = some 1 := by decide +kernel
set_option maxHeartbeats 4000000 in
theorem wm_goes (Γ : zG) (l : Launch) (a1 : Int32) (a2 : Int32) : mRg Γ l yX7_goes cX7_goes 4 (some .int) 2 42 (m_goes a1 a2) (zAt0 4 0 (lv_args 0 [.ref (G_m Γ 0), .int a1, .int a2]) []) (zLi cX7_goes) := by
  intro p e R s m args below meth c Q A S H locs x S' g C hG hI hf kk
  obtain ⟨ls, rfl, hl⟩ := hI
  obtain ⟨⟨hx, hb, hml, hown, hts⟩, hr, hlk, hK, hR1, hR2⟩ := id C
  have C : zCx Γ p R s m args meth c cX7_goes 4 RX7 (some .int) 2 42 := C
  have hl : lv_has ls 4 [(0, .ref (G_m Γ 0)), (1, .int a1), (2, .int a2)] := hl
  refine lv_iload_n hx hb dX7_goes_0 rfl (lv_at hl 1 rfl) ?_
  refine zm_csi (As := [.int a1]) (rest := []) C hG hf (ctm_isAddress Γ l a1) (lw_S q1989 q1990 q107 q1991) ytm_isAddress rfl rfl (Nat.le_of_ble_eq_true rfl) (Nat.le_of_ble_eq_true rfl) hl.1 (Nat.le_of_ble_eq_true rfl) dX7_goes_1 (fun v1 S H locs hG hf => ?_)
  refine lv_if_ne (tgt := 9) hx hb dX7_goes_4 (by decide) (fun c4 => ?_) (fun c4 => ?_)
  · have hf := z_f c4 hf
    refine lv_aload_n hx hb dX7_goes_9 rfl (lv_at hl 0 rfl) ?_
    refine lv_iload_n hx hb dX7_goes_10 rfl (lv_at hl 1 rfl) ?_
    refine zm_cvi (As := [.int a1]) (rest := []) C hG hf (ctm_endOf Γ l a1) (lw_V q2000 q2002 qs91 q107 q2003) ytm_endOf rfl rfl (Nat.le_of_ble_eq_true rfl) (Nat.le_of_ble_eq_true rfl) hl.1 (Nat.le_of_ble_eq_true rfl) dX7_goes_11 (fun v11 S H locs hG hf => ?_)
    refine lv_istore_n (lv' := [(3, .int v11), (0, .ref (G_m Γ 0)), (1, .int a1), (2, .int a2)]) hx hb dX7_goes_14 rfl hl (Nat.le_of_ble_eq_true rfl) rfl (fun ls hl => ?_)
    refine lv_iload_n hx hb dX7_goes_15 rfl (lv_at hl 0 rfl) ?_
    refine lv_if_ge (tgt := 23) hx hb dX7_goes_16 (by decide) (fun c16 => ?_) (fun c16 => ?_)
    · have hf := z_t c16 hf
      refine lv_iload_n hx hb dX7_goes_23 rfl (lv_at hl 3 rfl) ?_
      refine lv_if_eq (tgt := 34) hx hb dX7_goes_24 (by decide) (fun c24 => ?_) (fun c24 => ?_)
      · have hf := z_t c24 hf
        refine lv_iload_n hx hb dX7_goes_34 rfl (lv_at hl 0 rfl) ?_
        obtain ⟨rfl, rfl⟩ := z_p hf
        exact kk _ _ _ ⟨_, _, rfl, dX7_goes_35⟩ hG
      · have hf := z_f c24 hf
        refine lv_aload_n hx hb dX7_goes_27 rfl (lv_at hl 1 rfl) ?_
        refine zm_gf C hG 47 hf (Nat.le_of_ble_eq_true rfl) rfl q1490 dX7_goes_28 (fun v28 hf => ?_)
        refine lv_goto (tgt := 35) hx hb dX7_goes_31 (by decide) ?_
        obtain ⟨rfl, rfl⟩ := z_p hf
        exact kk _ _ _ ⟨_, _, rfl, dX7_goes_35⟩ hG
    · have hf := z_f c16 hf
      refine lv_iconst (v := zi (-1)) hx hb dX7_goes_19 rfl ?_
      refine lv_goto (tgt := 35) hx hb dX7_goes_20 (by decide) ?_
      obtain ⟨rfl, rfl⟩ := z_p hf
      exact kk _ _ _ ⟨_, _, rfl, dX7_goes_35⟩ hG
  · have hf := z_t c4 hf
    refine lv_iconst (v := zi (-1)) hx hb dX7_goes_7 rfl ?_
    obtain ⟨rfl, rfl⟩ := z_p hf
    exact kk _ _ _ ⟨_, _, rfl, dX7_goes_8⟩ hG
theorem ctm_goes (Γ : zG) (l : Launch) (a1 : Int32) (a2 : Int32) : mCt Γ l yX7_goes (ws_ yX7_goes cX7_goes 4 (some .int)) 2 42 [.ref (G_m Γ 0), .int a1, .int a2] (m_goes a1 a2) zoi := mCt.mki (by decide +kernel) (Nat.le_of_ble_eq_true rfl) (wm_goes Γ l a1 a2)
theorem ytm_goes : yX7_goes.cls = RX7 ∧ yX7_goes.cls ≠ "java/lang/invoke/MethodHandle" ∧ yX7_goes.cls ≠ "java/lang/invoke/VarHandle" ∧ (parseMethodDescriptor yX7_goes.desc).map (fun d => d.parameters.length) = some 2 := by decide +kernel
set_option maxHeartbeats 4000000 in
theorem wm_isMade (Γ : zG) (l : Launch) (a0 : Int32) : mRg Γ l yX7_isMade cX7_isMade 1 (some .boolean) 1 22 (m_isMade a0) (zAt0 1 0 (lv_args 0 [.int a0]) []) (zLz cX7_isMade) := by
  intro p e R s m args below meth c Q A S H locs x S' g C hG hI hf kk
  obtain ⟨ls, rfl, hl⟩ := hI
  obtain ⟨⟨hx, hb, hml, hown, hts⟩, hr, hlk, hK, hR1, hR2⟩ := id C
  have C : zCx Γ p R s m args meth c cX7_isMade 1 RX7 (some .boolean) 1 22 := C
  have hl : lv_has ls 1 [(0, .int a0)] := hl
  refine lv_iload_n hx hb dX7_isMade_0 rfl (lv_at hl 0 rfl) ?_
  refine lv_iconst (v := zi 0) hx hb dX7_isMade_1 rfl ?_
  refine lv_sipush (v := zi 999) hx hb dX7_isMade_2 (by decide +kernel) ?_
  refine zm_csi (As := [.int a0, .int (zi 0), .int (zi 999)]) (rest := []) C hG hf (ctm_isIn Γ l a0 (zi 0) (zi 999)) (lw_S q1612 q1613 q107 q1614) ytm_isIn rfl rfl (Nat.le_of_ble_eq_true rfl) (Nat.le_of_ble_eq_true rfl) hl.1 (Nat.le_of_ble_eq_true rfl) dX7_isMade_5 (fun v5 S H locs hG hf => ?_)
  obtain ⟨hz, hf⟩ := z_c hf
  obtain ⟨rfl, rfl⟩ := z_p hf
  exact kk _ _ _ ⟨_, _, rfl, dX7_isMade_8, hz⟩ hG
theorem ctm_isMade (Γ : zG) (l : Launch) (a0 : Int32) : mCt Γ l yX7_isMade (ws_ yX7_isMade cX7_isMade 1 (some .boolean)) 1 22 [.int a0] (m_isMade a0) zoi := mCt.mkz (by decide +kernel) (Nat.le_of_ble_eq_true rfl) (wm_isMade Γ l a0)
theorem ytm_isMade : yX7_isMade.cls = RX7 ∧ yX7_isMade.cls ≠ "java/lang/invoke/MethodHandle" ∧ yX7_isMade.cls ≠ "java/lang/invoke/VarHandle" ∧ (parseMethodDescriptor yX7_isMade.desc).map (fun d => d.parameters.length) = some 1 := by decide +kernel
def im_does_l2 (Γ : zG) (f1 : Int32) (f2 : Int32) (m : MethodId) (s : Int32) (g : JFrame) : Prop := zAt0 8 2 [(0, .ref (G_m Γ 0)), (1, .int f1), (2, .int f2), (3, .int s)] [] m g
def em_does_l2 (Γ : zG) (f1 : Int32) (f2 : Int32) (m : MethodId) (e : Unit) (g : JFrame) : Prop := zAt0 8 28 [(0, .ref (G_m Γ 0)), (1, .int f1), (2, .int f2)] [] m g
set_option maxHeartbeats 4000000 in
theorem wm_does_l2_b (Γ : zG) (l : Launch) (f1 : Int32) (f2 : Int32) (s3 : Int32) : mRg Γ l yX7_does cX7_does 8 (some .int) 1 20 (m_does_l2 f1 f2 s3) (zAt0 8 2 [(0, .ref (G_m Γ 0)), (1, .int f1), (2, .int f2), (3, .int s3)] []) (zLE (im_does_l2 Γ f1 f2) (em_does_l2 Γ f1 f2)) := by
  intro p e R s m args below meth c Q A S H locs x S' g C hG hI hf kk
  obtain ⟨ls, rfl, hl⟩ := hI
  obtain ⟨⟨hx, hb, hml, hown, hts⟩, hr, hlk, hK, hR1, hR2⟩ := id C
  have C : zCx Γ p R s m args meth c cX7_does 8 RX7 (some .int) 1 20 := C
  refine lv_iload_n hx hb dX7_does_2 rfl (lv_at hl 3 rfl) ?_
  refine lv_bipush (v := zi 6) hx hb dX7_does_3 (by decide +kernel) ?_
  refine lv_icmp_ge (tgt := 28) hx hb dX7_does_5 (by decide) (fun c5 => ?_) (fun c5 => ?_)
  · have hf := z_t c5 hf
    obtain ⟨rfl, rfl⟩ := z_p hf
    exact kk _ _ _ ⟨ls, rfl, lv_sub hl [0, 1, 2] rfl⟩ hG
  · have hf := z_f c5 hf
    refine lv_aload_n hx hb dX7_does_8 rfl (lv_at hl 0 rfl) ?_
    refine zm_ga C hG 44 (Nat.le_of_ble_eq_true rfl) (by decide) q1487 dX7_does_9 ?_
    refine lv_iload_n hx hb dX7_does_12 rfl (lv_at hl 3 rfl) ?_
    refine lv_iconst (v := zi 0) hx hb dX7_does_13 rfl ?_
    refine zm_as C hG 44 hf (Nat.le_of_ble_eq_true rfl) rfl dX7_does_14 (fun S H locs hG hf => ?_)
    refine lv_aload_n hx hb dX7_does_15 rfl (lv_at hl 0 rfl) ?_
    refine zm_ga C hG 45 (Nat.le_of_ble_eq_true rfl) (by decide) q1488 dX7_does_16 ?_
    refine lv_iload_n hx hb dX7_does_19 rfl (lv_at hl 3 rfl) ?_
    refine lv_iconst (v := zi 0) hx hb dX7_does_20 rfl ?_
    refine zm_as C hG 45 hf (Nat.le_of_ble_eq_true rfl) rfl dX7_does_21 (fun S H locs hG hf => ?_)
    refine z_iinc (fun v => [(3, .int v), (0, .ref (G_m Γ 0)), (1, .int f1), (2, .int f2)]) hx hb hf dX7_does_22 hl (k := 3) rfl (Nat.le_of_ble_eq_true rfl) (fun _ => rfl) (fun n22 ls hf hl => ?_)
    refine lv_goto (tgt := 2) hx hb dX7_does_25 (by decide) ?_
    obtain ⟨rfl, rfl⟩ := z_p hf
    exact kk _ _ _ ⟨ls, rfl, lv_sub hl [1, 2, 3, 0] rfl⟩ hG
theorem wm_does_l2 (Γ : zG) (l : Launch) (f1 : Int32) (f2 : Int32) : ∀ s : Int32, mRg Γ l yX7_does cX7_does 8 (some .int) 1 20 (m_does_l2 f1 f2 s) (fun m => im_does_l2 Γ f1 f2 m s) (zLE (im_does_l2 Γ f1 f2) (em_does_l2 Γ f1 f2)) := fun s => wm_does_l2_b Γ l f1 f2 s
def im_does_l30 (Γ : zG) (f1 : Int32) (f2 : Int32) (m : MethodId) (s : Int32) (g : JFrame) : Prop := zAt0 8 30 [(0, .ref (G_m Γ 0)), (1, .int f1), (2, .int f2), (3, .int s)] [] m g
def em_does_l30 (Γ : zG) (f1 : Int32) (f2 : Int32) (m : MethodId) (e : Unit) (g : JFrame) : Prop := zAt0 8 49 [(0, .ref (G_m Γ 0)), (1, .int f1), (2, .int f2)] [] m g
set_option maxHeartbeats 4000000 in
theorem wm_does_l30_b (Γ : zG) (l : Launch) (f1 : Int32) (f2 : Int32) (s3 : Int32) : mRg Γ l yX7_does cX7_does 8 (some .int) 1 20 (m_does_l30 f1 f2 s3) (zAt0 8 30 [(0, .ref (G_m Γ 0)), (1, .int f1), (2, .int f2), (3, .int s3)] []) (zLE (im_does_l30 Γ f1 f2) (em_does_l30 Γ f1 f2)) := by
  intro p e R s m args below meth c Q A S H locs x S' g C hG hI hf kk
  obtain ⟨ls, rfl, hl⟩ := hI
  obtain ⟨⟨hx, hb, hml, hown, hts⟩, hr, hlk, hK, hR1, hR2⟩ := id C
  have C : zCx Γ p R s m args meth c cX7_does 8 RX7 (some .int) 1 20 := C
  refine lv_iload_n hx hb dX7_does_30 rfl (lv_at hl 3 rfl) ?_
  refine lv_bipush (v := zi 10) hx hb dX7_does_31 (by decide +kernel) ?_
  refine lv_icmp_ge (tgt := 49) hx hb dX7_does_33 (by decide) (fun c33 => ?_) (fun c33 => ?_)
  · have hf := z_t c33 hf
    obtain ⟨rfl, rfl⟩ := z_p hf
    exact kk _ _ _ ⟨ls, rfl, lv_sub hl [0, 1, 2] rfl⟩ hG
  · have hf := z_f c33 hf
    refine lv_aload_n hx hb dX7_does_36 rfl (lv_at hl 0 rfl) ?_
    refine zm_ga C hG 46 (Nat.le_of_ble_eq_true rfl) (by decide) q1489 dX7_does_37 ?_
    refine lv_iload_n hx hb dX7_does_40 rfl (lv_at hl 3 rfl) ?_
    refine lv_iconst (v := zi 0) hx hb dX7_does_41 rfl ?_
    refine zm_as C hG 46 hf (Nat.le_of_ble_eq_true rfl) rfl dX7_does_42 (fun S H locs hG hf => ?_)
    refine z_iinc (fun v => [(3, .int v), (0, .ref (G_m Γ 0)), (1, .int f1), (2, .int f2)]) hx hb hf dX7_does_43 hl (k := 3) rfl (Nat.le_of_ble_eq_true rfl) (fun _ => rfl) (fun n43 ls hf hl => ?_)
    refine lv_goto (tgt := 30) hx hb dX7_does_46 (by decide) ?_
    obtain ⟨rfl, rfl⟩ := z_p hf
    exact kk _ _ _ ⟨ls, rfl, lv_sub hl [1, 2, 3, 0] rfl⟩ hG
theorem wm_does_l30 (Γ : zG) (l : Launch) (f1 : Int32) (f2 : Int32) : ∀ s : Int32, mRg Γ l yX7_does cX7_does 8 (some .int) 1 20 (m_does_l30 f1 f2 s) (fun m => im_does_l30 Γ f1 f2 m s) (zLE (im_does_l30 Γ f1 f2) (em_does_l30 Γ f1 f2)) := fun s => wm_does_l30_b Γ l f1 f2 s
def im_does_l54 (Γ : zG) (f1 : Int32) (f2 : Int32) (m : MethodId) (s : Int32 × Int32) (g : JFrame) : Prop := zAt0 8 54 [(0, .ref (G_m Γ 0)), (1, .int f1), (2, .int f2), (3, .int s.1), (4, .int s.2)] [] m g
def em_does_l54 (Γ : zG) (f1 : Int32) (f2 : Int32) (m : MethodId) (e : Int32 ⊕ (Int32)) (g : JFrame) : Prop := (Sum.elim (fun e => zAt0 8 324 [(0, .ref (G_m Γ 0)), (4, .int e)] [] m g) (fun e => zAt0 8 330 [(0, .ref (G_m Γ 0)), (4, .int e)] [] m g)) e
set_option maxHeartbeats 4000000 in
theorem wm_does_l54_j327 (Γ : zG) (l : Launch) (b1 : Int32) (b2 : Int32) (b3 : Int32) (b4 : Int32) : mRg Γ l yX7_does cX7_does 8 (some .int) 1 20 (m_does_l54_j327 b1 b2 b3 b4) (zAt0 8 327 [(0, .ref (G_m Γ 0)), (1, .int b1), (2, .int b2), (3, .int b3), (4, .int b4)] []) (zLE (im_does_l54 Γ b1 b2) (em_does_l54 Γ b1 b2)) := by
  intro p e R s m args below meth c Q A S H locs x S' g C hG hI hf kk
  obtain ⟨ls, rfl, hl⟩ := hI
  obtain ⟨⟨hx, hb, hml, hown, hts⟩, hr, hlk, hK, hR1, hR2⟩ := id C
  have C : zCx Γ p R s m args meth c cX7_does 8 RX7 (some .int) 1 20 := C
  refine lv_goto (tgt := 54) hx hb dX7_does_327 (by decide) ?_
  obtain ⟨rfl, rfl⟩ := z_p hf
  exact kk _ _ _ ⟨ls, rfl, lv_sub hl [0, 1, 2, 3, 4] rfl⟩ hG
set_option maxHeartbeats 4000000 in
theorem wm_does_l54_b (Γ : zG) (l : Launch) (f1 : Int32) (f2 : Int32) (s3 : Int32) (s4 : Int32) : mRg Γ l yX7_does cX7_does 8 (some .int) 1 20 (m_does_l54 f1 f2 s3 s4) (zAt0 8 54 [(0, .ref (G_m Γ 0)), (1, .int f1), (2, .int f2), (3, .int s3), (4, .int s4)] []) (zLE (im_does_l54 Γ f1 f2) (em_does_l54 Γ f1 f2)) := by
  intro p e R s m args below meth c Q A S H locs x S' g C hG hI hf kk
  obtain ⟨ls, rfl, hl⟩ := hI
  obtain ⟨⟨hx, hb, hml, hown, hts⟩, hr, hlk, hK, hR1, hR2⟩ := id C
  have C : zCx Γ p R s m args meth c cX7_does 8 RX7 (some .int) 1 20 := C
  refine lv_iload_n hx hb dX7_does_54 rfl (lv_at hl 3 rfl) ?_
  refine lv_aload_n hx hb dX7_does_55 rfl (lv_at hl 0 rfl) ?_
  refine zm_ga C hG 0 (Nat.le_of_ble_eq_true rfl) (by decide) q1443 dX7_does_56 ?_
  refine lv_iload_n hx hb dX7_does_59 rfl (lv_at hl 1 rfl) ?_
  refine zm_csi (As := [.int f1]) (rest := [.ref (G_m Γ (0 + 1)), .int s3]) C hG hf (ctm_pageAt Γ l f1) (lw_S q1683 q1684 q107 q1685) ytm_pageAt rfl rfl (Nat.le_of_ble_eq_true rfl) (Nat.le_of_ble_eq_true rfl) hl.1 (Nat.le_of_ble_eq_true rfl) dX7_does_60 (fun v60 S H locs hG hf => ?_)
  refine lv_bipush (v := zi 120) hx hb dX7_does_63 (by decide +kernel) ?_
  refine lv_iadd hx hb dX7_does_65 ?_
  refine zm_al C hG 0 hf (Nat.le_of_ble_eq_true rfl) rfl dX7_does_66 (fun v66 hf => ?_)
  refine lv_icmp_ge (tgt := 330) hx hb dX7_does_67 (by decide) (fun c67 => ?_) (fun c67 => ?_)
  · have hf := z_t c67 hf
    obtain ⟨rfl, rfl⟩ := z_p hf
    exact kk _ _ _ ⟨ls, rfl, lv_sub hl [0, 4] rfl⟩ hG
  · have hf := z_f c67 hf
    refine lv_iload hx hb dX7_does_70 (lv_at hl 4 rfl) ?_
    refine lv_sipush (v := zi 200) hx hb dX7_does_72 (by decide +kernel) ?_
    refine lv_icmp_ge (tgt := 330) hx hb dX7_does_75 (by decide) (fun c75 => ?_) (fun c75 => ?_)
    · have hf := z_t c75 hf
      obtain ⟨rfl, rfl⟩ := z_p hf
      exact kk _ _ _ ⟨ls, rfl, lv_sub hl [0, 4] rfl⟩ hG
    · have hf := z_f c75 hf
      refine lv_iload_n hx hb dX7_does_78 rfl (lv_at hl 1 rfl) ?_
      refine zm_csi (As := [.int f1]) (rest := []) C hG hf (ctm_pageAt Γ l f1) (lw_S q1683 q1684 q107 q1685) ytm_pageAt rfl rfl (Nat.le_of_ble_eq_true rfl) (Nat.le_of_ble_eq_true rfl) hl.1 (Nat.le_of_ble_eq_true rfl) dX7_does_79 (fun v79 S H locs hG hf => ?_)
      refine lv_bipush (v := zi 121) hx hb dX7_does_82 (by decide +kernel) ?_
      refine lv_iadd hx hb dX7_does_84 ?_
      refine lv_iconst (v := zi 4) hx hb dX7_does_85 rfl ?_
      refine lv_iload_n hx hb dX7_does_86 rfl (lv_at hl 3 rfl) ?_
      refine lv_imul hx hb dX7_does_87 ?_
      refine lv_iadd hx hb dX7_does_88 ?_
      refine z_top hf (fun n89 hf => ?_)
      refine lv_istore (lv' := [(5, .int n89), (0, .ref (G_m Γ 0)), (1, .int f1), (2, .int f2), (3, .int s3), (4, .int s4)]) hx hb dX7_does_89 hl (Nat.le_of_ble_eq_true rfl) rfl (fun ls hl => ?_)
      refine lv_aload_n hx hb dX7_does_91 rfl (lv_at hl 1 rfl) ?_
      refine zm_ga C hG 0 (Nat.le_of_ble_eq_true rfl) (by decide) q1443 dX7_does_92 ?_
      refine lv_iload hx hb dX7_does_95 (lv_at hl 0 rfl) ?_
      refine lv_iconst (v := zi 1) hx hb dX7_does_97 rfl ?_
      refine lv_iadd hx hb dX7_does_98 ?_
      refine zm_al C hG 0 hf (Nat.le_of_ble_eq_true rfl) rfl dX7_does_99 (fun v99 hf => ?_)
      refine lv_istore (lv' := [(6, .int v99), (5, .int n89), (0, .ref (G_m Γ 0)), (1, .int f1), (2, .int f2), (3, .int s3), (4, .int s4)]) hx hb dX7_does_100 hl (Nat.le_of_ble_eq_true rfl) rfl (fun ls hl => ?_)
      refine lv_aload_n hx hb dX7_does_102 rfl (lv_at hl 2 rfl) ?_
      refine zm_ga C hG 0 (Nat.le_of_ble_eq_true rfl) (by decide) q1443 dX7_does_103 ?_
      refine lv_iload hx hb dX7_does_106 (lv_at hl 1 rfl) ?_
      refine lv_iconst (v := zi 2) hx hb dX7_does_108 rfl ?_
      refine lv_iadd hx hb dX7_does_109 ?_
      refine zm_al C hG 0 hf (Nat.le_of_ble_eq_true rfl) rfl dX7_does_110 (fun v110 hf => ?_)
      refine lv_istore (lv' := [(7, .int v110), (6, .int v99), (5, .int n89), (0, .ref (G_m Γ 0)), (1, .int f1), (2, .int f2), (3, .int s3), (4, .int s4)]) hx hb dX7_does_111 hl (Nat.le_of_ble_eq_true rfl) rfl (fun ls hl => ?_)
      refine z_iinc (fun v => [(4, .int v), (7, .int v110), (6, .int v99), (5, .int n89), (0, .ref (G_m Γ 0)), (1, .int f1), (2, .int f2), (3, .int s3)]) hx hb hf dX7_does_113 hl (k := 7) rfl (Nat.le_of_ble_eq_true rfl) (fun _ => rfl) (fun n113 ls hf hl => ?_)
      refine z_iinc (fun v => [(3, .int v), (4, .int n113), (7, .int v110), (6, .int v99), (5, .int n89), (0, .ref (G_m Γ 0)), (1, .int f1), (2, .int f2)]) hx hb hf dX7_does_116 hl (k := 7) rfl (Nat.le_of_ble_eq_true rfl) (fun _ => rfl) (fun n116 ls hf hl => ?_)
      refine lv_aload_n hx hb dX7_does_119 rfl (lv_at hl 5 rfl) ?_
      refine zm_ga C hG 0 (Nat.le_of_ble_eq_true rfl) (by decide) q1443 dX7_does_120 ?_
      refine lv_iload hx hb dX7_does_123 (lv_at hl 4 rfl) ?_
      refine zm_al C hG 0 hf (Nat.le_of_ble_eq_true rfl) rfl dX7_does_125 (fun v125 hf => ?_)
      by_cases c126_0 : v125 = zi 10
      · have hf := z_t c126_0 hf
        refine lv_tableIn (off := 42) (tgt := 168) hx hb dX7_does_126 (by rw [c126_0]; decide +kernel) (by rw [c126_0]; decide +kernel) (by rw [c126_0]; decide +kernel) (by decide) ?_
        refine lv_aload_n hx hb dX7_does_168 rfl (lv_at hl 5 rfl) ?_
        refine zm_ga C hG 44 (Nat.le_of_ble_eq_true rfl) (by decide) q1487 dX7_does_169 ?_
        refine lv_iload hx hb dX7_does_172 (lv_at hl 2 rfl) ?_
        refine lv_iload_n hx hb dX7_does_174 rfl (lv_at hl 7 rfl) ?_
        refine lv_iload hx hb dX7_does_175 (lv_at hl 3 rfl) ?_
        refine lv_iconst (v := zi 1) hx hb dX7_does_177 rfl ?_
        refine lv_iadd hx hb dX7_does_178 ?_
        refine lv_imul hx hb dX7_does_179 ?_
        refine lv_bipush (v := zi 7) hx hb dX7_does_180 (by decide +kernel) ?_
        refine lv_iadd hx hb dX7_does_182 ?_
        refine lv_bipush (v := zi 100) hx hb dX7_does_183 (by decide +kernel) ?_
        refine lv_irem hx hb dX7_does_185 (by decide +kernel) ?_
        refine zm_as C hG 44 hf (Nat.le_of_ble_eq_true rfl) rfl dX7_does_186 (fun S H locs hG hf => ?_)
        refine lv_aload_n hx hb dX7_does_187 rfl (lv_at hl 5 rfl) ?_
        refine zm_ga C hG 45 (Nat.le_of_ble_eq_true rfl) (by decide) q1488 dX7_does_188 ?_
        refine lv_iload hx hb dX7_does_191 (lv_at hl 2 rfl) ?_
        refine lv_iconst (v := zi 1) hx hb dX7_does_193 rfl ?_
        refine lv_iload hx hb dX7_does_194 (lv_at hl 3 rfl) ?_
        refine lv_ishl hx hb dX7_does_196 ?_
        refine zm_as C hG 45 hf (Nat.le_of_ble_eq_true rfl) rfl dX7_does_197 (fun S H locs hG hf => ?_)
        refine lv_goto (tgt := 327) hx hb dX7_does_198 (by decide) ?_
        exact wm_does_l54_j327 Γ l f1 f2 n116 n113 p e R s m args below meth c Q A _ _ _ _ _ _ C hG ⟨ls, rfl, lv_sub hl [5, 6, 7, 0, 1] rfl⟩ hf kk
      · have hf := z_f c126_0 hf
        by_cases c126_1 : v125 = zi 11
        · have hf := z_t c126_1 hf
          refine lv_tableIn (off := 198) (tgt := 324) hx hb dX7_does_126 (by rw [c126_1]; decide +kernel) (by rw [c126_1]; decide +kernel) (by rw [c126_1]; decide +kernel) (by decide) ?_
          obtain ⟨rfl, rfl⟩ := z_p hf
          exact kk _ _ _ ⟨ls, rfl, lv_sub hl [5, 1] rfl⟩ hG
        · have hf := z_f c126_1 hf
          by_cases c126_2 : v125 = zi 12
          · have hf := z_t c126_2 hf
            refine lv_tableIn (off := 75) (tgt := 201) hx hb dX7_does_126 (by rw [c126_2]; decide +kernel) (by rw [c126_2]; decide +kernel) (by rw [c126_2]; decide +kernel) (by decide) ?_
            refine lv_aload_n hx hb dX7_does_201 rfl (lv_at hl 5 rfl) ?_
            refine zm_ga C hG 44 (Nat.le_of_ble_eq_true rfl) (by decide) q1487 dX7_does_202 ?_
            refine lv_iload hx hb dX7_does_205 (lv_at hl 2 rfl) ?_
            refine lv_aload_n hx hb dX7_does_207 rfl (lv_at hl 5 rfl) ?_
            refine zm_ga C hG 44 (Nat.le_of_ble_eq_true rfl) (by decide) q1487 dX7_does_208 ?_
            refine lv_iload hx hb dX7_does_211 (lv_at hl 3 rfl) ?_
            refine zm_al C hG 44 hf (Nat.le_of_ble_eq_true rfl) rfl dX7_does_213 (fun v213 hf => ?_)
            refine lv_aload_n hx hb dX7_does_214 rfl (lv_at hl 5 rfl) ?_
            refine zm_ga C hG 44 (Nat.le_of_ble_eq_true rfl) (by decide) q1487 dX7_does_215 ?_
            refine lv_iload hx hb dX7_does_218 (lv_at hl 2 rfl) ?_
            refine zm_al C hG 44 hf (Nat.le_of_ble_eq_true rfl) rfl dX7_does_220 (fun v220 hf => ?_)
            refine lv_iadd hx hb dX7_does_221 ?_
            refine lv_bipush (v := zi 100) hx hb dX7_does_222 (by decide +kernel) ?_
            refine lv_irem hx hb dX7_does_224 (by decide +kernel) ?_
            refine zm_as C hG 44 hf (Nat.le_of_ble_eq_true rfl) rfl dX7_does_225 (fun S H locs hG hf => ?_)
            refine lv_aload_n hx hb dX7_does_226 rfl (lv_at hl 5 rfl) ?_
            refine zm_ga C hG 45 (Nat.le_of_ble_eq_true rfl) (by decide) q1488 dX7_does_227 ?_
            refine lv_iload hx hb dX7_does_230 (lv_at hl 2 rfl) ?_
            refine lv_dup2_11 hx hb dX7_does_232 rfl rfl ?_
            refine zm_al C hG 45 hf (Nat.le_of_ble_eq_true rfl) rfl dX7_does_233 (fun v233 hf => ?_)
            refine lv_aload_n hx hb dX7_does_234 rfl (lv_at hl 5 rfl) ?_
            refine zm_ga C hG 45 (Nat.le_of_ble_eq_true rfl) (by decide) q1488 dX7_does_235 ?_
            refine lv_iload hx hb dX7_does_238 (lv_at hl 3 rfl) ?_
            refine zm_al C hG 45 hf (Nat.le_of_ble_eq_true rfl) rfl dX7_does_240 (fun v240 hf => ?_)
            refine lv_ior hx hb dX7_does_241 ?_
            refine zm_as C hG 45 hf (Nat.le_of_ble_eq_true rfl) rfl dX7_does_242 (fun S H locs hG hf => ?_)
            refine lv_goto (tgt := 327) hx hb dX7_does_243 (by decide) ?_
            exact wm_does_l54_j327 Γ l f1 f2 n116 n113 p e R s m args below meth c Q A _ _ _ _ _ _ C hG ⟨ls, rfl, lv_sub hl [5, 6, 7, 0, 1] rfl⟩ hf kk
          · have hf := z_f c126_2 hf
            by_cases c126_3 : v125 = zi 13
            · have hf := z_t c126_3 hf
              refine lv_tableIn (off := 120) (tgt := 246) hx hb dX7_does_126 (by rw [c126_3]; decide +kernel) (by rw [c126_3]; decide +kernel) (by rw [c126_3]; decide +kernel) (by decide) ?_
              refine lv_aload_n hx hb dX7_does_246 rfl (lv_at hl 5 rfl) ?_
              refine zm_ga C hG 44 (Nat.le_of_ble_eq_true rfl) (by decide) q1487 dX7_does_247 ?_
              refine lv_iload hx hb dX7_does_250 (lv_at hl 2 rfl) ?_
              refine lv_iload hx hb dX7_does_252 (lv_at hl 3 rfl) ?_
              refine zm_as C hG 44 hf (Nat.le_of_ble_eq_true rfl) rfl dX7_does_254 (fun S H locs hG hf => ?_)
              refine lv_aload_n hx hb dX7_does_255 rfl (lv_at hl 5 rfl) ?_
              refine zm_ga C hG 45 (Nat.le_of_ble_eq_true rfl) (by decide) q1488 dX7_does_256 ?_
              refine lv_iload hx hb dX7_does_259 (lv_at hl 2 rfl) ?_
              refine lv_iconst (v := zi 0) hx hb dX7_does_261 rfl ?_
              refine zm_as C hG 45 hf (Nat.le_of_ble_eq_true rfl) rfl dX7_does_262 (fun S H locs hG hf => ?_)
              refine lv_goto (tgt := 327) hx hb dX7_does_263 (by decide) ?_
              exact wm_does_l54_j327 Γ l f1 f2 n116 n113 p e R s m args below meth c Q A _ _ _ _ _ _ C hG ⟨ls, rfl, lv_sub hl [5, 6, 7, 0, 1] rfl⟩ hf kk
            · have hf := z_f c126_3 hf
              by_cases c126_4 : v125 = zi 14
              · have hf := z_t c126_4 hf
                refine lv_tableIn (off := 140) (tgt := 266) hx hb dX7_does_126 (by rw [c126_4]; decide +kernel) (by rw [c126_4]; decide +kernel) (by rw [c126_4]; decide +kernel) (by decide) ?_
                refine lv_aload_n hx hb dX7_does_266 rfl (lv_at hl 5 rfl) ?_
                refine zm_ga C hG 46 (Nat.le_of_ble_eq_true rfl) (by decide) q1489 dX7_does_267 ?_
                refine lv_iload hx hb dX7_does_270 (lv_at hl 2 rfl) ?_
                refine lv_dup2_11 hx hb dX7_does_272 rfl rfl ?_
                refine zm_al C hG 46 hf (Nat.le_of_ble_eq_true rfl) rfl dX7_does_273 (fun v273 hf => ?_)
                refine lv_aload_n hx hb dX7_does_274 rfl (lv_at hl 5 rfl) ?_
                refine zm_ga C hG 45 (Nat.le_of_ble_eq_true rfl) (by decide) q1488 dX7_does_275 ?_
                refine lv_iload hx hb dX7_does_278 (lv_at hl 3 rfl) ?_
                refine zm_al C hG 45 hf (Nat.le_of_ble_eq_true rfl) rfl dX7_does_280 (fun v280 hf => ?_)
                refine lv_ior hx hb dX7_does_281 ?_
                refine zm_as C hG 46 hf (Nat.le_of_ble_eq_true rfl) rfl dX7_does_282 (fun S H locs hG hf => ?_)
                refine lv_goto (tgt := 327) hx hb dX7_does_283 (by decide) ?_
                exact wm_does_l54_j327 Γ l f1 f2 n116 n113 p e R s m args below meth c Q A _ _ _ _ _ _ C hG ⟨ls, rfl, lv_sub hl [5, 6, 7, 0, 1] rfl⟩ hf kk
              · have hf := z_f c126_4 hf
                by_cases c126_5 : v125 = zi 15
                · have hf := z_t c126_5 hf
                  refine lv_tableIn (off := 160) (tgt := 286) hx hb dX7_does_126 (by rw [c126_5]; decide +kernel) (by rw [c126_5]; decide +kernel) (by rw [c126_5]; decide +kernel) (by decide) ?_
                  refine lv_aload_n hx hb dX7_does_286 rfl (lv_at hl 5 rfl) ?_
                  refine zm_ga C hG 44 (Nat.le_of_ble_eq_true rfl) (by decide) q1487 dX7_does_287 ?_
                  refine lv_iload hx hb dX7_does_290 (lv_at hl 3 rfl) ?_
                  refine zm_al C hG 44 hf (Nat.le_of_ble_eq_true rfl) rfl dX7_does_292 (fun v292 hf => ?_)
                  refine lv_iload hx hb dX7_does_293 (lv_at hl 2 rfl) ?_
                  refine lv_icmp_ge (tgt := 327) hx hb dX7_does_295 (by decide) (fun c295 => ?_) (fun c295 => ?_)
                  · have hf := z_t c295 hf
                    exact wm_does_l54_j327 Γ l f1 f2 n116 n113 p e R s m args below meth c Q A _ _ _ _ _ _ C hG ⟨ls, rfl, lv_sub hl [5, 6, 7, 0, 1] rfl⟩ hf kk
                  · have hf := z_f c295 hf
                    refine lv_aload_n hx hb dX7_does_298 rfl (lv_at hl 5 rfl) ?_
                    refine zm_ga C hG 0 (Nat.le_of_ble_eq_true rfl) (by decide) q1443 dX7_does_299 ?_
                    refine lv_iload hx hb dX7_does_302 (lv_at hl 4 rfl) ?_
                    refine lv_iconst (v := zi 3) hx hb dX7_does_304 rfl ?_
                    refine lv_iadd hx hb dX7_does_305 ?_
                    refine zm_al C hG 0 hf (Nat.le_of_ble_eq_true rfl) rfl dX7_does_306 (fun v306 hf => ?_)
                    refine lv_istore_n (lv' := [(3, .int v306), (4, .int n113), (7, .int v110), (6, .int v99), (5, .int n89), (0, .ref (G_m Γ 0)), (1, .int f1), (2, .int f2)]) hx hb dX7_does_307 rfl hl (Nat.le_of_ble_eq_true rfl) rfl (fun ls hl => ?_)
                    refine lv_goto (tgt := 327) hx hb dX7_does_308 (by decide) ?_
                    exact wm_does_l54_j327 Γ l f1 f2 v306 n113 p e R s m args below meth c Q A _ _ _ _ _ _ C hG ⟨ls, rfl, lv_sub hl [5, 6, 7, 0, 1] rfl⟩ hf kk
                · have hf := z_f c126_5 hf
                  by_cases c126_6 : v125 = zi 16
                  · have hf := z_t c126_6 hf
                    refine lv_tableIn (off := 185) (tgt := 311) hx hb dX7_does_126 (by rw [c126_6]; decide +kernel) (by rw [c126_6]; decide +kernel) (by rw [c126_6]; decide +kernel) (by decide) ?_
                    refine lv_aload_n hx hb dX7_does_311 rfl (lv_at hl 5 rfl) ?_
                    refine zm_ga C hG 0 (Nat.le_of_ble_eq_true rfl) (by decide) q1443 dX7_does_312 ?_
                    refine lv_iload hx hb dX7_does_315 (lv_at hl 4 rfl) ?_
                    refine lv_iconst (v := zi 3) hx hb dX7_does_317 rfl ?_
                    refine lv_iadd hx hb dX7_does_318 ?_
                    refine zm_al C hG 0 hf (Nat.le_of_ble_eq_true rfl) rfl dX7_does_319 (fun v319 hf => ?_)
                    refine lv_istore_n (lv' := [(3, .int v319), (4, .int n113), (7, .int v110), (6, .int v99), (5, .int n89), (0, .ref (G_m Γ 0)), (1, .int f1), (2, .int f2)]) hx hb dX7_does_320 rfl hl (Nat.le_of_ble_eq_true rfl) rfl (fun ls hl => ?_)
                    refine lv_goto (tgt := 327) hx hb dX7_does_321 (by decide) ?_
                    exact wm_does_l54_j327 Γ l f1 f2 v319 n113 p e R s m args below meth c Q A _ _ _ _ _ _ C hG ⟨ls, rfl, lv_sub hl [5, 6, 7, 0, 1] rfl⟩ hf kk
                  · have hf := z_f c126_6 hf
                    refine lv_tableOut (tgt := 324) hx hb dX7_does_126 (z_tab (fun k h1 h2 => by rcases (show k = 10 ∨ k = 11 ∨ k = 12 ∨ k = 13 ∨ k = 14 ∨ k = 15 ∨ k = 16 by omega) with rfl | rfl | rfl | rfl | rfl | rfl | rfl <;> assumption)) (by decide) ?_
                    obtain ⟨rfl, rfl⟩ := z_p hf
                    exact kk _ _ _ ⟨ls, rfl, lv_sub hl [5, 1] rfl⟩ hG
theorem wm_does_l54 (Γ : zG) (l : Launch) (f1 : Int32) (f2 : Int32) : ∀ s : Int32 × Int32, mRg Γ l yX7_does cX7_does 8 (some .int) 1 20 (m_does_l54 f1 f2 s.1 s.2) (fun m => im_does_l54 Γ f1 f2 m s) (zLE (im_does_l54 Γ f1 f2) (em_does_l54 Γ f1 f2)) := fun s => wm_does_l54_b Γ l f1 f2 s.1 s.2
set_option maxHeartbeats 4000000 in
theorem wm_does (Γ : zG) (l : Launch) (a1 : Int32) (a2 : Int32) : mRg Γ l yX7_does cX7_does 8 (some .int) 1 20 (m_does a1 a2) (zAt0 8 0 (lv_args 0 [.ref (G_m Γ 0), .int a1, .int a2]) []) (zLi cX7_does) := by
  intro p e R s m args below meth c Q A S H locs x S' g C hG hI hf kk
  obtain ⟨ls, rfl, hl⟩ := hI
  obtain ⟨⟨hx, hb, hml, hown, hts⟩, hr, hlk, hK, hR1, hR2⟩ := id C
  have C : zCx Γ p R s m args meth c cX7_does 8 RX7 (some .int) 1 20 := C
  have hl : lv_has ls 8 [(0, .ref (G_m Γ 0)), (1, .int a1), (2, .int a2)] := hl
  refine lv_iconst (v := zi 0) hx hb dX7_does_0 rfl ?_
  refine lv_istore_n (lv' := [(3, .int (zi 0)), (0, .ref (G_m Γ 0)), (1, .int a1), (2, .int a2)]) hx hb dX7_does_1 rfl hl (Nat.le_of_ble_eq_true rfl) rfl (fun ls hl => ?_)
  obtain ⟨e2, S, hlp, hf⟩ := nB_some hf
  refine mRg.loop (wm_does_l2 Γ l a1 a2) (zi 0) p e R s m args below meth c Q A _ _ _ _ _ _ C hG ⟨ls, rfl, lv_sub hl [1, 2, 3, 0] rfl⟩ hlp (fun H locs g hL hG => ?_)
  obtain ⟨ls, rfl, hl⟩ := hL
  have hl : lv_has ls 8 [(0, .ref (G_m Γ 0)), (1, .int a1), (2, .int a2)] := hl
  refine lv_iconst (v := zi 0) hx hb dX7_does_28 rfl ?_
  refine lv_istore_n (lv' := [(3, .int (zi 0)), (0, .ref (G_m Γ 0)), (1, .int a1), (2, .int a2)]) hx hb dX7_does_29 rfl hl (Nat.le_of_ble_eq_true rfl) rfl (fun ls hl => ?_)
  obtain ⟨e30, S, hlp, hf⟩ := nB_some hf
  refine mRg.loop (wm_does_l30 Γ l a1 a2) (zi 0) p e R s m args below meth c Q A _ _ _ _ _ _ C hG ⟨ls, rfl, lv_sub hl [1, 2, 3, 0] rfl⟩ hlp (fun H locs g hL hG => ?_)
  obtain ⟨ls, rfl, hl⟩ := hL
  have hl : lv_has ls 8 [(0, .ref (G_m Γ 0)), (1, .int a1), (2, .int a2)] := hl
  refine lv_iconst (v := zi 0) hx hb dX7_does_49 rfl ?_
  refine lv_istore_n (lv' := [(3, .int (zi 0)), (0, .ref (G_m Γ 0)), (1, .int a1), (2, .int a2)]) hx hb dX7_does_50 rfl hl (Nat.le_of_ble_eq_true rfl) rfl (fun ls hl => ?_)
  refine lv_iconst (v := zi 0) hx hb dX7_does_51 rfl ?_
  refine lv_istore (lv' := [(4, .int (zi 0)), (3, .int (zi 0)), (0, .ref (G_m Γ 0)), (1, .int a1), (2, .int a2)]) hx hb dX7_does_52 hl (Nat.le_of_ble_eq_true rfl) rfl (fun ls hl => ?_)
  obtain ⟨e54, S, hlp, hf⟩ := nB_some hf
  refine mRg.loop (wm_does_l54 Γ l a1 a2) ((zi 0), (zi 0)) p e R s m args below meth c Q A _ _ _ _ _ _ C hG ⟨ls, rfl, lv_sub hl [2, 3, 4, 1, 0] rfl⟩ hlp (fun H locs g hL hG => ?_)
  rcases e54 with e54 | e54
  · have hf := z_dl hf
    obtain ⟨ls, rfl, hl⟩ := hL
    have hl : lv_has ls 8 [(0, .ref (G_m Γ 0)), (4, .int e54)] := hl
    refine lv_iload hx hb dX7_does_324 (lv_at hl 1 rfl) ?_
    obtain ⟨rfl, rfl⟩ := z_p hf
    exact kk _ _ _ ⟨_, _, rfl, dX7_does_326⟩ hG
  · have hf := z_dr hf
    obtain ⟨ls, rfl, hl⟩ := hL
    have hl : lv_has ls 8 [(0, .ref (G_m Γ 0)), (4, .int e54)] := hl
    refine lv_iload hx hb dX7_does_330 (lv_at hl 1 rfl) ?_
    obtain ⟨rfl, rfl⟩ := z_p hf
    exact kk _ _ _ ⟨_, _, rfl, dX7_does_332⟩ hG
theorem ctm_does (Γ : zG) (l : Launch) (a1 : Int32) (a2 : Int32) : mCt Γ l yX7_does (ws_ yX7_does cX7_does 8 (some .int)) 1 20 [.ref (G_m Γ 0), .int a1, .int a2] (m_does a1 a2) zoi := mCt.mki (by decide +kernel) (Nat.le_of_ble_eq_true rfl) (wm_does Γ l a1 a2)
theorem ytm_does : yX7_does.cls = RX7 ∧ yX7_does.cls ≠ "java/lang/invoke/MethodHandle" ∧ yX7_does.cls ≠ "java/lang/invoke/VarHandle" ∧ (parseMethodDescriptor yX7_does.desc).map (fun d => d.parameters.length) = some 2 := by decide +kernel
set_option maxHeartbeats 4000000 in
theorem wm_sent (Γ : zG) (l : Launch) (a1 : Int32) (a2 : Int32) (a3 : Int32) : mRg Γ l yX7_sent cX7_sent 5 (some .int) 2 47 (m_sent a1 a2 a3) (zAt0 5 0 (lv_args 0 [.ref (G_m Γ 0), .int a1, .int a2, .int a3]) []) (zLi cX7_sent) := by
  intro p e R s m args below meth c Q A S H locs x S' g C hG hI hf kk
  obtain ⟨ls, rfl, hl⟩ := hI
  obtain ⟨⟨hx, hb, hml, hown, hts⟩, hr, hlk, hK, hR1, hR2⟩ := id C
  have C : zCx Γ p R s m args meth c cX7_sent 5 RX7 (some .int) 2 47 := C
  have hl : lv_has ls 5 [(0, .ref (G_m Γ 0)), (1, .int a1), (2, .int a2), (3, .int a3)] := hl
  refine lv_aload_n hx hb dX7_sent_0 rfl (lv_at hl 0 rfl) ?_
  refine lv_iload_n hx hb dX7_sent_1 rfl (lv_at hl 1 rfl) ?_
  refine zm_cvi (As := [.int a1]) (rest := []) C hG hf (ctm_isPage Γ l a1) (lw_V q1701 q1703 qs54 q107 q1704) ytm_isPage rfl rfl (Nat.le_of_ble_eq_true rfl) (Nat.le_of_ble_eq_true rfl) hl.1 (Nat.le_of_ble_eq_true rfl) dX7_sent_2 (fun v2 S H locs hG hf => ?_)
  refine lv_if_eq (tgt := 22) hx hb dX7_sent_5 (by decide) (fun c5 => ?_) (fun c5 => ?_)
  · have hf := z_t c5 hf
    refine lv_iconst (v := zi (-1)) hx hb dX7_sent_22 rfl ?_
    obtain ⟨rfl, rfl⟩ := z_p hf
    exact kk _ _ _ ⟨_, _, rfl, dX7_sent_23⟩ hG
  · have hf := z_f c5 hf
    refine lv_iload_n hx hb dX7_sent_8 rfl (lv_at hl 2 rfl) ?_
    refine zm_csi (As := [.int a2]) (rest := []) C hG hf (ctm_isMade Γ l a2) (lw_S q2008 q2009 q107 q2010) ytm_isMade rfl rfl (Nat.le_of_ble_eq_true rfl) (Nat.le_of_ble_eq_true rfl) hl.1 (Nat.le_of_ble_eq_true rfl) dX7_sent_9 (fun v9 S H locs hG hf => ?_)
    refine lv_if_eq (tgt := 22) hx hb dX7_sent_12 (by decide) (fun c12 => ?_) (fun c12 => ?_)
    · have hf := z_t c12 hf
      refine lv_iconst (v := zi (-1)) hx hb dX7_sent_22 rfl ?_
      obtain ⟨rfl, rfl⟩ := z_p hf
      exact kk _ _ _ ⟨_, _, rfl, dX7_sent_23⟩ hG
    · have hf := z_f c12 hf
      refine lv_iload_n hx hb dX7_sent_15 rfl (lv_at hl 3 rfl) ?_
      refine zm_csi (As := [.int a3]) (rest := []) C hG hf (ctm_isAddress Γ l a3) (lw_S q1989 q1990 q107 q1991) ytm_isAddress rfl rfl (Nat.le_of_ble_eq_true rfl) (Nat.le_of_ble_eq_true rfl) hl.1 (Nat.le_of_ble_eq_true rfl) dX7_sent_16 (fun v16 S H locs hG hf => ?_)
      refine lv_if_ne (tgt := 24) hx hb dX7_sent_19 (by decide) (fun c19 => ?_) (fun c19 => ?_)
      · have hf := z_f c19 hf
        refine lv_aload_n hx hb dX7_sent_24 rfl (lv_at hl 0 rfl) ?_
        refine lv_iload_n hx hb dX7_sent_25 rfl (lv_at hl 1 rfl) ?_
        refine lv_iload_n hx hb dX7_sent_26 rfl (lv_at hl 2 rfl) ?_
        refine zm_cvi (As := [.int a1, .int a2]) (rest := []) C hG hf (ctm_does Γ l a1 a2) (lw_V q2011 q2013 qs92 q107 q2014) ytm_does rfl rfl (Nat.le_of_ble_eq_true rfl) (Nat.le_of_ble_eq_true rfl) hl.1 (Nat.le_of_ble_eq_true rfl) dX7_sent_27 (fun v27 S H locs hG hf => ?_)
        refine lv_istore (lv' := [(4, .int v27), (0, .ref (G_m Γ 0)), (1, .int a1), (2, .int a2), (3, .int a3)]) hx hb dX7_sent_30 hl (Nat.le_of_ble_eq_true rfl) rfl (fun ls hl => ?_)
        refine lv_aload_n hx hb dX7_sent_32 rfl (lv_at hl 1 rfl) ?_
        refine zm_ga C hG 46 (Nat.le_of_ble_eq_true rfl) (by decide) q1489 dX7_sent_33 ?_
        refine lv_iload_n hx hb dX7_sent_36 rfl (lv_at hl 4 rfl) ?_
        refine zm_al C hG 46 hf (Nat.le_of_ble_eq_true rfl) rfl dX7_sent_37 (fun v37 hf => ?_)
        obtain ⟨rfl, rfl⟩ := z_p hf
        exact kk _ _ _ ⟨_, _, rfl, dX7_sent_38⟩ hG
      · have hf := z_t c19 hf
        refine lv_iconst (v := zi (-1)) hx hb dX7_sent_22 rfl ?_
        obtain ⟨rfl, rfl⟩ := z_p hf
        exact kk _ _ _ ⟨_, _, rfl, dX7_sent_23⟩ hG
theorem ctm_sent (Γ : zG) (l : Launch) (a1 : Int32) (a2 : Int32) (a3 : Int32) : mCt Γ l yX7_sent (ws_ yX7_sent cX7_sent 5 (some .int)) 2 47 [.ref (G_m Γ 0), .int a1, .int a2, .int a3] (m_sent a1 a2 a3) zoi := mCt.mki (by decide +kernel) (Nat.le_of_ble_eq_true rfl) (wm_sent Γ l a1 a2 a3)
theorem ytm_sent : yX7_sent.cls = RX7 ∧ yX7_sent.cls ≠ "java/lang/invoke/MethodHandle" ∧ yX7_sent.cls ≠ "java/lang/invoke/VarHandle" ∧ (parseMethodDescriptor yX7_sent.desc).map (fun d => d.parameters.length) = some 3 := by decide +kernel
set_option maxHeartbeats 4000000 in
theorem wm_steps (Γ : zG) (l : Launch) (a1 : Int32) (a2 : Int32) : mRg Γ l yX7_steps cX7_steps 3 (some .int) 2 47 (m_steps a1 a2) (zAt0 3 0 (lv_args 0 [.ref (G_m Γ 0), .int a1, .int a2]) []) (zLi cX7_steps) := by
  intro p e R s m args below meth c Q A S H locs x S' g C hG hI hf kk
  obtain ⟨ls, rfl, hl⟩ := hI
  obtain ⟨⟨hx, hb, hml, hown, hts⟩, hr, hlk, hK, hR1, hR2⟩ := id C
  have C : zCx Γ p R s m args meth c cX7_steps 3 RX7 (some .int) 2 47 := C
  have hl : lv_has ls 3 [(0, .ref (G_m Γ 0)), (1, .int a1), (2, .int a2)] := hl
  refine lv_aload_n hx hb dX7_steps_0 rfl (lv_at hl 0 rfl) ?_
  refine lv_iload_n hx hb dX7_steps_1 rfl (lv_at hl 1 rfl) ?_
  refine zm_cvi (As := [.int a1]) (rest := []) C hG hf (ctm_isPage Γ l a1) (lw_V q1701 q1703 qs54 q107 q1704) ytm_isPage rfl rfl (Nat.le_of_ble_eq_true rfl) (Nat.le_of_ble_eq_true rfl) hl.1 (Nat.le_of_ble_eq_true rfl) dX7_steps_2 (fun v2 S H locs hG hf => ?_)
  refine lv_if_eq (tgt := 24) hx hb dX7_steps_5 (by decide) (fun c5 => ?_) (fun c5 => ?_)
  · have hf := z_t c5 hf
    refine lv_iconst (v := zi (-1)) hx hb dX7_steps_24 rfl ?_
    obtain ⟨rfl, rfl⟩ := z_p hf
    exact kk _ _ _ ⟨_, _, rfl, dX7_steps_25⟩ hG
  · have hf := z_f c5 hf
    refine lv_iload_n hx hb dX7_steps_8 rfl (lv_at hl 2 rfl) ?_
    refine zm_csi (As := [.int a2]) (rest := []) C hG hf (ctm_isMade Γ l a2) (lw_S q2008 q2009 q107 q2010) ytm_isMade rfl rfl (Nat.le_of_ble_eq_true rfl) (Nat.le_of_ble_eq_true rfl) hl.1 (Nat.le_of_ble_eq_true rfl) dX7_steps_9 (fun v9 S H locs hG hf => ?_)
    refine lv_if_eq (tgt := 24) hx hb dX7_steps_12 (by decide) (fun c12 => ?_) (fun c12 => ?_)
    · have hf := z_t c12 hf
      refine lv_iconst (v := zi (-1)) hx hb dX7_steps_24 rfl ?_
      obtain ⟨rfl, rfl⟩ := z_p hf
      exact kk _ _ _ ⟨_, _, rfl, dX7_steps_25⟩ hG
    · have hf := z_f c12 hf
      refine lv_aload_n hx hb dX7_steps_15 rfl (lv_at hl 0 rfl) ?_
      refine lv_iload_n hx hb dX7_steps_16 rfl (lv_at hl 1 rfl) ?_
      refine lv_iload_n hx hb dX7_steps_17 rfl (lv_at hl 2 rfl) ?_
      refine zm_cvi (As := [.int a1, .int a2]) (rest := []) C hG hf (ctm_does Γ l a1 a2) (lw_V q2011 q2013 qs92 q107 q2014) ytm_does rfl rfl (Nat.le_of_ble_eq_true rfl) (Nat.le_of_ble_eq_true rfl) hl.1 (Nat.le_of_ble_eq_true rfl) dX7_steps_18 (fun v18 S H locs hG hf => ?_)
      refine lv_goto (tgt := 25) hx hb dX7_steps_21 (by decide) ?_
      obtain ⟨rfl, rfl⟩ := z_p hf
      exact kk _ _ _ ⟨_, _, rfl, dX7_steps_25⟩ hG
theorem ctm_steps (Γ : zG) (l : Launch) (a1 : Int32) (a2 : Int32) : mCt Γ l yX7_steps (ws_ yX7_steps cX7_steps 3 (some .int)) 2 47 [.ref (G_m Γ 0), .int a1, .int a2] (m_steps a1 a2) zoi := mCt.mki (by decide +kernel) (Nat.le_of_ble_eq_true rfl) (wm_steps Γ l a1 a2)
theorem ytm_steps : yX7_steps.cls = RX7 ∧ yX7_steps.cls ≠ "java/lang/invoke/MethodHandle" ∧ yX7_steps.cls ≠ "java/lang/invoke/VarHandle" ∧ (parseMethodDescriptor yX7_steps.desc).map (fun d => d.parameters.length) = some 2 := by decide +kernel
def im_takenWith_l14 (Γ : zG) (f3 : Int32) (m : MethodId) (s : Int32 × Int32) (g : JFrame) : Prop := zAt0 9 14 [(0, .ref (G_m Γ 0)), (3, .int f3), (5, .int s.1), (6, .int s.2)] [] m g
def em_takenWith_l14 (Γ : zG) (f3 : Int32) (m : MethodId) (e : Int32) (g : JFrame) : Prop := zAt0 9 85 [(0, .ref (G_m Γ 0)), (5, .int e)] [] m g
set_option maxHeartbeats 4000000 in
theorem wm_takenWith_l14_j60 (Γ : zG) (l : Launch) (b3 : Int32) (b5 : Int32) (b6 : Int32) (t0 : Int32) : mRg Γ l yX7_takenWith cX7_takenWith 9 (some .int) 2 47 (m_takenWith_l14_j60 b3 b5 b6 t0) (zAt0 9 60 [(0, .ref (G_m Γ 0)), (3, .int b3), (5, .int b5), (6, .int b6)] [.int t0]) (zLE (im_takenWith_l14 Γ b3) (em_takenWith_l14 Γ b3)) := by
  intro p e R s m args below meth c Q A S H locs x S' g C hG hI hf kk
  obtain ⟨ls, rfl, hl⟩ := hI
  obtain ⟨⟨hx, hb, hml, hown, hts⟩, hr, hlk, hK, hR1, hR2⟩ := id C
  have C : zCx Γ p R s m args meth c cX7_takenWith 9 RX7 (some .int) 2 47 := C
  refine lv_istore (lv' := [(8, .int t0), (0, .ref (G_m Γ 0)), (3, .int b3), (5, .int b5), (6, .int b6)]) hx hb dX7_takenWith_60 hl (Nat.le_of_ble_eq_true rfl) rfl (fun ls hl => ?_)
  refine lv_iload hx hb dX7_takenWith_62 (lv_at hl 0 rfl) ?_
  refine lv_if_ne (tgt := 79) hx hb dX7_takenWith_64 (by decide) (fun c64 => ?_) (fun c64 => ?_)
  · have hf := z_f c64 hf
    refine z_iinc (fun v => [(6, .int v), (8, .int t0), (0, .ref (G_m Γ 0)), (3, .int b3), (5, .int b5)]) hx hb hf dX7_takenWith_79 hl (k := 4) rfl (Nat.le_of_ble_eq_true rfl) (fun _ => rfl) (fun n79 ls hf hl => ?_)
    refine lv_goto (tgt := 14) hx hb dX7_takenWith_82 (by decide) ?_
    obtain ⟨rfl, rfl⟩ := z_p hf
    exact kk _ _ _ ⟨ls, rfl, lv_sub hl [2, 3, 4, 0] rfl⟩ hG
  · have hf := z_t c64 hf
    refine lv_iload hx hb dX7_takenWith_67 (lv_at hl 3 rfl) ?_
    refine lv_aload_n hx hb dX7_takenWith_69 rfl (lv_at hl 1 rfl) ?_
    refine zm_ga C hG 46 (Nat.le_of_ble_eq_true rfl) (by decide) q1489 dX7_takenWith_70 ?_
    refine lv_iload hx hb dX7_takenWith_73 (lv_at hl 4 rfl) ?_
    refine zm_al C hG 46 hf (Nat.le_of_ble_eq_true rfl) rfl dX7_takenWith_75 (fun v75 hf => ?_)
    refine lv_ior hx hb dX7_takenWith_76 ?_
    refine z_top hf (fun n77 hf => ?_)
    refine lv_istore (lv' := [(5, .int n77), (8, .int t0), (0, .ref (G_m Γ 0)), (3, .int b3), (6, .int b6)]) hx hb dX7_takenWith_77 hl (Nat.le_of_ble_eq_true rfl) rfl (fun ls hl => ?_)
    refine z_iinc (fun v => [(6, .int v), (5, .int n77), (8, .int t0), (0, .ref (G_m Γ 0)), (3, .int b3)]) hx hb hf dX7_takenWith_79 hl (k := 4) rfl (Nat.le_of_ble_eq_true rfl) (fun _ => rfl) (fun n79 ls hf hl => ?_)
    refine lv_goto (tgt := 14) hx hb dX7_takenWith_82 (by decide) ?_
    obtain ⟨rfl, rfl⟩ := z_p hf
    exact kk _ _ _ ⟨ls, rfl, lv_sub hl [3, 4, 1, 0] rfl⟩ hG
set_option maxHeartbeats 4000000 in
theorem wm_takenWith_l14_j59 (Γ : zG) (l : Launch) (b3 : Int32) (b5 : Int32) (b6 : Int32) : mRg Γ l yX7_takenWith cX7_takenWith 9 (some .int) 2 47 (m_takenWith_l14_j59 b3 b5 b6) (zAt0 9 59 [(0, .ref (G_m Γ 0)), (3, .int b3), (5, .int b5), (6, .int b6)] []) (zLE (im_takenWith_l14 Γ b3) (em_takenWith_l14 Γ b3)) := by
  intro p e R s m args below meth c Q A S H locs x S' g C hG hI hf kk
  obtain ⟨ls, rfl, hl⟩ := hI
  obtain ⟨⟨hx, hb, hml, hown, hts⟩, hr, hlk, hK, hR1, hR2⟩ := id C
  have C : zCx Γ p R s m args meth c cX7_takenWith 9 RX7 (some .int) 2 47 := C
  refine lv_iconst (v := zi 0) hx hb dX7_takenWith_59 rfl ?_
  exact wm_takenWith_l14_j60 Γ l b3 b5 b6 (zi 0) p e R s m args below meth c Q A _ _ _ _ _ _ C hG ⟨ls, rfl, lv_sub hl [0, 1, 2, 3] rfl⟩ hf kk
set_option maxHeartbeats 4000000 in
theorem wm_takenWith_l14_b (Γ : zG) (l : Launch) (f3 : Int32) (s5 : Int32) (s6 : Int32) : mRg Γ l yX7_takenWith cX7_takenWith 9 (some .int) 2 47 (m_takenWith_l14 f3 s5 s6) (zAt0 9 14 [(0, .ref (G_m Γ 0)), (3, .int f3), (5, .int s5), (6, .int s6)] []) (zLE (im_takenWith_l14 Γ f3) (em_takenWith_l14 Γ f3)) := by
  intro p e R s m args below meth c Q A S H locs x S' g C hG hI hf kk
  obtain ⟨ls, rfl, hl⟩ := hI
  obtain ⟨⟨hx, hb, hml, hown, hts⟩, hr, hlk, hK, hR1, hR2⟩ := id C
  have C : zCx Γ p R s m args meth c cX7_takenWith 9 RX7 (some .int) 2 47 := C
  refine lv_iload hx hb dX7_takenWith_14 (lv_at hl 3 rfl) ?_
  refine lv_bipush (v := zi 10) hx hb dX7_takenWith_16 (by decide +kernel) ?_
  refine lv_icmp_ge (tgt := 85) hx hb dX7_takenWith_18 (by decide) (fun c18 => ?_) (fun c18 => ?_)
  · have hf := z_t c18 hf
    obtain ⟨rfl, rfl⟩ := z_p hf
    exact kk _ _ _ ⟨ls, rfl, lv_sub hl [0, 2] rfl⟩ hG
  · have hf := z_f c18 hf
    refine lv_aload_n hx hb dX7_takenWith_21 rfl (lv_at hl 0 rfl) ?_
    refine lv_iload hx hb dX7_takenWith_22 (lv_at hl 3 rfl) ?_
    refine zm_cvi (As := [.int s6]) (rest := []) C hG hf (ctm_endOf Γ l s6) (lw_V q2000 q2002 qs91 q107 q2003) ytm_endOf rfl rfl (Nat.le_of_ble_eq_true rfl) (Nat.le_of_ble_eq_true rfl) hl.1 (Nat.le_of_ble_eq_true rfl) dX7_takenWith_24 (fun v24 S H locs hG hf => ?_)
    refine lv_istore (lv' := [(7, .int v24), (0, .ref (G_m Γ 0)), (3, .int f3), (5, .int s5), (6, .int s6)]) hx hb dX7_takenWith_27 hl (Nat.le_of_ble_eq_true rfl) rfl (fun ls hl => ?_)
    refine lv_iload hx hb dX7_takenWith_29 (lv_at hl 0 rfl) ?_
    refine lv_if_lt (tgt := 59) hx hb dX7_takenWith_31 (by decide) (fun c31 => ?_) (fun c31 => ?_)
    · have hf := z_t c31 hf
      exact wm_takenWith_l14_j59 Γ l f3 s5 s6 p e R s m args below meth c Q A _ _ _ _ _ _ C hG ⟨ls, rfl, lv_sub hl [1, 2, 3, 4] rfl⟩ hf kk
    · have hf := z_f c31 hf
      refine lv_iload_n hx hb dX7_takenWith_34 rfl (lv_at hl 2 rfl) ?_
      refine lv_if_lt (tgt := 59) hx hb dX7_takenWith_35 (by decide) (fun c35 => ?_) (fun c35 => ?_)
      · have hf := z_t c35 hf
        exact wm_takenWith_l14_j59 Γ l f3 s5 s6 p e R s m args below meth c Q A _ _ _ _ _ _ C hG ⟨ls, rfl, lv_sub hl [1, 2, 3, 4] rfl⟩ hf kk
      · have hf := z_f c35 hf
        refine lv_aload_n hx hb dX7_takenWith_38 rfl (lv_at hl 1 rfl) ?_
        refine zm_ga C hG 0 (Nat.le_of_ble_eq_true rfl) (by decide) q1443 dX7_takenWith_39 ?_
        refine lv_sipush (v := zi 4780) hx hb dX7_takenWith_42 (by decide +kernel) ?_
        refine lv_iload hx hb dX7_takenWith_45 (lv_at hl 0 rfl) ?_
        refine lv_iadd hx hb dX7_takenWith_47 ?_
        refine zm_al C hG 0 hf (Nat.le_of_ble_eq_true rfl) rfl dX7_takenWith_48 (fun v48 hf => ?_)
        refine lv_iload_n hx hb dX7_takenWith_49 rfl (lv_at hl 2 rfl) ?_
        refine lv_iconst (v := zi 1) hx hb dX7_takenWith_50 rfl ?_
        refine lv_iadd hx hb dX7_takenWith_51 ?_
        refine lv_icmp_ne (tgt := 59) hx hb dX7_takenWith_52 (by decide) (fun c52 => ?_) (fun c52 => ?_)
        · have hf := z_f c52 hf
          exact wm_takenWith_l14_j59 Γ l f3 s5 s6 p e R s m args below meth c Q A _ _ _ _ _ _ C hG ⟨ls, rfl, lv_sub hl [1, 2, 3, 4] rfl⟩ hf kk
        · have hf := z_t c52 hf
          refine lv_iconst (v := zi 1) hx hb dX7_takenWith_55 rfl ?_
          refine lv_goto (tgt := 60) hx hb dX7_takenWith_56 (by decide) ?_
          exact wm_takenWith_l14_j60 Γ l f3 s5 s6 (zi 1) p e R s m args below meth c Q A _ _ _ _ _ _ C hG ⟨ls, rfl, lv_sub hl [1, 2, 3, 4] rfl⟩ hf kk
theorem wm_takenWith_l14 (Γ : zG) (l : Launch) (f3 : Int32) : ∀ s : Int32 × Int32, mRg Γ l yX7_takenWith cX7_takenWith 9 (some .int) 2 47 (m_takenWith_l14 f3 s.1 s.2) (fun m => im_takenWith_l14 Γ f3 m s) (zLE (im_takenWith_l14 Γ f3) (em_takenWith_l14 Γ f3)) := fun s => wm_takenWith_l14_b Γ l f3 s.1 s.2
set_option maxHeartbeats 4000000 in
theorem wm_takenWith (Γ : zG) (l : Launch) (a1 : Int32) (a2 : Int32) (a3 : Int32) : mRg Γ l yX7_takenWith cX7_takenWith 9 (some .int) 2 47 (m_takenWith a1 a2 a3) (zAt0 9 0 (lv_args 0 [.ref (G_m Γ 0), .int a1, .int a2, .int a3]) []) (zLi cX7_takenWith) := by
  intro p e R s m args below meth c Q A S H locs x S' g C hG hI hf kk
  obtain ⟨ls, rfl, hl⟩ := hI
  obtain ⟨⟨hx, hb, hml, hown, hts⟩, hr, hlk, hK, hR1, hR2⟩ := id C
  have C : zCx Γ p R s m args meth c cX7_takenWith 9 RX7 (some .int) 2 47 := C
  have hl : lv_has ls 9 [(0, .ref (G_m Γ 0)), (1, .int a1), (2, .int a2), (3, .int a3)] := hl
  refine lv_aload_n hx hb dX7_takenWith_0 rfl (lv_at hl 0 rfl) ?_
  refine lv_iload_n hx hb dX7_takenWith_1 rfl (lv_at hl 1 rfl) ?_
  refine lv_iload_n hx hb dX7_takenWith_2 rfl (lv_at hl 2 rfl) ?_
  refine zm_cvi (As := [.int a1, .int a2]) (rest := []) C hG hf (ctm_does Γ l a1 a2) (lw_V q2011 q2013 qs92 q107 q2014) ytm_does rfl rfl (Nat.le_of_ble_eq_true rfl) (Nat.le_of_ble_eq_true rfl) hl.1 (Nat.le_of_ble_eq_true rfl) dX7_takenWith_3 (fun v3 S H locs hG hf => ?_)
  refine lv_istore (lv' := [(4, .int v3), (0, .ref (G_m Γ 0)), (1, .int a1), (2, .int a2), (3, .int a3)]) hx hb dX7_takenWith_6 hl (Nat.le_of_ble_eq_true rfl) rfl (fun ls hl => ?_)
  refine lv_iconst (v := zi 0) hx hb dX7_takenWith_8 rfl ?_
  refine lv_istore (lv' := [(5, .int (zi 0)), (4, .int v3), (0, .ref (G_m Γ 0)), (1, .int a1), (2, .int a2), (3, .int a3)]) hx hb dX7_takenWith_9 hl (Nat.le_of_ble_eq_true rfl) rfl (fun ls hl => ?_)
  refine lv_iconst (v := zi 0) hx hb dX7_takenWith_11 rfl ?_
  refine lv_istore (lv' := [(6, .int (zi 0)), (5, .int (zi 0)), (4, .int v3), (0, .ref (G_m Γ 0)), (1, .int a1), (2, .int a2), (3, .int a3)]) hx hb dX7_takenWith_12 hl (Nat.le_of_ble_eq_true rfl) rfl (fun ls hl => ?_)
  obtain ⟨e14, S, hlp, hf⟩ := nB_some hf
  refine mRg.loop (wm_takenWith_l14 Γ l a3) ((zi 0), (zi 0)) p e R s m args below meth c Q A _ _ _ _ _ _ C hG ⟨ls, rfl, lv_sub hl [3, 6, 1, 0] rfl⟩ hlp (fun H locs g hL hG => ?_)
  obtain ⟨ls, rfl, hl⟩ := hL
  have hl : lv_has ls 9 [(0, .ref (G_m Γ 0)), (5, .int e14)] := hl
  refine lv_iload hx hb dX7_takenWith_85 (lv_at hl 1 rfl) ?_
  obtain ⟨rfl, rfl⟩ := z_p hf
  exact kk _ _ _ ⟨_, _, rfl, dX7_takenWith_87⟩ hG
theorem ctm_takenWith (Γ : zG) (l : Launch) (a1 : Int32) (a2 : Int32) (a3 : Int32) : mCt Γ l yX7_takenWith (ws_ yX7_takenWith cX7_takenWith 9 (some .int)) 2 47 [.ref (G_m Γ 0), .int a1, .int a2, .int a3] (m_takenWith a1 a2 a3) zoi := mCt.mki (by decide +kernel) (Nat.le_of_ble_eq_true rfl) (wm_takenWith Γ l a1 a2 a3)
theorem ytm_takenWith : yX7_takenWith.cls = RX7 ∧ yX7_takenWith.cls ≠ "java/lang/invoke/MethodHandle" ∧ yX7_takenWith.cls ≠ "java/lang/invoke/VarHandle" ∧ (parseMethodDescriptor yX7_takenWith.desc).map (fun d => d.parameters.length) = some 3 := by decide +kernel
def im_taken_l55 (Γ : zG) (f1 : Int32) (f3 : Int32) (m : MethodId) (s : Int32 × Int32) (g : JFrame) : Prop := zAt0 6 55 [(0, .ref (G_m Γ 0)), (1, .int f1), (3, .int f3), (4, .int s.1), (5, .int s.2)] [] m g
def em_taken_l55 (Γ : zG) (f1 : Int32) (f3 : Int32) (m : MethodId) (e : Int32) (g : JFrame) : Prop := zAt0 6 81 [(0, .ref (G_m Γ 0)), (4, .int e)] [] m g
set_option maxHeartbeats 4000000 in
theorem wm_taken_l55_b (Γ : zG) (l : Launch) (f1 : Int32) (f3 : Int32) (s4 : Int32) (s5 : Int32) : mRg Γ l yX7_taken cX7_taken 6 (some .int) 5 122 (m_taken_l55 f1 f3 s4 s5) (zAt0 6 55 [(0, .ref (G_m Γ 0)), (1, .int f1), (3, .int f3), (4, .int s4), (5, .int s5)] []) (zLE (im_taken_l55 Γ f1 f3) (em_taken_l55 Γ f1 f3)) := by
  intro p e R s m args below meth c Q A S H locs x S' g C hG hI hf kk
  obtain ⟨ls, rfl, hl⟩ := hI
  obtain ⟨⟨hx, hb, hml, hown, hts⟩, hr, hlk, hK, hR1, hR2⟩ := id C
  have C : zCx Γ p R s m args meth c cX7_taken 6 RX7 (some .int) 5 122 := C
  refine lv_iload hx hb dX7_taken_55 (lv_at hl 4 rfl) ?_
  refine lv_bipush (v := zi 100) hx hb dX7_taken_57 (by decide +kernel) ?_
  refine lv_icmp_ge (tgt := 81) hx hb dX7_taken_59 (by decide) (fun c59 => ?_) (fun c59 => ?_)
  · have hf := z_t c59 hf
    obtain ⟨rfl, rfl⟩ := z_p hf
    exact kk _ _ _ ⟨ls, rfl, lv_sub hl [0, 3] rfl⟩ hG
  · have hf := z_f c59 hf
    refine lv_iload hx hb dX7_taken_62 (lv_at hl 3 rfl) ?_
    refine lv_aload_n hx hb dX7_taken_64 rfl (lv_at hl 0 rfl) ?_
    refine lv_iload_n hx hb dX7_taken_65 rfl (lv_at hl 1 rfl) ?_
    refine lv_iload hx hb dX7_taken_66 (lv_at hl 4 rfl) ?_
    refine lv_iload_n hx hb dX7_taken_68 rfl (lv_at hl 2 rfl) ?_
    refine zm_cvi (As := [.int f1, .int s5, .int f3]) (rest := [.int s4]) C hG hf (ctm_takenWith Γ l f1 s5 f3) (lw_V q2023 q2025 qs93 q107 q2026) ytm_takenWith rfl rfl (Nat.le_of_ble_eq_true rfl) (Nat.le_of_ble_eq_true rfl) hl.1 (Nat.le_of_ble_eq_true rfl) dX7_taken_69 (fun v69 S H locs hG hf => ?_)
    refine lv_ior hx hb dX7_taken_72 ?_
    refine z_top hf (fun n73 hf => ?_)
    refine lv_istore (lv' := [(4, .int n73), (0, .ref (G_m Γ 0)), (1, .int f1), (3, .int f3), (5, .int s5)]) hx hb dX7_taken_73 hl (Nat.le_of_ble_eq_true rfl) rfl (fun ls hl => ?_)
    refine z_iinc (fun v => [(5, .int v), (4, .int n73), (0, .ref (G_m Γ 0)), (1, .int f1), (3, .int f3)]) hx hb hf dX7_taken_75 hl (k := 4) rfl (Nat.le_of_ble_eq_true rfl) (fun _ => rfl) (fun n75 ls hf hl => ?_)
    refine lv_goto (tgt := 55) hx hb dX7_taken_78 (by decide) ?_
    obtain ⟨rfl, rfl⟩ := z_p hf
    exact kk _ _ _ ⟨ls, rfl, lv_sub hl [2, 3, 4, 1, 0] rfl⟩ hG
theorem wm_taken_l55 (Γ : zG) (l : Launch) (f1 : Int32) (f3 : Int32) : ∀ s : Int32 × Int32, mRg Γ l yX7_taken cX7_taken 6 (some .int) 5 122 (m_taken_l55 f1 f3 s.1 s.2) (fun m => im_taken_l55 Γ f1 f3 m s) (zLE (im_taken_l55 Γ f1 f3) (em_taken_l55 Γ f1 f3)) := fun s => wm_taken_l55_b Γ l f1 f3 s.1 s.2
set_option maxHeartbeats 4000000 in
theorem wm_taken_j22 (Γ : zG) (l : Launch) (b1 : Int32) (b2 : Int32) : mRg Γ l yX7_taken cX7_taken 6 (some .int) 5 122 (m_taken_j22 b1 b2) (zAt0 6 22 [(0, .ref (G_m Γ 0)), (1, .int b1), (2, .int b2)] []) (zLi cX7_taken) := by
  intro p e R s m args below meth c Q A S H locs x S' g C hG hI hf kk
  obtain ⟨ls, rfl, hl⟩ := hI
  obtain ⟨⟨hx, hb, hml, hown, hts⟩, hr, hlk, hK, hR1, hR2⟩ := id C
  have C : zCx Γ p R s m args meth c cX7_taken 6 RX7 (some .int) 5 122 := C
  refine lv_aload_n hx hb dX7_taken_22 rfl (lv_at hl 0 rfl) ?_
  refine lv_iload_n hx hb dX7_taken_23 rfl (lv_at hl 1 rfl) ?_
  refine lv_iconst (v := zi 0) hx hb dX7_taken_24 rfl ?_
  refine lv_iconst (v := zi 0) hx hb dX7_taken_25 rfl ?_
  refine zm_cvv (As := [.int b1, .int (zi 0), .int (zi 0)]) (rest := []) C hG hf (ctm_shows Γ l b1 (zi 0) (zi 0)) (lw_V q1799 q1801 qs67 q107 q1802) ytm_shows rfl rfl (Nat.le_of_ble_eq_true rfl) (Nat.le_of_ble_eq_true rfl) hl.1 (Nat.le_of_ble_eq_true rfl) dX7_taken_26 (fun S H locs hG hf => ?_)
  refine lv_aload_n hx hb dX7_taken_29 rfl (lv_at hl 0 rfl) ?_
  refine lv_iconst (v := zi 0) hx hb dX7_taken_30 rfl ?_
  refine lv_iconst (v := zi 0) hx hb dX7_taken_31 rfl ?_
  refine zm_cvi (As := [.int (zi 0), .int (zi 0)]) (rest := []) C hG hf (ctm_likeNow Γ l (zi 0) (zi 0)) (lw_V q1811 q1813 qs69 q107 q1814) ytm_likeNow rfl rfl (Nat.le_of_ble_eq_true rfl) (Nat.le_of_ble_eq_true rfl) hl.1 (Nat.le_of_ble_eq_true rfl) dX7_taken_32 (fun v32 S H locs hG hf => ?_)
  refine lv_istore_n (lv' := [(3, .int v32), (0, .ref (G_m Γ 0)), (1, .int b1), (2, .int b2)]) hx hb dX7_taken_35 rfl hl (Nat.le_of_ble_eq_true rfl) rfl (fun ls hl => ?_)
  refine lv_iload_n hx hb dX7_taken_36 rfl (lv_at hl 3 rfl) ?_
  refine lv_iconst (v := zi (-1)) hx hb dX7_taken_37 rfl ?_
  refine lv_icmp_eq (tgt := 49) hx hb dX7_taken_38 (by decide) (fun c38 => ?_) (fun c38 => ?_)
  · have hf := z_t c38 hf
    refine lv_iconst (v := zi 0) hx hb dX7_taken_49 rfl ?_
    refine lv_istore (lv' := [(4, .int (zi 0)), (3, .int v32), (0, .ref (G_m Γ 0)), (1, .int b1), (2, .int b2)]) hx hb dX7_taken_50 hl (Nat.le_of_ble_eq_true rfl) rfl (fun ls hl => ?_)
    refine lv_iconst (v := zi 0) hx hb dX7_taken_52 rfl ?_
    refine lv_istore (lv' := [(5, .int (zi 0)), (4, .int (zi 0)), (3, .int v32), (0, .ref (G_m Γ 0)), (1, .int b1), (2, .int b2)]) hx hb dX7_taken_53 hl (Nat.le_of_ble_eq_true rfl) rfl (fun ls hl => ?_)
    obtain ⟨e55, S, hlp, hf⟩ := nB_some hf
    refine mRg.loop (wm_taken_l55 Γ l b1 v32) ((zi 0), (zi 0)) p e R s m args below meth c Q A _ _ _ _ _ _ C hG ⟨ls, rfl, lv_sub hl [3, 4, 2, 1, 0] rfl⟩ hlp (fun H locs g hL hG => ?_)
    obtain ⟨ls, rfl, hl⟩ := hL
    have hl : lv_has ls 6 [(0, .ref (G_m Γ 0)), (4, .int e55)] := hl
    refine lv_iload hx hb dX7_taken_81 (lv_at hl 1 rfl) ?_
    obtain ⟨rfl, rfl⟩ := z_p hf
    exact kk _ _ _ ⟨_, _, rfl, dX7_taken_83⟩ hG
  · have hf := z_f c38 hf
    refine lv_aload_n hx hb dX7_taken_41 rfl (lv_at hl 1 rfl) ?_
    refine lv_iload_n hx hb dX7_taken_42 rfl (lv_at hl 2 rfl) ?_
    refine lv_iload_n hx hb dX7_taken_43 rfl (lv_at hl 3 rfl) ?_
    refine lv_iload_n hx hb dX7_taken_44 rfl (lv_at hl 0 rfl) ?_
    refine zm_cvi (As := [.int b1, .int b2, .int v32]) (rest := []) C hG hf (ctm_takenWith Γ l b1 b2 v32) (lw_V q2023 q2025 qs93 q107 q2026) ytm_takenWith rfl rfl (Nat.le_of_ble_eq_true rfl) (Nat.le_of_ble_eq_true rfl) hl.1 (Nat.le_of_ble_eq_true rfl) dX7_taken_45 (fun v45 S H locs hG hf => ?_)
    obtain ⟨rfl, rfl⟩ := z_p hf
    exact kk _ _ _ ⟨_, _, rfl, dX7_taken_48⟩ hG
set_option maxHeartbeats 4000000 in
theorem wm_taken (Γ : zG) (l : Launch) (a1 : Int32) (a2 : Int32) : mRg Γ l yX7_taken cX7_taken 6 (some .int) 5 122 (m_taken a1 a2) (zAt0 6 0 (lv_args 0 [.ref (G_m Γ 0), .int a1, .int a2]) []) (zLi cX7_taken) := by
  intro p e R s m args below meth c Q A S H locs x S' g C hG hI hf kk
  obtain ⟨ls, rfl, hl⟩ := hI
  obtain ⟨⟨hx, hb, hml, hown, hts⟩, hr, hlk, hK, hR1, hR2⟩ := id C
  have C : zCx Γ p R s m args meth c cX7_taken 6 RX7 (some .int) 5 122 := C
  have hl : lv_has ls 6 [(0, .ref (G_m Γ 0)), (1, .int a1), (2, .int a2)] := hl
  refine lv_aload_n hx hb dX7_taken_0 rfl (lv_at hl 0 rfl) ?_
  refine lv_iload_n hx hb dX7_taken_1 rfl (lv_at hl 1 rfl) ?_
  refine zm_cvi (As := [.int a1]) (rest := []) C hG hf (ctm_isPage Γ l a1) (lw_V q1701 q1703 qs54 q107 q1704) ytm_isPage rfl rfl (Nat.le_of_ble_eq_true rfl) (Nat.le_of_ble_eq_true rfl) hl.1 (Nat.le_of_ble_eq_true rfl) dX7_taken_2 (fun v2 S H locs hG hf => ?_)
  refine lv_if_eq (tgt := 20) hx hb dX7_taken_5 (by decide) (fun c5 => ?_) (fun c5 => ?_)
  · have hf := z_t c5 hf
    refine lv_iconst (v := zi (-1)) hx hb dX7_taken_20 rfl ?_
    obtain ⟨rfl, rfl⟩ := z_p hf
    exact kk _ _ _ ⟨_, _, rfl, dX7_taken_21⟩ hG
  · have hf := z_f c5 hf
    refine lv_iload_n hx hb dX7_taken_8 rfl (lv_at hl 2 rfl) ?_
    refine lv_iconst (v := zi (-1)) hx hb dX7_taken_9 rfl ?_
    refine lv_icmp_eq (tgt := 22) hx hb dX7_taken_10 (by decide) (fun c10 => ?_) (fun c10 => ?_)
    · have hf := z_t c10 hf
      exact wm_taken_j22 Γ l a1 a2 p e R s m args below meth c Q A _ _ _ _ _ _ C hG ⟨ls, rfl, lv_sub hl [0, 1, 2] rfl⟩ hf kk
    · have hf := z_f c10 hf
      refine lv_iload_n hx hb dX7_taken_13 rfl (lv_at hl 2 rfl) ?_
      refine zm_csi (As := [.int a2]) (rest := []) C hG hf (ctm_isMade Γ l a2) (lw_S q2008 q2009 q107 q2010) ytm_isMade rfl rfl (Nat.le_of_ble_eq_true rfl) (Nat.le_of_ble_eq_true rfl) hl.1 (Nat.le_of_ble_eq_true rfl) dX7_taken_14 (fun v14 S H locs hG hf => ?_)
      refine lv_if_ne (tgt := 22) hx hb dX7_taken_17 (by decide) (fun c17 => ?_) (fun c17 => ?_)
      · have hf := z_f c17 hf
        exact wm_taken_j22 Γ l a1 a2 p e R s m args below meth c Q A _ _ _ _ _ _ C hG ⟨ls, rfl, lv_sub hl [0, 1, 2] rfl⟩ hf kk
      · have hf := z_t c17 hf
        refine lv_iconst (v := zi (-1)) hx hb dX7_taken_20 rfl ?_
        obtain ⟨rfl, rfl⟩ := z_p hf
        exact kk _ _ _ ⟨_, _, rfl, dX7_taken_21⟩ hG
theorem ctm_taken (Γ : zG) (l : Launch) (a1 : Int32) (a2 : Int32) : mCt Γ l yX7_taken (ws_ yX7_taken cX7_taken 6 (some .int)) 5 122 [.ref (G_m Γ 0), .int a1, .int a2] (m_taken a1 a2) zoi := mCt.mki (by decide +kernel) (Nat.le_of_ble_eq_true rfl) (wm_taken Γ l a1 a2)
theorem ytm_taken : yX7_taken.cls = RX7 ∧ yX7_taken.cls ≠ "java/lang/invoke/MethodHandle" ∧ yX7_taken.cls ≠ "java/lang/invoke/VarHandle" ∧ (parseMethodDescriptor yX7_taken.desc).map (fun d => d.parameters.length) = some 2 := by decide +kernel
def im_isSaid_l20 (Γ : zG) (f1 : Int32) (f2 : Int32) (f3 : Int32) (m : MethodId) (s : Int32 × Int32) (g : JFrame) : Prop := zAt0 6 20 [(0, .ref (G_m Γ 0)), (1, .int f1), (2, .int f2), (3, .int f3), (4, .int s.1), (5, .int s.2)] [] m g
def em_isSaid_l20 (Γ : zG) (f1 : Int32) (f2 : Int32) (f3 : Int32) (m : MethodId) (e : Int32) (g : JFrame) : Prop := zAt0 6 67 [(0, .ref (G_m Γ 0)), (4, .int e)] [] m g
set_option maxHeartbeats 4000000 in
theorem wm_isSaid_l20_j59 (Γ : zG) (l : Launch) (b1 : Int32) (b2 : Int32) (b3 : Int32) (b5 : Int32) (t0 : Int32) : mRg Γ l yX7_isSaid cX7_isSaid 6 (some .boolean) 0 0 (m_isSaid_l20_j59 b1 b2 b3 b5 t0) (zAt0 6 59 [(0, .ref (G_m Γ 0)), (1, .int b1), (2, .int b2), (3, .int b3), (5, .int b5)] [.int t0]) (zLE (im_isSaid_l20 Γ b1 b2 b3) (em_isSaid_l20 Γ b1 b2 b3)) := by
  intro p e R s m args below meth c Q A S H locs x S' g C hG hI hf kk
  obtain ⟨ls, rfl, hl⟩ := hI
  obtain ⟨⟨hx, hb, hml, hown, hts⟩, hr, hlk, hK, hR1, hR2⟩ := id C
  have C : zCx Γ p R s m args meth c cX7_isSaid 6 RX7 (some .boolean) 0 0 := C
  refine lv_istore (lv' := [(4, .int t0), (0, .ref (G_m Γ 0)), (1, .int b1), (2, .int b2), (3, .int b3), (5, .int b5)]) hx hb dX7_isSaid_59 hl (Nat.le_of_ble_eq_true rfl) rfl (fun ls hl => ?_)
  refine z_iinc (fun v => [(5, .int v), (4, .int t0), (0, .ref (G_m Γ 0)), (1, .int b1), (2, .int b2), (3, .int b3)]) hx hb hf dX7_isSaid_61 hl (k := 5) rfl (Nat.le_of_ble_eq_true rfl) (fun _ => rfl) (fun n61 ls hf hl => ?_)
  refine lv_goto (tgt := 20) hx hb dX7_isSaid_64 (by decide) ?_
  obtain ⟨rfl, rfl⟩ := z_p hf
  exact kk _ _ _ ⟨ls, rfl, lv_sub hl [2, 3, 4, 5, 1, 0] rfl⟩ hG
set_option maxHeartbeats 4000000 in
theorem wm_isSaid_l20_b (Γ : zG) (l : Launch) (f1 : Int32) (f2 : Int32) (f3 : Int32) (s4 : Int32) (s5 : Int32) : mRg Γ l yX7_isSaid cX7_isSaid 6 (some .boolean) 0 0 (m_isSaid_l20 f1 f2 f3 s4 s5) (zAt0 6 20 [(0, .ref (G_m Γ 0)), (1, .int f1), (2, .int f2), (3, .int f3), (4, .int s4), (5, .int s5)] []) (zLE (im_isSaid_l20 Γ f1 f2 f3) (em_isSaid_l20 Γ f1 f2 f3)) := by
  intro p e R s m args below meth c Q A S H locs x S' g C hG hI hf kk
  obtain ⟨ls, rfl, hl⟩ := hI
  obtain ⟨⟨hx, hb, hml, hown, hts⟩, hr, hlk, hK, hR1, hR2⟩ := id C
  have C : zCx Γ p R s m args meth c cX7_isSaid 6 RX7 (some .boolean) 0 0 := C
  refine lv_iload hx hb dX7_isSaid_20 (lv_at hl 5 rfl) ?_
  refine lv_iload_n hx hb dX7_isSaid_22 rfl (lv_at hl 3 rfl) ?_
  refine lv_icmp_ge (tgt := 67) hx hb dX7_isSaid_23 (by decide) (fun c23 => ?_) (fun c23 => ?_)
  · have hf := z_t c23 hf
    obtain ⟨rfl, rfl⟩ := z_p hf
    exact kk _ _ _ ⟨ls, rfl, lv_sub hl [0, 4] rfl⟩ hG
  · have hf := z_f c23 hf
    refine lv_iload hx hb dX7_isSaid_26 (lv_at hl 4 rfl) ?_
    refine lv_if_eq (tgt := 67) hx hb dX7_isSaid_28 (by decide) (fun c28 => ?_) (fun c28 => ?_)
    · have hf := z_t c28 hf
      obtain ⟨rfl, rfl⟩ := z_p hf
      exact kk _ _ _ ⟨ls, rfl, lv_sub hl [0, 4] rfl⟩ hG
    · have hf := z_f c28 hf
      refine lv_aload_n hx hb dX7_isSaid_31 rfl (lv_at hl 0 rfl) ?_
      refine zm_ga C hG 0 (Nat.le_of_ble_eq_true rfl) (by decide) q1443 dX7_isSaid_32 ?_
      refine lv_iload_n hx hb dX7_isSaid_35 rfl (lv_at hl 1 rfl) ?_
      refine lv_iconst (v := zi 1) hx hb dX7_isSaid_36 rfl ?_
      refine lv_iadd hx hb dX7_isSaid_37 ?_
      refine lv_iload hx hb dX7_isSaid_38 (lv_at hl 5 rfl) ?_
      refine lv_iadd hx hb dX7_isSaid_40 ?_
      refine zm_al C hG 0 hf (Nat.le_of_ble_eq_true rfl) rfl dX7_isSaid_41 (fun v41 hf => ?_)
      refine lv_aload_n hx hb dX7_isSaid_42 rfl (lv_at hl 0 rfl) ?_
      refine zm_ga C hG 0 (Nat.le_of_ble_eq_true rfl) (by decide) q1443 dX7_isSaid_43 ?_
      refine lv_iload_n hx hb dX7_isSaid_46 rfl (lv_at hl 2 rfl) ?_
      refine lv_iload hx hb dX7_isSaid_47 (lv_at hl 5 rfl) ?_
      refine lv_iadd hx hb dX7_isSaid_49 ?_
      refine zm_al C hG 0 hf (Nat.le_of_ble_eq_true rfl) rfl dX7_isSaid_50 (fun v50 hf => ?_)
      refine lv_icmp_ne (tgt := 58) hx hb dX7_isSaid_51 (by decide) (fun c51 => ?_) (fun c51 => ?_)
      · have hf := z_f c51 hf
        refine lv_iconst (v := zi 0) hx hb dX7_isSaid_58 rfl ?_
        exact wm_isSaid_l20_j59 Γ l f1 f2 f3 s5 (zi 0) p e R s m args below meth c Q A _ _ _ _ _ _ C hG ⟨ls, rfl, lv_sub hl [0, 1, 2, 3, 5] rfl⟩ hf kk
      · have hf := z_t c51 hf
        refine lv_iconst (v := zi 1) hx hb dX7_isSaid_54 rfl ?_
        refine lv_goto (tgt := 59) hx hb dX7_isSaid_55 (by decide) ?_
        exact wm_isSaid_l20_j59 Γ l f1 f2 f3 s5 (zi 1) p e R s m args below meth c Q A _ _ _ _ _ _ C hG ⟨ls, rfl, lv_sub hl [0, 1, 2, 3, 5] rfl⟩ hf kk
theorem wm_isSaid_l20 (Γ : zG) (l : Launch) (f1 : Int32) (f2 : Int32) (f3 : Int32) : ∀ s : Int32 × Int32, mRg Γ l yX7_isSaid cX7_isSaid 6 (some .boolean) 0 0 (m_isSaid_l20 f1 f2 f3 s.1 s.2) (fun m => im_isSaid_l20 Γ f1 f2 f3 m s) (zLE (im_isSaid_l20 Γ f1 f2 f3) (em_isSaid_l20 Γ f1 f2 f3)) := fun s => wm_isSaid_l20_b Γ l f1 f2 f3 s.1 s.2
set_option maxHeartbeats 4000000 in
theorem wm_isSaid_j15 (Γ : zG) (l : Launch) (b1 : Int32) (b2 : Int32) (b3 : Int32) (t0 : Int32) : mRg Γ l yX7_isSaid cX7_isSaid 6 (some .boolean) 0 0 (m_isSaid_j15 b1 b2 b3 t0) (zAt0 6 15 [(0, .ref (G_m Γ 0)), (1, .int b1), (2, .int b2), (3, .int b3)] [.int t0]) (zLz cX7_isSaid) := by
  intro p e R s m args below meth c Q A S H locs x S' g C hG hI hf kk
  obtain ⟨ls, rfl, hl⟩ := hI
  obtain ⟨⟨hx, hb, hml, hown, hts⟩, hr, hlk, hK, hR1, hR2⟩ := id C
  have C : zCx Γ p R s m args meth c cX7_isSaid 6 RX7 (some .boolean) 0 0 := C
  refine lv_istore (lv' := [(4, .int t0), (0, .ref (G_m Γ 0)), (1, .int b1), (2, .int b2), (3, .int b3)]) hx hb dX7_isSaid_15 hl (Nat.le_of_ble_eq_true rfl) rfl (fun ls hl => ?_)
  refine lv_iconst (v := zi 0) hx hb dX7_isSaid_17 rfl ?_
  refine lv_istore (lv' := [(5, .int (zi 0)), (4, .int t0), (0, .ref (G_m Γ 0)), (1, .int b1), (2, .int b2), (3, .int b3)]) hx hb dX7_isSaid_18 hl (Nat.le_of_ble_eq_true rfl) rfl (fun ls hl => ?_)
  obtain ⟨e20, S, hlp, hf⟩ := nB_some hf
  refine mRg.loop (wm_isSaid_l20 Γ l b1 b2 b3) (t0, (zi 0)) p e R s m args below meth c Q A _ _ _ _ _ _ C hG ⟨ls, rfl, lv_sub hl [2, 3, 4, 5, 1, 0] rfl⟩ hlp (fun H locs g hL hG => ?_)
  obtain ⟨ls, rfl, hl⟩ := hL
  have hl : lv_has ls 6 [(0, .ref (G_m Γ 0)), (4, .int e20)] := hl
  refine lv_iload hx hb dX7_isSaid_67 (lv_at hl 1 rfl) ?_
  obtain ⟨hz, hf⟩ := z_c hf
  obtain ⟨rfl, rfl⟩ := z_p hf
  exact kk _ _ _ ⟨_, _, rfl, dX7_isSaid_69, hz⟩ hG
set_option maxHeartbeats 4000000 in
theorem wm_isSaid (Γ : zG) (l : Launch) (a1 : Int32) (a2 : Int32) (a3 : Int32) : mRg Γ l yX7_isSaid cX7_isSaid 6 (some .boolean) 0 0 (m_isSaid a1 a2 a3) (zAt0 6 0 (lv_args 0 [.ref (G_m Γ 0), .int a1, .int a2, .int a3]) []) (zLz cX7_isSaid) := by
  intro p e R s m args below meth c Q A S H locs x S' g C hG hI hf kk
  obtain ⟨ls, rfl, hl⟩ := hI
  obtain ⟨⟨hx, hb, hml, hown, hts⟩, hr, hlk, hK, hR1, hR2⟩ := id C
  have C : zCx Γ p R s m args meth c cX7_isSaid 6 RX7 (some .boolean) 0 0 := C
  have hl : lv_has ls 6 [(0, .ref (G_m Γ 0)), (1, .int a1), (2, .int a2), (3, .int a3)] := hl
  refine lv_aload_n hx hb dX7_isSaid_0 rfl (lv_at hl 0 rfl) ?_
  refine zm_ga C hG 0 (Nat.le_of_ble_eq_true rfl) (by decide) q1443 dX7_isSaid_1 ?_
  refine lv_iload_n hx hb dX7_isSaid_4 rfl (lv_at hl 1 rfl) ?_
  refine zm_al C hG 0 hf (Nat.le_of_ble_eq_true rfl) rfl dX7_isSaid_5 (fun v5 hf => ?_)
  refine lv_iload_n hx hb dX7_isSaid_6 rfl (lv_at hl 3 rfl) ?_
  refine lv_icmp_ne (tgt := 14) hx hb dX7_isSaid_7 (by decide) (fun c7 => ?_) (fun c7 => ?_)
  · have hf := z_f c7 hf
    refine lv_iconst (v := zi 0) hx hb dX7_isSaid_14 rfl ?_
    exact wm_isSaid_j15 Γ l a1 a2 a3 (zi 0) p e R s m args below meth c Q A _ _ _ _ _ _ C hG ⟨ls, rfl, lv_sub hl [0, 1, 2, 3] rfl⟩ hf kk
  · have hf := z_t c7 hf
    refine lv_iconst (v := zi 1) hx hb dX7_isSaid_10 rfl ?_
    refine lv_goto (tgt := 15) hx hb dX7_isSaid_11 (by decide) ?_
    exact wm_isSaid_j15 Γ l a1 a2 a3 (zi 1) p e R s m args below meth c Q A _ _ _ _ _ _ C hG ⟨ls, rfl, lv_sub hl [0, 1, 2, 3] rfl⟩ hf kk
theorem ctm_isSaid (Γ : zG) (l : Launch) (a1 : Int32) (a2 : Int32) (a3 : Int32) : mCt Γ l yX7_isSaid (ws_ yX7_isSaid cX7_isSaid 6 (some .boolean)) 0 0 [.ref (G_m Γ 0), .int a1, .int a2, .int a3] (m_isSaid a1 a2 a3) zoi := mCt.mkz (by decide +kernel) (Nat.le_of_ble_eq_true rfl) (wm_isSaid Γ l a1 a2 a3)
theorem ytm_isSaid : yX7_isSaid.cls = RX7 ∧ yX7_isSaid.cls ≠ "java/lang/invoke/MethodHandle" ∧ yX7_isSaid.cls ≠ "java/lang/invoke/VarHandle" ∧ (parseMethodDescriptor yX7_isSaid.desc).map (fun d => d.parameters.length) = some 3 := by decide +kernel
def im_wordAt_l2 (Γ : zG) (f1 : Int32) (f2 : Int32) (m : MethodId) (s : Int32) (g : JFrame) : Prop := zAt0 4 2 [(0, .ref (G_m Γ 0)), (1, .int f1), (2, .int f2), (3, .int s)] [] m g
def em_wordAt_l2 (Γ : zG) (f1 : Int32) (f2 : Int32) (m : MethodId) (e : Int32 ⊕ (Unit)) (g : JFrame) : Prop := (Sum.elim (fun e => zAt0 4 31 [(0, .ref (G_m Γ 0)), (3, .int e)] [] m g) (fun e => zAt0 4 39 [(0, .ref (G_m Γ 0))] [] m g)) e
set_option maxHeartbeats 4000000 in
theorem wm_wordAt_l2_b (Γ : zG) (l : Launch) (f1 : Int32) (f2 : Int32) (s3 : Int32) : mRg Γ l yX7_wordAt cX7_wordAt 4 (some .int) 1 25 (m_wordAt_l2 f1 f2 s3) (zAt0 4 2 [(0, .ref (G_m Γ 0)), (1, .int f1), (2, .int f2), (3, .int s3)] []) (zLE (im_wordAt_l2 Γ f1 f2) (em_wordAt_l2 Γ f1 f2)) := by
  intro p e R s m args below meth c Q A S H locs x S' g C hG hI hf kk
  obtain ⟨ls, rfl, hl⟩ := hI
  obtain ⟨⟨hx, hb, hml, hown, hts⟩, hr, hlk, hK, hR1, hR2⟩ := id C
  have C : zCx Γ p R s m args meth c cX7_wordAt 4 RX7 (some .int) 1 25 := C
  refine lv_iload_n hx hb dX7_wordAt_2 rfl (lv_at hl 3 rfl) ?_
  refine lv_aload_n hx hb dX7_wordAt_3 rfl (lv_at hl 0 rfl) ?_
  refine zm_ga C hG 0 (Nat.le_of_ble_eq_true rfl) (by decide) q1443 dX7_wordAt_4 ?_
  refine lv_sipush (v := zi 5006) hx hb dX7_wordAt_7 (by decide +kernel) ?_
  refine zm_al C hG 0 hf (Nat.le_of_ble_eq_true rfl) rfl dX7_wordAt_10 (fun v10 hf => ?_)
  refine lv_icmp_ge (tgt := 39) hx hb dX7_wordAt_11 (by decide) (fun c11 => ?_) (fun c11 => ?_)
  · have hf := z_t c11 hf
    obtain ⟨rfl, rfl⟩ := z_p hf
    exact kk _ _ _ ⟨ls, rfl, lv_sub hl [0] rfl⟩ hG
  · have hf := z_f c11 hf
    refine lv_aload_n hx hb dX7_wordAt_14 rfl (lv_at hl 0 rfl) ?_
    refine lv_sipush (v := zi 4790) hx hb dX7_wordAt_15 (by decide +kernel) ?_
    refine lv_bipush (v := zi 10) hx hb dX7_wordAt_18 (by decide +kernel) ?_
    refine lv_iload_n hx hb dX7_wordAt_20 rfl (lv_at hl 3 rfl) ?_
    refine lv_imul hx hb dX7_wordAt_21 ?_
    refine lv_iadd hx hb dX7_wordAt_22 ?_
    refine lv_iload_n hx hb dX7_wordAt_23 rfl (lv_at hl 1 rfl) ?_
    refine lv_iload_n hx hb dX7_wordAt_24 rfl (lv_at hl 2 rfl) ?_
    refine zm_cvi (As := [.int ((zi 4790) + ((zi 10) * s3)), .int f1, .int f2]) (rest := []) C hG hf (ctm_isSaid Γ l ((zi 4790) + ((zi 10) * s3)) f1 f2) (lw_V q2035 q2037 qs95 q107 q2038) ytm_isSaid rfl rfl (Nat.le_of_ble_eq_true rfl) (Nat.le_of_ble_eq_true rfl) hl.1 (Nat.le_of_ble_eq_true rfl) dX7_wordAt_25 (fun v25 S H locs hG hf => ?_)
    refine lv_if_eq (tgt := 33) hx hb dX7_wordAt_28 (by decide) (fun c28 => ?_) (fun c28 => ?_)
    · have hf := z_t c28 hf
      refine z_iinc (fun v => [(3, .int v), (0, .ref (G_m Γ 0)), (1, .int f1), (2, .int f2)]) hx hb hf dX7_wordAt_33 hl (k := 3) rfl (Nat.le_of_ble_eq_true rfl) (fun _ => rfl) (fun n33 ls hf hl => ?_)
      refine lv_goto (tgt := 2) hx hb dX7_wordAt_36 (by decide) ?_
      obtain ⟨rfl, rfl⟩ := z_p hf
      exact kk _ _ _ ⟨ls, rfl, lv_sub hl [1, 2, 3, 0] rfl⟩ hG
    · have hf := z_f c28 hf
      obtain ⟨rfl, rfl⟩ := z_p hf
      exact kk _ _ _ ⟨ls, rfl, lv_sub hl [0, 3] rfl⟩ hG
theorem wm_wordAt_l2 (Γ : zG) (l : Launch) (f1 : Int32) (f2 : Int32) : ∀ s : Int32, mRg Γ l yX7_wordAt cX7_wordAt 4 (some .int) 1 25 (m_wordAt_l2 f1 f2 s) (fun m => im_wordAt_l2 Γ f1 f2 m s) (zLE (im_wordAt_l2 Γ f1 f2) (em_wordAt_l2 Γ f1 f2)) := fun s => wm_wordAt_l2_b Γ l f1 f2 s
set_option maxHeartbeats 4000000 in
theorem wm_wordAt (Γ : zG) (l : Launch) (a1 : Int32) (a2 : Int32) : mRg Γ l yX7_wordAt cX7_wordAt 4 (some .int) 1 25 (m_wordAt a1 a2) (zAt0 4 0 (lv_args 0 [.ref (G_m Γ 0), .int a1, .int a2]) []) (zLi cX7_wordAt) := by
  intro p e R s m args below meth c Q A S H locs x S' g C hG hI hf kk
  obtain ⟨ls, rfl, hl⟩ := hI
  obtain ⟨⟨hx, hb, hml, hown, hts⟩, hr, hlk, hK, hR1, hR2⟩ := id C
  have C : zCx Γ p R s m args meth c cX7_wordAt 4 RX7 (some .int) 1 25 := C
  have hl : lv_has ls 4 [(0, .ref (G_m Γ 0)), (1, .int a1), (2, .int a2)] := hl
  refine lv_iconst (v := zi 0) hx hb dX7_wordAt_0 rfl ?_
  refine lv_istore_n (lv' := [(3, .int (zi 0)), (0, .ref (G_m Γ 0)), (1, .int a1), (2, .int a2)]) hx hb dX7_wordAt_1 rfl hl (Nat.le_of_ble_eq_true rfl) rfl (fun ls hl => ?_)
  obtain ⟨e2, S, hlp, hf⟩ := nB_some hf
  refine mRg.loop (wm_wordAt_l2 Γ l a1 a2) (zi 0) p e R s m args below meth c Q A _ _ _ _ _ _ C hG ⟨ls, rfl, lv_sub hl [1, 2, 3, 0] rfl⟩ hlp (fun H locs g hL hG => ?_)
  rcases e2 with e2 | e2
  · have hf := z_dl hf
    obtain ⟨ls, rfl, hl⟩ := hL
    have hl : lv_has ls 4 [(0, .ref (G_m Γ 0)), (3, .int e2)] := hl
    refine lv_iload_n hx hb dX7_wordAt_31 rfl (lv_at hl 1 rfl) ?_
    obtain ⟨rfl, rfl⟩ := z_p hf
    exact kk _ _ _ ⟨_, _, rfl, dX7_wordAt_32⟩ hG
  · have hf := z_dr hf
    obtain ⟨ls, rfl, hl⟩ := hL
    have hl : lv_has ls 4 [(0, .ref (G_m Γ 0))] := hl
    refine lv_iconst (v := zi (-1)) hx hb dX7_wordAt_39 rfl ?_
    obtain ⟨rfl, rfl⟩ := z_p hf
    exact kk _ _ _ ⟨_, _, rfl, dX7_wordAt_40⟩ hG
theorem ctm_wordAt (Γ : zG) (l : Launch) (a1 : Int32) (a2 : Int32) : mCt Γ l yX7_wordAt (ws_ yX7_wordAt cX7_wordAt 4 (some .int)) 1 25 [.ref (G_m Γ 0), .int a1, .int a2] (m_wordAt a1 a2) zoi := mCt.mki (by decide +kernel) (Nat.le_of_ble_eq_true rfl) (wm_wordAt Γ l a1 a2)
theorem ytm_wordAt : yX7_wordAt.cls = RX7 ∧ yX7_wordAt.cls ≠ "java/lang/invoke/MethodHandle" ∧ yX7_wordAt.cls ≠ "java/lang/invoke/VarHandle" ∧ (parseMethodDescriptor yX7_wordAt.desc).map (fun d => d.parameters.length) = some 2 := by decide +kernel
def im_word_l21 (Γ : zG) (f1 : Int32) (m : MethodId) (s : Int32 × Int32) (g : JFrame) : Prop := zAt0 5 21 [(0, .ref (G_m Γ 0)), (1, .int f1), (2, .int s.1), (3, .int s.2)] [] m g
def em_word_l21 (Γ : zG) (f1 : Int32) (m : MethodId) (e : Int32) (g : JFrame) : Prop := zAt0 5 52 [(0, .ref (G_m Γ 0)), (1, .int f1), (2, .int e)] [] m g
set_option maxHeartbeats 4000000 in
theorem wm_word_l21_b (Γ : zG) (l : Launch) (f1 : Int32) (s2 : Int32) (s3 : Int32) : mRg Γ l yX7_word cX7_word 5 (some .int) 2 48 (m_word_l21 f1 s2 s3) (zAt0 5 21 [(0, .ref (G_m Γ 0)), (1, .int f1), (2, .int s2), (3, .int s3)] []) (zLE (im_word_l21 Γ f1) (em_word_l21 Γ f1)) := by
  intro p e R s m args below meth c Q A S H locs x S' g C hG hI hf kk
  obtain ⟨ls, rfl, hl⟩ := hI
  obtain ⟨⟨hx, hb, hml, hown, hts⟩, hr, hlk, hK, hR1, hR2⟩ := id C
  have C : zCx Γ p R s m args meth c cX7_word 5 RX7 (some .int) 2 48 := C
  refine lv_iload_n hx hb dX7_word_21 rfl (lv_at hl 3 rfl) ?_
  refine lv_aload_n hx hb dX7_word_22 rfl (lv_at hl 0 rfl) ?_
  refine zm_gf C hG 2 hf (Nat.le_of_ble_eq_true rfl) rfl q1445 dX7_word_23 (fun v23 hf => ?_)
  refine lv_icmp_ge (tgt := 52) hx hb dX7_word_26 (by decide) (fun c26 => ?_) (fun c26 => ?_)
  · have hf := z_t c26 hf
    obtain ⟨rfl, rfl⟩ := z_p hf
    exact kk _ _ _ ⟨ls, rfl, lv_sub hl [0, 1, 2] rfl⟩ hG
  · have hf := z_f c26 hf
    refine lv_iload_n hx hb dX7_word_29 rfl (lv_at hl 2 rfl) ?_
    refine lv_if_ge (tgt := 52) hx hb dX7_word_30 (by decide) (fun c30 => ?_) (fun c30 => ?_)
    · have hf := z_t c30 hf
      obtain ⟨rfl, rfl⟩ := z_p hf
      exact kk _ _ _ ⟨ls, rfl, lv_sub hl [0, 1, 2] rfl⟩ hG
    · have hf := z_f c30 hf
      refine lv_aload_n hx hb dX7_word_33 rfl (lv_at hl 0 rfl) ?_
      refine lv_iload_n hx hb dX7_word_34 rfl (lv_at hl 3 rfl) ?_
      refine zm_cvi (As := [.int s3]) (rest := []) C hG hf (ctm_byteAt Γ l s3) (lw_V q1626 q1628 qs45 q107 q1629) ytm_byteAt rfl rfl (Nat.le_of_ble_eq_true rfl) (Nat.le_of_ble_eq_true rfl) hl.1 (Nat.le_of_ble_eq_true rfl) dX7_word_35 (fun v35 S H locs hG hf => ?_)
      refine zm_csi (As := [.int v35]) (rest := []) C hG hf (ctm_isLetter Γ l v35) (lw_S q1630 q1631 q107 q1632) ytm_isLetter rfl rfl (Nat.le_of_ble_eq_true rfl) (Nat.le_of_ble_eq_true rfl) hl.1 (Nat.le_of_ble_eq_true rfl) dX7_word_38 (fun v38 S H locs hG hf => ?_)
      refine lv_if_ne (tgt := 46) hx hb dX7_word_41 (by decide) (fun c41 => ?_) (fun c41 => ?_)
      · have hf := z_f c41 hf
        refine z_iinc (fun v => [(3, .int v), (0, .ref (G_m Γ 0)), (1, .int f1), (2, .int s2)]) hx hb hf dX7_word_46 hl (k := 3) rfl (Nat.le_of_ble_eq_true rfl) (fun _ => rfl) (fun n46 ls hf hl => ?_)
        refine lv_goto (tgt := 21) hx hb dX7_word_49 (by decide) ?_
        obtain ⟨rfl, rfl⟩ := z_p hf
        exact kk _ _ _ ⟨ls, rfl, lv_sub hl [1, 2, 3, 0] rfl⟩ hG
      · have hf := z_t c41 hf
        refine lv_iload_n hx hb dX7_word_44 rfl (lv_at hl 3 rfl) ?_
        refine lv_istore_n (lv' := [(2, .int s3), (0, .ref (G_m Γ 0)), (1, .int f1), (3, .int s3)]) hx hb dX7_word_45 rfl hl (Nat.le_of_ble_eq_true rfl) rfl (fun ls hl => ?_)
        refine z_iinc (fun v => [(3, .int v), (2, .int s3), (0, .ref (G_m Γ 0)), (1, .int f1)]) hx hb hf dX7_word_46 hl (k := 3) rfl (Nat.le_of_ble_eq_true rfl) (fun _ => rfl) (fun n46 ls hf hl => ?_)
        refine lv_goto (tgt := 21) hx hb dX7_word_49 (by decide) ?_
        obtain ⟨rfl, rfl⟩ := z_p hf
        exact kk _ _ _ ⟨ls, rfl, lv_sub hl [2, 3, 1, 0] rfl⟩ hG
theorem wm_word_l21 (Γ : zG) (l : Launch) (f1 : Int32) : ∀ s : Int32 × Int32, mRg Γ l yX7_word cX7_word 5 (some .int) 2 48 (m_word_l21 f1 s.1 s.2) (fun m => im_word_l21 Γ f1 m s) (zLE (im_word_l21 Γ f1) (em_word_l21 Γ f1)) := fun s => wm_word_l21_b Γ l f1 s.1 s.2
set_option maxHeartbeats 4000000 in
theorem wm_word_j86 (Γ : zG) (l : Launch) (t0 : Int32) (t1 : Int32) : mRg Γ l yX7_word cX7_word 5 (some .int) 2 48 (m_word_j86 t0 t1) (zAt0 5 86 [(0, .ref (G_m Γ 0))] [.int t0, .int t1, .ref (G_m Γ (0 + 1))]) (zLi cX7_word) := by
  intro p e R s m args below meth c Q A S H locs x S' g C hG hI hf kk
  obtain ⟨ls, rfl, hl⟩ := hI
  obtain ⟨⟨hx, hb, hml, hown, hts⟩, hr, hlk, hK, hR1, hR2⟩ := id C
  have C : zCx Γ p R s m args meth c cX7_word 5 RX7 (some .int) 2 48 := C
  refine zm_as C hG 0 hf (Nat.le_of_ble_eq_true rfl) rfl dX7_word_86 (fun S H locs hG hf => ?_)
  refine lv_iconst (v := zi (-1)) hx hb dX7_word_87 rfl ?_
  obtain ⟨rfl, rfl⟩ := z_p hf
  exact kk _ _ _ ⟨_, _, rfl, dX7_word_88⟩ hG
set_option maxHeartbeats 4000000 in
theorem wm_word_j63 (Γ : zG) (l : Launch) (b2 : Int32) : mRg Γ l yX7_word cX7_word 5 (some .int) 2 48 (m_word_j63 b2) (zAt0 5 63 [(0, .ref (G_m Γ 0)), (2, .int b2)] []) (zLi cX7_word) := by
  intro p e R s m args below meth c Q A S H locs x S' g C hG hI hf kk
  obtain ⟨ls, rfl, hl⟩ := hI
  obtain ⟨⟨hx, hb, hml, hown, hts⟩, hr, hlk, hK, hR1, hR2⟩ := id C
  have C : zCx Γ p R s m args meth c cX7_word 5 RX7 (some .int) 2 48 := C
  refine lv_aload_n hx hb dX7_word_63 rfl (lv_at hl 0 rfl) ?_
  refine zm_ga C hG 0 (Nat.le_of_ble_eq_true rfl) (by decide) q1443 dX7_word_64 ?_
  refine lv_bipush (v := zi 7) hx hb dX7_word_67 (by decide +kernel) ?_
  refine lv_iconst (v := zi 1) hx hb dX7_word_69 rfl ?_
  refine zm_as C hG 0 hf (Nat.le_of_ble_eq_true rfl) rfl dX7_word_70 (fun S H locs hG hf => ?_)
  refine lv_aload_n hx hb dX7_word_71 rfl (lv_at hl 0 rfl) ?_
  refine zm_ga C hG 0 (Nat.le_of_ble_eq_true rfl) (by decide) q1443 dX7_word_72 ?_
  refine lv_bipush (v := zi 8) hx hb dX7_word_75 (by decide +kernel) ?_
  refine lv_iload_n hx hb dX7_word_77 rfl (lv_at hl 1 rfl) ?_
  refine lv_if_ge (tgt := 85) hx hb dX7_word_78 (by decide) (fun c78 => ?_) (fun c78 => ?_)
  · have hf := z_t c78 hf
    refine lv_iload_n hx hb dX7_word_85 rfl (lv_at hl 1 rfl) ?_
    exact wm_word_j86 Γ l b2 (zi 8) p e R s m args below meth c Q A _ _ _ _ _ _ C hG ⟨ls, rfl, lv_sub hl [0] rfl⟩ hf kk
  · have hf := z_f c78 hf
    refine lv_iconst (v := zi 0) hx hb dX7_word_81 rfl ?_
    refine lv_goto (tgt := 86) hx hb dX7_word_82 (by decide) ?_
    exact wm_word_j86 Γ l (zi 0) (zi 8) p e R s m args below meth c Q A _ _ _ _ _ _ C hG ⟨ls, rfl, lv_sub hl [0] rfl⟩ hf kk
set_option maxHeartbeats 4000000 in
theorem wm_word_j232 (Γ : zG) (l : Launch) (b1 : Int32) (b3 : Int32) : mRg Γ l yX7_word cX7_word 5 (some .int) 2 48 (m_word_j232 b1 b3) (zAt0 5 232 [(0, .ref (G_m Γ 0)), (1, .int b1), (3, .int b3)] []) (zLi cX7_word) := by
  intro p e R s m args below meth c Q A S H locs x S' g C hG hI hf kk
  obtain ⟨ls, rfl, hl⟩ := hI
  obtain ⟨⟨hx, hb, hml, hown, hts⟩, hr, hlk, hK, hR1, hR2⟩ := id C
  have C : zCx Γ p R s m args meth c cX7_word 5 RX7 (some .int) 2 48 := C
  refine lv_aload_n hx hb dX7_word_232 rfl (lv_at hl 0 rfl) ?_
  refine zm_ga C hG 0 (Nat.le_of_ble_eq_true rfl) (by decide) q1443 dX7_word_233 ?_
  refine lv_sipush (v := zi 4790) hx hb dX7_word_236 (by decide +kernel) ?_
  refine lv_bipush (v := zi 10) hx hb dX7_word_239 (by decide +kernel) ?_
  refine lv_iload_n hx hb dX7_word_241 rfl (lv_at hl 2 rfl) ?_
  refine lv_imul hx hb dX7_word_242 ?_
  refine lv_iadd hx hb dX7_word_243 ?_
  refine lv_bipush (v := zi 9) hx hb dX7_word_244 (by decide +kernel) ?_
  refine lv_iadd hx hb dX7_word_246 ?_
  refine lv_iload_n hx hb dX7_word_247 rfl (lv_at hl 1 rfl) ?_
  refine zm_as C hG 0 hf (Nat.le_of_ble_eq_true rfl) rfl dX7_word_248 (fun S H locs hG hf => ?_)
  refine lv_iload_n hx hb dX7_word_249 rfl (lv_at hl 2 rfl) ?_
  obtain ⟨rfl, rfl⟩ := z_p hf
  exact kk _ _ _ ⟨_, _, rfl, dX7_word_250⟩ hG
def im_word_l193 (Γ : zG) (f1 : Int32) (f3 : Int32) (m : MethodId) (s : Int32) (g : JFrame) : Prop := zAt0 5 193 [(0, .ref (G_m Γ 0)), (1, .int f1), (3, .int f3), (4, .int s)] [] m g
def em_word_l193 (Γ : zG) (f1 : Int32) (f3 : Int32) (m : MethodId) (e : Unit) (g : JFrame) : Prop := zAt0 5 232 [(0, .ref (G_m Γ 0)), (1, .int f1), (3, .int f3)] [] m g
set_option maxHeartbeats 4000000 in
theorem wm_word_l193_b (Γ : zG) (l : Launch) (f1 : Int32) (f3 : Int32) (s4 : Int32) : mRg Γ l yX7_word cX7_word 5 (some .int) 2 48 (m_word_l193 f1 f3 s4) (zAt0 5 193 [(0, .ref (G_m Γ 0)), (1, .int f1), (3, .int f3), (4, .int s4)] []) (zLE (im_word_l193 Γ f1 f3) (em_word_l193 Γ f1 f3)) := by
  intro p e R s m args below meth c Q A S H locs x S' g C hG hI hf kk
  obtain ⟨ls, rfl, hl⟩ := hI
  obtain ⟨⟨hx, hb, hml, hown, hts⟩, hr, hlk, hK, hR1, hR2⟩ := id C
  have C : zCx Γ p R s m args meth c cX7_word 5 RX7 (some .int) 2 48 := C
  refine lv_iload hx hb dX7_word_193 (lv_at hl 3 rfl) ?_
  refine lv_aload_n hx hb dX7_word_195 rfl (lv_at hl 0 rfl) ?_
  refine zm_gf C hG 2 hf (Nat.le_of_ble_eq_true rfl) rfl q1445 dX7_word_196 (fun v196 hf => ?_)
  refine lv_icmp_ge (tgt := 232) hx hb dX7_word_199 (by decide) (fun c199 => ?_) (fun c199 => ?_)
  · have hf := z_t c199 hf
    obtain ⟨rfl, rfl⟩ := z_p hf
    exact kk _ _ _ ⟨ls, rfl, lv_sub hl [0, 1, 2] rfl⟩ hG
  · have hf := z_f c199 hf
    refine lv_aload_n hx hb dX7_word_202 rfl (lv_at hl 0 rfl) ?_
    refine zm_ga C hG 0 (Nat.le_of_ble_eq_true rfl) (by decide) q1443 dX7_word_203 ?_
    refine lv_sipush (v := zi 4790) hx hb dX7_word_206 (by decide +kernel) ?_
    refine lv_bipush (v := zi 10) hx hb dX7_word_209 (by decide +kernel) ?_
    refine lv_iload_n hx hb dX7_word_211 rfl (lv_at hl 2 rfl) ?_
    refine lv_imul hx hb dX7_word_212 ?_
    refine lv_iadd hx hb dX7_word_213 ?_
    refine lv_iconst (v := zi 1) hx hb dX7_word_214 rfl ?_
    refine lv_iadd hx hb dX7_word_215 ?_
    refine lv_iload hx hb dX7_word_216 (lv_at hl 3 rfl) ?_
    refine lv_iadd hx hb dX7_word_218 ?_
    refine lv_aload_n hx hb dX7_word_219 rfl (lv_at hl 0 rfl) ?_
    refine lv_iload hx hb dX7_word_220 (lv_at hl 3 rfl) ?_
    refine zm_cvi (As := [.int s4]) (rest := [.int ((((zi 4790) + ((zi 10) * f3)) + (zi 1)) + s4), .ref (G_m Γ (0 + 1))]) C hG hf (ctm_byteAt Γ l s4) (lw_V q1626 q1628 qs45 q107 q1629) ytm_byteAt rfl rfl (Nat.le_of_ble_eq_true rfl) (Nat.le_of_ble_eq_true rfl) hl.1 (Nat.le_of_ble_eq_true rfl) dX7_word_222 (fun v222 S H locs hG hf => ?_)
    refine zm_as C hG 0 hf (Nat.le_of_ble_eq_true rfl) rfl dX7_word_225 (fun S H locs hG hf => ?_)
    refine z_iinc (fun v => [(4, .int v), (0, .ref (G_m Γ 0)), (1, .int f1), (3, .int f3)]) hx hb hf dX7_word_226 hl (k := 3) rfl (Nat.le_of_ble_eq_true rfl) (fun _ => rfl) (fun n226 ls hf hl => ?_)
    refine lv_goto (tgt := 193) hx hb dX7_word_229 (by decide) ?_
    obtain ⟨rfl, rfl⟩ := z_p hf
    exact kk _ _ _ ⟨ls, rfl, lv_sub hl [1, 2, 3, 0] rfl⟩ hG
theorem wm_word_l193 (Γ : zG) (l : Launch) (f1 : Int32) (f3 : Int32) : ∀ s : Int32, mRg Γ l yX7_word cX7_word 5 (some .int) 2 48 (m_word_l193 f1 f3 s) (fun m => im_word_l193 Γ f1 f3 m s) (zLE (im_word_l193 Γ f1 f3) (em_word_l193 Γ f1 f3)) := fun s => wm_word_l193_b Γ l f1 f3 s
set_option maxHeartbeats 4000000 in
theorem wm_word_j148 (Γ : zG) (l : Launch) (b1 : Int32) (b3 : Int32) : mRg Γ l yX7_word cX7_word 5 (some .int) 2 48 (m_word_j148 b1 b3) (zAt0 5 148 [(0, .ref (G_m Γ 0)), (1, .int b1), (3, .int b3)] []) (zLi cX7_word) := by
  intro p e R s m args below meth c Q A S H locs x S' g C hG hI hf kk
  obtain ⟨ls, rfl, hl⟩ := hI
  obtain ⟨⟨hx, hb, hml, hown, hts⟩, hr, hlk, hK, hR1, hR2⟩ := id C
  have C : zCx Γ p R s m args meth c cX7_word 5 RX7 (some .int) 2 48 := C
  refine lv_iload_n hx hb dX7_word_148 rfl (lv_at hl 2 rfl) ?_
  refine lv_if_ge (tgt := 232) hx hb dX7_word_149 (by decide) (fun c149 => ?_) (fun c149 => ?_)
  · have hf := z_t c149 hf
    exact wm_word_j232 Γ l b1 b3 p e R s m args below meth c Q A _ _ _ _ _ _ C hG ⟨ls, rfl, lv_sub hl [0, 1, 2] rfl⟩ hf kk
  · have hf := z_f c149 hf
    refine lv_aload_n hx hb dX7_word_152 rfl (lv_at hl 0 rfl) ?_
    refine zm_ga C hG 0 (Nat.le_of_ble_eq_true rfl) (by decide) q1443 dX7_word_153 ?_
    refine lv_sipush (v := zi 5006) hx hb dX7_word_156 (by decide +kernel) ?_
    refine zm_al C hG 0 hf (Nat.le_of_ble_eq_true rfl) rfl dX7_word_159 (fun v159 hf => ?_)
    refine lv_istore_n (lv' := [(3, .int v159), (0, .ref (G_m Γ 0)), (1, .int b1)]) hx hb dX7_word_160 rfl hl (Nat.le_of_ble_eq_true rfl) rfl (fun ls hl => ?_)
    refine lv_aload_n hx hb dX7_word_161 rfl (lv_at hl 1 rfl) ?_
    refine zm_ga C hG 0 (Nat.le_of_ble_eq_true rfl) (by decide) q1443 dX7_word_162 ?_
    refine lv_sipush (v := zi 5006) hx hb dX7_word_165 (by decide +kernel) ?_
    refine lv_dup2_11 hx hb dX7_word_168 rfl rfl ?_
    refine zm_al C hG 0 hf (Nat.le_of_ble_eq_true rfl) rfl dX7_word_169 (fun v169 hf => ?_)
    refine lv_iconst (v := zi 1) hx hb dX7_word_170 rfl ?_
    refine lv_iadd hx hb dX7_word_171 ?_
    refine zm_as C hG 0 hf (Nat.le_of_ble_eq_true rfl) rfl dX7_word_172 (fun S H locs hG hf => ?_)
    refine lv_aload_n hx hb dX7_word_173 rfl (lv_at hl 1 rfl) ?_
    refine zm_ga C hG 0 (Nat.le_of_ble_eq_true rfl) (by decide) q1443 dX7_word_174 ?_
    refine lv_sipush (v := zi 4790) hx hb dX7_word_177 (by decide +kernel) ?_
    refine lv_bipush (v := zi 10) hx hb dX7_word_180 (by decide +kernel) ?_
    refine lv_iload_n hx hb dX7_word_182 rfl (lv_at hl 0 rfl) ?_
    refine lv_imul hx hb dX7_word_183 ?_
    refine lv_iadd hx hb dX7_word_184 ?_
    refine lv_aload_n hx hb dX7_word_185 rfl (lv_at hl 1 rfl) ?_
    refine zm_gf C hG 2 hf (Nat.le_of_ble_eq_true rfl) rfl q1445 dX7_word_186 (fun v186 hf => ?_)
    refine zm_as C hG 0 hf (Nat.le_of_ble_eq_true rfl) rfl dX7_word_189 (fun S H locs hG hf => ?_)
    refine lv_iconst (v := zi 0) hx hb dX7_word_190 rfl ?_
    refine lv_istore (lv' := [(4, .int (zi 0)), (3, .int v159), (0, .ref (G_m Γ 0)), (1, .int b1)]) hx hb dX7_word_191 hl (Nat.le_of_ble_eq_true rfl) rfl (fun ls hl => ?_)
    obtain ⟨e193, S, hlp, hf⟩ := nB_some hf
    refine mRg.loop (wm_word_l193 Γ l b1 v159) (zi 0) p e R s m args below meth c Q A _ _ _ _ _ _ C hG ⟨ls, rfl, lv_sub hl [2, 3, 1, 0] rfl⟩ hlp (fun H locs g hL hG => ?_)
    obtain ⟨ls, rfl, hl⟩ := hL
    have hl : lv_has ls 5 [(0, .ref (G_m Γ 0)), (1, .int b1), (3, .int v159)] := hl
    exact wm_word_j232 Γ l b1 v159 p e R s m args below meth c Q A _ _ _ _ _ _ C hG ⟨ls, rfl, lv_sub hl [0, 1, 2] rfl⟩ hf kk
set_option maxHeartbeats 4000000 in
theorem wm_word (Γ : zG) (l : Launch) (a1 : Int32) : mRg Γ l yX7_word cX7_word 5 (some .int) 2 48 (m_word a1) (zAt0 5 0 (lv_args 0 [.ref (G_m Γ 0), .int a1]) []) (zLi cX7_word) := by
  intro p e R s m args below meth c Q A S H locs x S' g C hG hI hf kk
  obtain ⟨ls, rfl, hl⟩ := hI
  obtain ⟨⟨hx, hb, hml, hown, hts⟩, hr, hlk, hK, hR1, hR2⟩ := id C
  have C : zCx Γ p R s m args meth c cX7_word 5 RX7 (some .int) 2 48 := C
  have hl : lv_has ls 5 [(0, .ref (G_m Γ 0)), (1, .int a1)] := hl
  refine lv_aload_n hx hb dX7_word_0 rfl (lv_at hl 0 rfl) ?_
  refine zm_cvv (As := []) (rest := []) C hG hf (ctm_begins Γ l) (lw_V q1604 q1606 qs41 q107 q1607) ytm_begins rfl rfl (Nat.le_of_ble_eq_true rfl) (Nat.le_of_ble_eq_true rfl) hl.1 (Nat.le_of_ble_eq_true rfl) dX7_word_1 (fun S H locs hG hf => ?_)
  refine lv_iload_n hx hb dX7_word_4 rfl (lv_at hl 1 rfl) ?_
  refine lv_iconst (v := zi 0) hx hb dX7_word_5 rfl ?_
  refine lv_bipush (v := zi 7) hx hb dX7_word_6 (by decide +kernel) ?_
  refine zm_csi (As := [.int a1, .int (zi 0), .int (zi 7)]) (rest := []) C hG hf (ctm_isIn Γ l a1 (zi 0) (zi 7)) (lw_S q1612 q1613 q107 q1614) ytm_isIn rfl rfl (Nat.le_of_ble_eq_true rfl) (Nat.le_of_ble_eq_true rfl) hl.1 (Nat.le_of_ble_eq_true rfl) dX7_word_8 (fun v8 S H locs hG hf => ?_)
  refine lv_if_ne (tgt := 17) hx hb dX7_word_11 (by decide) (fun c11 => ?_) (fun c11 => ?_)
  · have hf := z_f c11 hf
    refine lv_iconst (v := zi (-1)) hx hb dX7_word_17 rfl ?_
    refine lv_istore_n (lv' := [(2, .int (zi (-1))), (0, .ref (G_m Γ 0)), (1, .int a1)]) hx hb dX7_word_18 rfl hl (Nat.le_of_ble_eq_true rfl) rfl (fun ls hl => ?_)
    refine lv_iconst (v := zi 0) hx hb dX7_word_19 rfl ?_
    refine lv_istore_n (lv' := [(3, .int (zi 0)), (2, .int (zi (-1))), (0, .ref (G_m Γ 0)), (1, .int a1)]) hx hb dX7_word_20 rfl hl (Nat.le_of_ble_eq_true rfl) rfl (fun ls hl => ?_)
    obtain ⟨e21, S, hlp, hf⟩ := nB_some hf
    refine mRg.loop (wm_word_l21 Γ l a1) ((zi (-1)), (zi 0)) p e R s m args below meth c Q A _ _ _ _ _ _ C hG ⟨ls, rfl, lv_sub hl [2, 3, 1, 0] rfl⟩ hlp (fun H locs g hL hG => ?_)
    obtain ⟨ls, rfl, hl⟩ := hL
    have hl : lv_has ls 5 [(0, .ref (G_m Γ 0)), (1, .int a1), (2, .int e21)] := hl
    refine lv_iload_n hx hb dX7_word_52 rfl (lv_at hl 2 rfl) ?_
    refine lv_if_ge (tgt := 63) hx hb dX7_word_53 (by decide) (fun c53 => ?_) (fun c53 => ?_)
    · have hf := z_t c53 hf
      exact wm_word_j63 Γ l e21 p e R s m args below meth c Q A _ _ _ _ _ _ C hG ⟨ls, rfl, lv_sub hl [0, 2] rfl⟩ hf kk
    · have hf := z_f c53 hf
      refine lv_aload_n hx hb dX7_word_56 rfl (lv_at hl 0 rfl) ?_
      refine zm_gf C hG 2 hf (Nat.le_of_ble_eq_true rfl) rfl q1445 dX7_word_57 (fun v57 hf => ?_)
      refine lv_if_ne (tgt := 89) hx hb dX7_word_60 (by decide) (fun c60 => ?_) (fun c60 => ?_)
      · have hf := z_f c60 hf
        refine lv_aload_n hx hb dX7_word_89 rfl (lv_at hl 0 rfl) ?_
        refine zm_gf C hG 2 hf (Nat.le_of_ble_eq_true rfl) rfl q1445 dX7_word_90 (fun v90 hf => ?_)
        refine lv_bipush (v := zi 8) hx hb dX7_word_93 (by decide +kernel) ?_
        refine lv_icmp_le (tgt := 117) hx hb dX7_word_95 (by decide) (fun c95 => ?_) (fun c95 => ?_)
        · have hf := z_t c95 hf
          refine lv_aload_n hx hb dX7_word_117 rfl (lv_at hl 0 rfl) ?_
          refine lv_bipush (v := zi 70) hx hb dX7_word_118 (by decide +kernel) ?_
          refine lv_aload_n hx hb dX7_word_120 rfl (lv_at hl 0 rfl) ?_
          refine zm_gf C hG 2 hf (Nat.le_of_ble_eq_true rfl) rfl q1445 dX7_word_121 (fun v121 hf => ?_)
          refine zm_cvi (As := [.int (zi 70), .int v121]) (rest := []) C hG hf (ctm_wordAt Γ l (zi 70) v121) (lw_V q2031 q2033 qs94 q107 q2034) ytm_wordAt rfl rfl (Nat.le_of_ble_eq_true rfl) (Nat.le_of_ble_eq_true rfl) hl.1 (Nat.le_of_ble_eq_true rfl) dX7_word_124 (fun v124 S H locs hG hf => ?_)
          refine lv_istore_n (lv' := [(3, .int v124), (0, .ref (G_m Γ 0)), (1, .int a1), (2, .int e21)]) hx hb dX7_word_127 rfl hl (Nat.le_of_ble_eq_true rfl) rfl (fun ls hl => ?_)
          refine lv_iload_n hx hb dX7_word_128 rfl (lv_at hl 0 rfl) ?_
          refine lv_if_ge (tgt := 148) hx hb dX7_word_129 (by decide) (fun c129 => ?_) (fun c129 => ?_)
          · have hf := z_t c129 hf
            exact wm_word_j148 Γ l a1 v124 p e R s m args below meth c Q A _ _ _ _ _ _ C hG ⟨ls, rfl, lv_sub hl [1, 2, 0] rfl⟩ hf kk
          · have hf := z_f c129 hf
            refine lv_aload_n hx hb dX7_word_132 rfl (lv_at hl 1 rfl) ?_
            refine zm_ga C hG 0 (Nat.le_of_ble_eq_true rfl) (by decide) q1443 dX7_word_133 ?_
            refine lv_sipush (v := zi 5006) hx hb dX7_word_136 (by decide +kernel) ?_
            refine zm_al C hG 0 hf (Nat.le_of_ble_eq_true rfl) rfl dX7_word_139 (fun v139 hf => ?_)
            refine lv_bipush (v := zi 20) hx hb dX7_word_140 (by decide +kernel) ?_
            refine lv_icmp_ne (tgt := 148) hx hb dX7_word_142 (by decide) (fun c142 => ?_) (fun c142 => ?_)
            · have hf := z_f c142 hf
              exact wm_word_j148 Γ l a1 v124 p e R s m args below meth c Q A _ _ _ _ _ _ C hG ⟨ls, rfl, lv_sub hl [1, 2, 0] rfl⟩ hf kk
            · have hf := z_t c142 hf
              refine lv_bipush (v := zi (-2)) hx hb dX7_word_145 (by decide +kernel) ?_
              obtain ⟨rfl, rfl⟩ := z_p hf
              exact kk _ _ _ ⟨_, _, rfl, dX7_word_147⟩ hG
        · have hf := z_f c95 hf
          refine lv_aload_n hx hb dX7_word_98 rfl (lv_at hl 0 rfl) ?_
          refine zm_ga C hG 0 (Nat.le_of_ble_eq_true rfl) (by decide) q1443 dX7_word_99 ?_
          refine lv_bipush (v := zi 7) hx hb dX7_word_102 (by decide +kernel) ?_
          refine lv_iconst (v := zi 2) hx hb dX7_word_104 rfl ?_
          refine zm_as C hG 0 hf (Nat.le_of_ble_eq_true rfl) rfl dX7_word_105 (fun S H locs hG hf => ?_)
          refine lv_aload_n hx hb dX7_word_106 rfl (lv_at hl 0 rfl) ?_
          refine zm_ga C hG 0 (Nat.le_of_ble_eq_true rfl) (by decide) q1443 dX7_word_107 ?_
          refine lv_bipush (v := zi 8) hx hb dX7_word_110 (by decide +kernel) ?_
          refine lv_bipush (v := zi 8) hx hb dX7_word_112 (by decide +kernel) ?_
          refine zm_as C hG 0 hf (Nat.le_of_ble_eq_true rfl) rfl dX7_word_114 (fun S H locs hG hf => ?_)
          refine lv_iconst (v := zi (-1)) hx hb dX7_word_115 rfl ?_
          obtain ⟨rfl, rfl⟩ := z_p hf
          exact kk _ _ _ ⟨_, _, rfl, dX7_word_116⟩ hG
      · have hf := z_t c60 hf
        exact wm_word_j63 Γ l e21 p e R s m args below meth c Q A _ _ _ _ _ _ C hG ⟨ls, rfl, lv_sub hl [0, 2] rfl⟩ hf kk
  · have hf := z_t c11 hf
    refine lv_bipush (v := zi (-2)) hx hb dX7_word_14 (by decide +kernel) ?_
    obtain ⟨rfl, rfl⟩ := z_p hf
    exact kk _ _ _ ⟨_, _, rfl, dX7_word_16⟩ hG
theorem ctm_word (Γ : zG) (l : Launch) (a1 : Int32) : mCt Γ l yX7_word (ws_ yX7_word cX7_word 5 (some .int)) 2 48 [.ref (G_m Γ 0), .int a1] (m_word a1) zoi := mCt.mki (by decide +kernel) (Nat.le_of_ble_eq_true rfl) (wm_word Γ l a1)
theorem ytm_word : yX7_word.cls = RX7 ∧ yX7_word.cls ≠ "java/lang/invoke/MethodHandle" ∧ yX7_word.cls ≠ "java/lang/invoke/VarHandle" ∧ (parseMethodDescriptor yX7_word.desc).map (fun d => d.parameters.length) = some 1 := by decide +kernel
set_option maxHeartbeats 4000000 in
theorem wm_pattern (Γ : zG) (l : Launch) (a1 : Int32) (a2 : Int32) : mRg Γ l yX7_pattern cX7_pattern 3 (some .int) 1 22 (m_pattern a1 a2) (zAt0 3 0 (lv_args 0 [.ref (G_m Γ 0), .int a1, .int a2]) []) (zLi cX7_pattern) := by
  intro p e R s m args below meth c Q A S H locs x S' g C hG hI hf kk
  obtain ⟨ls, rfl, hl⟩ := hI
  obtain ⟨⟨hx, hb, hml, hown, hts⟩, hr, hlk, hK, hR1, hR2⟩ := id C
  have C : zCx Γ p R s m args meth c cX7_pattern 3 RX7 (some .int) 1 22 := C
  have hl : lv_has ls 3 [(0, .ref (G_m Γ 0)), (1, .int a1), (2, .int a2)] := hl
  refine lv_aload_n hx hb dX7_pattern_0 rfl (lv_at hl 0 rfl) ?_
  refine zm_ga C hG 0 (Nat.le_of_ble_eq_true rfl) (by decide) q1443 dX7_pattern_1 ?_
  refine lv_sipush (v := zi 5007) hx hb dX7_pattern_4 (by decide +kernel) ?_
  refine zm_al C hG 0 hf (Nat.le_of_ble_eq_true rfl) rfl dX7_pattern_7 (fun v7 hf => ?_)
  refine lv_bipush (v := zi 8) hx hb dX7_pattern_8 (by decide +kernel) ?_
  refine lv_icmp_eq (tgt := 35) hx hb dX7_pattern_10 (by decide) (fun c10 => ?_) (fun c10 => ?_)
  · have hf := z_t c10 hf
    refine lv_iconst (v := zi (-1)) hx hb dX7_pattern_35 rfl ?_
    obtain ⟨rfl, rfl⟩ := z_p hf
    exact kk _ _ _ ⟨_, _, rfl, dX7_pattern_36⟩ hG
  · have hf := z_f c10 hf
    refine lv_iload_n hx hb dX7_pattern_13 rfl (lv_at hl 1 rfl) ?_
    refine lv_iconst (v := zi 1) hx hb dX7_pattern_14 rfl ?_
    refine lv_sipush (v := zi 255) hx hb dX7_pattern_15 (by decide +kernel) ?_
    refine zm_csi (As := [.int a1, .int (zi 1), .int (zi 255)]) (rest := []) C hG hf (ctm_isIn Γ l a1 (zi 1) (zi 255)) (lw_S q1612 q1613 q107 q1614) ytm_isIn rfl rfl (Nat.le_of_ble_eq_true rfl) (Nat.le_of_ble_eq_true rfl) hl.1 (Nat.le_of_ble_eq_true rfl) dX7_pattern_18 (fun v18 S H locs hG hf => ?_)
    refine lv_if_eq (tgt := 35) hx hb dX7_pattern_21 (by decide) (fun c21 => ?_) (fun c21 => ?_)
    · have hf := z_t c21 hf
      refine lv_iconst (v := zi (-1)) hx hb dX7_pattern_35 rfl ?_
      obtain ⟨rfl, rfl⟩ := z_p hf
      exact kk _ _ _ ⟨_, _, rfl, dX7_pattern_36⟩ hG
    · have hf := z_f c21 hf
      refine lv_iload_n hx hb dX7_pattern_24 rfl (lv_at hl 2 rfl) ?_
      refine lv_bipush (v := zi (-99)) hx hb dX7_pattern_25 (by decide +kernel) ?_
      refine lv_bipush (v := zi 99) hx hb dX7_pattern_27 (by decide +kernel) ?_
      refine zm_csi (As := [.int a2, .int (zi (-99)), .int (zi 99)]) (rest := []) C hG hf (ctm_isIn Γ l a2 (zi (-99)) (zi 99)) (lw_S q1612 q1613 q107 q1614) ytm_isIn rfl rfl (Nat.le_of_ble_eq_true rfl) (Nat.le_of_ble_eq_true rfl) hl.1 (Nat.le_of_ble_eq_true rfl) dX7_pattern_29 (fun v29 S H locs hG hf => ?_)
      refine lv_if_ne (tgt := 37) hx hb dX7_pattern_32 (by decide) (fun c32 => ?_) (fun c32 => ?_)
      · have hf := z_f c32 hf
        refine lv_aload_n hx hb dX7_pattern_37 rfl (lv_at hl 0 rfl) ?_
        refine zm_ga C hG 0 (Nat.le_of_ble_eq_true rfl) (by decide) q1443 dX7_pattern_38 ?_
        refine lv_sipush (v := zi 4990) hx hb dX7_pattern_41 (by decide +kernel) ?_
        refine lv_iconst (v := zi 2) hx hb dX7_pattern_44 rfl ?_
        refine lv_aload_n hx hb dX7_pattern_45 rfl (lv_at hl 0 rfl) ?_
        refine zm_ga C hG 0 (Nat.le_of_ble_eq_true rfl) (by decide) q1443 dX7_pattern_46 ?_
        refine lv_sipush (v := zi 5007) hx hb dX7_pattern_49 (by decide +kernel) ?_
        refine zm_al C hG 0 hf (Nat.le_of_ble_eq_true rfl) rfl dX7_pattern_52 (fun v52 hf => ?_)
        refine lv_imul hx hb dX7_pattern_53 ?_
        refine lv_iadd hx hb dX7_pattern_54 ?_
        refine lv_iload_n hx hb dX7_pattern_55 rfl (lv_at hl 1 rfl) ?_
        refine zm_as C hG 0 hf (Nat.le_of_ble_eq_true rfl) rfl dX7_pattern_56 (fun S H locs hG hf => ?_)
        refine lv_aload_n hx hb dX7_pattern_57 rfl (lv_at hl 0 rfl) ?_
        refine zm_ga C hG 0 (Nat.le_of_ble_eq_true rfl) (by decide) q1443 dX7_pattern_58 ?_
        refine lv_sipush (v := zi 4990) hx hb dX7_pattern_61 (by decide +kernel) ?_
        refine lv_iconst (v := zi 2) hx hb dX7_pattern_64 rfl ?_
        refine lv_aload_n hx hb dX7_pattern_65 rfl (lv_at hl 0 rfl) ?_
        refine zm_ga C hG 0 (Nat.le_of_ble_eq_true rfl) (by decide) q1443 dX7_pattern_66 ?_
        refine lv_sipush (v := zi 5007) hx hb dX7_pattern_69 (by decide +kernel) ?_
        refine zm_al C hG 0 hf (Nat.le_of_ble_eq_true rfl) rfl dX7_pattern_72 (fun v72 hf => ?_)
        refine lv_imul hx hb dX7_pattern_73 ?_
        refine lv_iadd hx hb dX7_pattern_74 ?_
        refine lv_iconst (v := zi 1) hx hb dX7_pattern_75 rfl ?_
        refine lv_iadd hx hb dX7_pattern_76 ?_
        refine lv_iload_n hx hb dX7_pattern_77 rfl (lv_at hl 2 rfl) ?_
        refine zm_as C hG 0 hf (Nat.le_of_ble_eq_true rfl) rfl dX7_pattern_78 (fun S H locs hG hf => ?_)
        refine lv_aload_n hx hb dX7_pattern_79 rfl (lv_at hl 0 rfl) ?_
        refine zm_ga C hG 0 (Nat.le_of_ble_eq_true rfl) (by decide) q1443 dX7_pattern_80 ?_
        refine lv_sipush (v := zi 5007) hx hb dX7_pattern_83 (by decide +kernel) ?_
        refine lv_dup2_11 hx hb dX7_pattern_86 rfl rfl ?_
        refine zm_al C hG 0 hf (Nat.le_of_ble_eq_true rfl) rfl dX7_pattern_87 (fun v87 hf => ?_)
        refine lv_iconst (v := zi 1) hx hb dX7_pattern_88 rfl ?_
        refine lv_iadd hx hb dX7_pattern_89 ?_
        refine zm_as C hG 0 hf (Nat.le_of_ble_eq_true rfl) rfl dX7_pattern_90 (fun S H locs hG hf => ?_)
        refine lv_aload_n hx hb dX7_pattern_91 rfl (lv_at hl 0 rfl) ?_
        refine zm_ga C hG 0 (Nat.le_of_ble_eq_true rfl) (by decide) q1443 dX7_pattern_92 ?_
        refine lv_sipush (v := zi 5007) hx hb dX7_pattern_95 (by decide +kernel) ?_
        refine zm_al C hG 0 hf (Nat.le_of_ble_eq_true rfl) rfl dX7_pattern_98 (fun v98 hf => ?_)
        refine lv_iconst (v := zi 1) hx hb dX7_pattern_99 rfl ?_
        refine lv_isub hx hb dX7_pattern_100 ?_
        obtain ⟨rfl, rfl⟩ := z_p hf
        exact kk _ _ _ ⟨_, _, rfl, dX7_pattern_101⟩ hG
      · have hf := z_t c32 hf
        refine lv_iconst (v := zi (-1)) hx hb dX7_pattern_35 rfl ?_
        obtain ⟨rfl, rfl⟩ := z_p hf
        exact kk _ _ _ ⟨_, _, rfl, dX7_pattern_36⟩ hG
theorem ctm_pattern (Γ : zG) (l : Launch) (a1 : Int32) (a2 : Int32) : mCt Γ l yX7_pattern (ws_ yX7_pattern cX7_pattern 3 (some .int)) 1 22 [.ref (G_m Γ 0), .int a1, .int a2] (m_pattern a1 a2) zoi := mCt.mki (by decide +kernel) (Nat.le_of_ble_eq_true rfl) (wm_pattern Γ l a1 a2)
theorem ytm_pattern : yX7_pattern.cls = RX7 ∧ yX7_pattern.cls ≠ "java/lang/invoke/MethodHandle" ∧ yX7_pattern.cls ≠ "java/lang/invoke/VarHandle" ∧ (parseMethodDescriptor yX7_pattern.desc).map (fun d => d.parameters.length) = some 2 := by decide +kernel
def im_sentences_l15 (Γ : zG) (f1 : Int32) (m : MethodId) (s : Int32 × Int32 × Int32 × Int32) (g : JFrame) : Prop := zAt0 10 15 [(0, .ref (G_m Γ 0)), (1, .int f1), (2, .int s.1), (3, .int s.2.1), (4, .int s.2.2.1), (5, .int s.2.2.2)] [] m g
def em_sentences_l15 (Γ : zG) (f1 : Int32) (m : MethodId) (e : Int32) (g : JFrame) : Prop := zAt0 10 201 [(0, .ref (G_m Γ 0)), (2, .int e)] [] m g
set_option maxHeartbeats 4000000 in
theorem wm_sentences_l15_j190 (Γ : zG) (l : Launch) (b1 : Int32) (b2 : Int32) (b5 : Int32) : mRg Γ l yX7_sentences cX7_sentences 10 (some .int) 2 48 (m_sentences_l15_j190 b1 b2 b5) (zAt0 10 190 [(0, .ref (G_m Γ 0)), (1, .int b1), (2, .int b2), (5, .int b5)] []) (zLE (im_sentences_l15 Γ b1) (em_sentences_l15 Γ b1)) := by
  intro p e R s m args below meth c Q A S H locs x S' g C hG hI hf kk
  obtain ⟨ls, rfl, hl⟩ := hI
  obtain ⟨⟨hx, hb, hml, hown, hts⟩, hr, hlk, hK, hR1, hR2⟩ := id C
  have C : zCx Γ p R s m args meth c cX7_sentences 10 RX7 (some .int) 2 48 := C
  refine z_iinc (fun v => [(2, .int v), (0, .ref (G_m Γ 0)), (1, .int b1), (5, .int b5)]) hx hb hf dX7_sentences_190 hl (k := 2) rfl (Nat.le_of_ble_eq_true rfl) (fun _ => rfl) (fun n190 ls hf hl => ?_)
  refine lv_iconst (v := zi 0) hx hb dX7_sentences_193 rfl ?_
  refine lv_istore_n (lv' := [(3, .int (zi 0)), (2, .int n190), (0, .ref (G_m Γ 0)), (1, .int b1), (5, .int b5)]) hx hb dX7_sentences_194 rfl hl (Nat.le_of_ble_eq_true rfl) rfl (fun ls hl => ?_)
  refine lv_iconst (v := zi 0) hx hb dX7_sentences_195 rfl ?_
  refine lv_istore (lv' := [(4, .int (zi 0)), (3, .int (zi 0)), (2, .int n190), (0, .ref (G_m Γ 0)), (1, .int b1), (5, .int b5)]) hx hb dX7_sentences_196 hl (Nat.le_of_ble_eq_true rfl) rfl (fun ls hl => ?_)
  refine lv_goto (tgt := 15) hx hb dX7_sentences_198 (by decide) ?_
  obtain ⟨rfl, rfl⟩ := z_p hf
  exact kk _ _ _ ⟨ls, rfl, lv_sub hl [3, 4, 2, 1, 0, 5] rfl⟩ hG
def im_sentences_l74 (Γ : zG) (f1 : Int32) (f2 : Int32) (f3 : Int32) (f5 : Int32) (f6 : Int32) (m : MethodId) (s : Int32) (g : JFrame) : Prop := zAt0 10 74 [(0, .ref (G_m Γ 0)), (1, .int f1), (2, .int f2), (3, .int f3), (5, .int f5), (6, .int f6), (8, .int s)] [] m g
def em_sentences_l74 (Γ : zG) (f1 : Int32) (f2 : Int32) (f3 : Int32) (f5 : Int32) (f6 : Int32) (m : MethodId) (e : Int32) (g : JFrame) : Prop := zAt0 10 112 [(0, .ref (G_m Γ 0)), (1, .int f1), (2, .int f2), (3, .int f3), (5, .int f5), (6, .int f6), (8, .int e)] [] m g
set_option maxHeartbeats 4000000 in
theorem wm_sentences_l74_b (Γ : zG) (l : Launch) (f1 : Int32) (f2 : Int32) (f3 : Int32) (f5 : Int32) (f6 : Int32) (s8 : Int32) : mRg Γ l yX7_sentences cX7_sentences 10 (some .int) 2 48 (m_sentences_l74 f1 f2 f3 f5 f6 s8) (zAt0 10 74 [(0, .ref (G_m Γ 0)), (1, .int f1), (2, .int f2), (3, .int f3), (5, .int f5), (6, .int f6), (8, .int s8)] []) (zLE (im_sentences_l74 Γ f1 f2 f3 f5 f6) (em_sentences_l74 Γ f1 f2 f3 f5 f6)) := by
  intro p e R s m args below meth c Q A S H locs x S' g C hG hI hf kk
  obtain ⟨ls, rfl, hl⟩ := hI
  obtain ⟨⟨hx, hb, hml, hown, hts⟩, hr, hlk, hK, hR1, hR2⟩ := id C
  have C : zCx Γ p R s m args meth c cX7_sentences 10 RX7 (some .int) 2 48 := C
  refine lv_iload hx hb dX7_sentences_74 (lv_at hl 4 rfl) ?_
  refine lv_iload hx hb dX7_sentences_76 (lv_at hl 6 rfl) ?_
  refine lv_iadd hx hb dX7_sentences_78 ?_
  refine lv_aload_n hx hb dX7_sentences_79 rfl (lv_at hl 0 rfl) ?_
  refine zm_ga C hG 0 (Nat.le_of_ble_eq_true rfl) (by decide) q1443 dX7_sentences_80 ?_
  refine lv_sipush (v := zi 5010) hx hb dX7_sentences_83 (by decide +kernel) ?_
  refine zm_al C hG 0 hf (Nat.le_of_ble_eq_true rfl) rfl dX7_sentences_86 (fun v86 hf => ?_)
  refine lv_icmp_ge (tgt := 112) hx hb dX7_sentences_87 (by decide) (fun c87 => ?_) (fun c87 => ?_)
  · have hf := z_t c87 hf
    obtain ⟨rfl, rfl⟩ := z_p hf
    exact kk _ _ _ ⟨ls, rfl, lv_sub hl [0, 1, 2, 3, 4, 5, 6] rfl⟩ hG
  · have hf := z_f c87 hf
    refine lv_aload_n hx hb dX7_sentences_90 rfl (lv_at hl 0 rfl) ?_
    refine zm_ga C hG 0 (Nat.le_of_ble_eq_true rfl) (by decide) q1443 dX7_sentences_91 ?_
    refine lv_iload hx hb dX7_sentences_94 (lv_at hl 5 rfl) ?_
    refine lv_iload hx hb dX7_sentences_96 (lv_at hl 6 rfl) ?_
    refine lv_iadd hx hb dX7_sentences_98 ?_
    refine zm_al C hG 0 hf (Nat.le_of_ble_eq_true rfl) rfl dX7_sentences_99 (fun v99 hf => ?_)
    refine zm_csi (As := [.int v99]) (rest := []) C hG hf (ctm_isLetter Γ l v99) (lw_S q1630 q1631 q107 q1632) ytm_isLetter rfl rfl (Nat.le_of_ble_eq_true rfl) (Nat.le_of_ble_eq_true rfl) hl.1 (Nat.le_of_ble_eq_true rfl) dX7_sentences_100 (fun v100 S H locs hG hf => ?_)
    refine lv_if_eq (tgt := 112) hx hb dX7_sentences_103 (by decide) (fun c103 => ?_) (fun c103 => ?_)
    · have hf := z_t c103 hf
      obtain ⟨rfl, rfl⟩ := z_p hf
      exact kk _ _ _ ⟨ls, rfl, lv_sub hl [0, 1, 2, 3, 4, 5, 6] rfl⟩ hG
    · have hf := z_f c103 hf
      refine z_iinc (fun v => [(8, .int v), (0, .ref (G_m Γ 0)), (1, .int f1), (2, .int f2), (3, .int f3), (5, .int f5), (6, .int f6)]) hx hb hf dX7_sentences_106 hl (k := 6) rfl (Nat.le_of_ble_eq_true rfl) (fun _ => rfl) (fun n106 ls hf hl => ?_)
      refine lv_goto (tgt := 74) hx hb dX7_sentences_109 (by decide) ?_
      obtain ⟨rfl, rfl⟩ := z_p hf
      exact kk _ _ _ ⟨ls, rfl, lv_sub hl [1, 2, 3, 4, 5, 6, 0] rfl⟩ hG
theorem wm_sentences_l74 (Γ : zG) (l : Launch) (f1 : Int32) (f2 : Int32) (f3 : Int32) (f5 : Int32) (f6 : Int32) : ∀ s : Int32, mRg Γ l yX7_sentences cX7_sentences 10 (some .int) 2 48 (m_sentences_l74 f1 f2 f3 f5 f6 s) (fun m => im_sentences_l74 Γ f1 f2 f3 f5 f6 m s) (zLE (im_sentences_l74 Γ f1 f2 f3 f5 f6) (em_sentences_l74 Γ f1 f2 f3 f5 f6)) := fun s => wm_sentences_l74_b Γ l f1 f2 f3 f5 f6 s
set_option maxHeartbeats 4000000 in
theorem wm_sentences_l15_j152 (Γ : zG) (l : Launch) (b1 : Int32) (b2 : Int32) (b3 : Int32) (b4 : Int32) (b5 : Int32) (b8 : Int32) : mRg Γ l yX7_sentences cX7_sentences 10 (some .int) 2 48 (m_sentences_l15_j152 b1 b2 b3 b4 b5 b8) (zAt0 10 152 [(0, .ref (G_m Γ 0)), (1, .int b1), (2, .int b2), (3, .int b3), (4, .int b4), (5, .int b5), (8, .int b8)] []) (zLE (im_sentences_l15 Γ b1) (em_sentences_l15 Γ b1)) := by
  intro p e R s m args below meth c Q A S H locs x S' g C hG hI hf kk
  obtain ⟨ls, rfl, hl⟩ := hI
  obtain ⟨⟨hx, hb, hml, hown, hts⟩, hr, hlk, hK, hR1, hR2⟩ := id C
  have C : zCx Γ p R s m args meth c cX7_sentences 10 RX7 (some .int) 2 48 := C
  refine lv_iload hx hb dX7_sentences_152 (lv_at hl 5 rfl) ?_
  refine lv_iload hx hb dX7_sentences_154 (lv_at hl 6 rfl) ?_
  refine lv_iadd hx hb dX7_sentences_156 ?_
  refine z_top hf (fun n157 hf => ?_)
  refine lv_istore (lv' := [(5, .int n157), (0, .ref (G_m Γ 0)), (1, .int b1), (2, .int b2), (3, .int b3), (4, .int b4), (8, .int b8)]) hx hb dX7_sentences_157 hl (Nat.le_of_ble_eq_true rfl) rfl (fun ls hl => ?_)
  refine lv_goto (tgt := 15) hx hb dX7_sentences_159 (by decide) ?_
  obtain ⟨rfl, rfl⟩ := z_p hf
  exact kk _ _ _ ⟨ls, rfl, lv_sub hl [1, 2, 3, 4, 5, 0] rfl⟩ hG
set_option maxHeartbeats 4000000 in
theorem wm_sentences_l15_j61 (Γ : zG) (l : Launch) (b1 : Int32) (b2 : Int32) (b3 : Int32) (b4 : Int32) (b5 : Int32) (b6 : Int32) (t0 : Int32) : mRg Γ l yX7_sentences cX7_sentences 10 (some .int) 2 48 (m_sentences_l15_j61 b1 b2 b3 b4 b5 b6 t0) (zAt0 10 61 [(0, .ref (G_m Γ 0)), (1, .int b1), (2, .int b2), (3, .int b3), (4, .int b4), (5, .int b5), (6, .int b6)] [.int t0]) (zLE (im_sentences_l15 Γ b1) (em_sentences_l15 Γ b1)) := by
  intro p e R s m args below meth c Q A S H locs x S' g C hG hI hf kk
  obtain ⟨ls, rfl, hl⟩ := hI
  obtain ⟨⟨hx, hb, hml, hown, hts⟩, hr, hlk, hK, hR1, hR2⟩ := id C
  have C : zCx Γ p R s m args meth c cX7_sentences 10 RX7 (some .int) 2 48 := C
  refine lv_istore (lv' := [(7, .int t0), (0, .ref (G_m Γ 0)), (1, .int b1), (2, .int b2), (3, .int b3), (4, .int b4), (5, .int b5), (6, .int b6)]) hx hb dX7_sentences_61 hl (Nat.le_of_ble_eq_true rfl) rfl (fun ls hl => ?_)
  refine lv_iload hx hb dX7_sentences_63 (lv_at hl 0 rfl) ?_
  refine zm_csi (As := [.int t0]) (rest := []) C hG hf (ctm_isLetter Γ l t0) (lw_S q1630 q1631 q107 q1632) ytm_isLetter rfl rfl (Nat.le_of_ble_eq_true rfl) (Nat.le_of_ble_eq_true rfl) hl.1 (Nat.le_of_ble_eq_true rfl) dX7_sentences_65 (fun v65 S H locs hG hf => ?_)
  refine lv_if_eq (tgt := 162) hx hb dX7_sentences_68 (by decide) (fun c68 => ?_) (fun c68 => ?_)
  · have hf := z_t c68 hf
    refine z_iinc (fun v => [(5, .int v), (7, .int t0), (0, .ref (G_m Γ 0)), (1, .int b1), (2, .int b2), (3, .int b3), (4, .int b4), (6, .int b6)]) hx hb hf dX7_sentences_162 hl (k := 6) rfl (Nat.le_of_ble_eq_true rfl) (fun _ => rfl) (fun n162 ls hf hl => ?_)
    refine lv_iload hx hb dX7_sentences_165 (lv_at hl 1 rfl) ?_
    refine lv_bipush (v := zi 46) hx hb dX7_sentences_167 (by decide +kernel) ?_
    refine lv_icmp_ne (tgt := 15) hx hb dX7_sentences_169 (by decide) (fun c169 => ?_) (fun c169 => ?_)
    · have hf := z_f c169 hf
      obtain ⟨rfl, rfl⟩ := z_p hf
      exact kk _ _ _ ⟨ls, rfl, lv_sub hl [2, 3, 4, 5, 6, 0] rfl⟩ hG
    · have hf := z_t c169 hf
      refine lv_iload hx hb dX7_sentences_172 (lv_at hl 6 rfl) ?_
      refine lv_if_ne (tgt := 180) hx hb dX7_sentences_174 (by decide) (fun c174 => ?_) (fun c174 => ?_)
      · have hf := z_f c174 hf
        refine lv_iload_n hx hb dX7_sentences_180 rfl (lv_at hl 4 rfl) ?_
        refine lv_iload_n hx hb dX7_sentences_181 rfl (lv_at hl 3 rfl) ?_
        refine lv_icmp_ne (tgt := 190) hx hb dX7_sentences_182 (by decide) (fun c182 => ?_) (fun c182 => ?_)
        · have hf := z_f c182 hf
          exact wm_sentences_l15_j190 Γ l b1 b2 n162 p e R s m args below meth c Q A _ _ _ _ _ _ C hG ⟨ls, rfl, lv_sub hl [2, 3, 4, 0] rfl⟩ hf kk
        · have hf := z_t c182 hf
          refine lv_aload_n hx hb dX7_sentences_185 rfl (lv_at hl 2 rfl) ?_
          refine lv_iload_n hx hb dX7_sentences_186 rfl (lv_at hl 5 rfl) ?_
          refine zm_pf C hG 48 hf (Nat.le_of_ble_eq_true rfl) rfl rfl (by decide +kernel) q1491 dX7_sentences_187 (fun S H locs hG hf => ?_)
          exact wm_sentences_l15_j190 Γ l b1 b2 n162 p e R s m args below meth c Q A _ _ _ _ _ _ C hG ⟨ls, rfl, lv_sub hl [2, 3, 4, 0] rfl⟩ hf kk
      · have hf := z_t c174 hf
        refine lv_goto (tgt := 15) hx hb dX7_sentences_177 (by decide) ?_
        obtain ⟨rfl, rfl⟩ := z_p hf
        exact kk _ _ _ ⟨ls, rfl, lv_sub hl [2, 3, 4, 5, 6, 0] rfl⟩ hG
  · have hf := z_f c68 hf
    refine lv_iconst (v := zi 1) hx hb dX7_sentences_71 rfl ?_
    refine lv_istore (lv' := [(8, .int (zi 1)), (7, .int t0), (0, .ref (G_m Γ 0)), (1, .int b1), (2, .int b2), (3, .int b3), (4, .int b4), (5, .int b5), (6, .int b6)]) hx hb dX7_sentences_72 hl (Nat.le_of_ble_eq_true rfl) rfl (fun ls hl => ?_)
    obtain ⟨e74, S, hlp, hf⟩ := nB_some hf
    refine mRg.loop (wm_sentences_l74 Γ l b1 b2 b3 b5 b6) (zi 1) p e R s m args below meth c Q A _ _ _ _ _ _ C hG ⟨ls, rfl, lv_sub hl [2, 3, 4, 5, 7, 8, 0] rfl⟩ hlp (fun H locs g hL hG => ?_)
    obtain ⟨ls, rfl, hl⟩ := hL
    have hl : lv_has ls 10 [(0, .ref (G_m Γ 0)), (1, .int b1), (2, .int b2), (3, .int b3), (5, .int b5), (6, .int b6), (8, .int e74)] := hl
    refine lv_aload_n hx hb dX7_sentences_112 rfl (lv_at hl 0 rfl) ?_
    refine lv_iload hx hb dX7_sentences_113 (lv_at hl 5 rfl) ?_
    refine lv_iload hx hb dX7_sentences_115 (lv_at hl 6 rfl) ?_
    refine zm_cvi (As := [.int b6, .int e74]) (rest := []) C hG hf (ctm_wordAt Γ l b6 e74) (lw_V q2031 q2033 qs94 q107 q2034) ytm_wordAt rfl rfl (Nat.le_of_ble_eq_true rfl) (Nat.le_of_ble_eq_true rfl) hl.1 (Nat.le_of_ble_eq_true rfl) dX7_sentences_117 (fun v117 S H locs hG hf => ?_)
    refine lv_istore (lv' := [(9, .int v117), (0, .ref (G_m Γ 0)), (1, .int b1), (2, .int b2), (3, .int b3), (5, .int b5), (6, .int b6), (8, .int e74)]) hx hb dX7_sentences_120 hl (Nat.le_of_ble_eq_true rfl) rfl (fun ls hl => ?_)
    refine lv_iconst (v := zi 1) hx hb dX7_sentences_122 rfl ?_
    refine lv_istore (lv' := [(4, .int (zi 1)), (9, .int v117), (0, .ref (G_m Γ 0)), (1, .int b1), (2, .int b2), (3, .int b3), (5, .int b5), (6, .int b6), (8, .int e74)]) hx hb dX7_sentences_123 hl (Nat.le_of_ble_eq_true rfl) rfl (fun ls hl => ?_)
    refine lv_iload hx hb dX7_sentences_125 (lv_at hl 1 rfl) ?_
    refine lv_if_lt (tgt := 152) hx hb dX7_sentences_127 (by decide) (fun c127 => ?_) (fun c127 => ?_)
    · have hf := z_t c127 hf
      exact wm_sentences_l15_j152 Γ l b1 b2 b3 (zi 1) b5 e74 p e R s m args below meth c Q A _ _ _ _ _ _ C hG ⟨ls, rfl, lv_sub hl [2, 3, 4, 5, 0, 6, 8] rfl⟩ hf kk
    · have hf := z_f c127 hf
      refine lv_iload_n hx hb dX7_sentences_130 rfl (lv_at hl 5 rfl) ?_
      refine lv_iconst (v := zi 1) hx hb dX7_sentences_131 rfl ?_
      refine lv_aload_n hx hb dX7_sentences_132 rfl (lv_at hl 2 rfl) ?_
      refine zm_ga C hG 0 (Nat.le_of_ble_eq_true rfl) (by decide) q1443 dX7_sentences_133 ?_
      refine lv_sipush (v := zi 4790) hx hb dX7_sentences_136 (by decide +kernel) ?_
      refine lv_bipush (v := zi 10) hx hb dX7_sentences_139 (by decide +kernel) ?_
      refine lv_iload hx hb dX7_sentences_141 (lv_at hl 1 rfl) ?_
      refine lv_imul hx hb dX7_sentences_143 ?_
      refine lv_iadd hx hb dX7_sentences_144 ?_
      refine lv_bipush (v := zi 9) hx hb dX7_sentences_145 (by decide +kernel) ?_
      refine lv_iadd hx hb dX7_sentences_147 ?_
      refine zm_al C hG 0 hf (Nat.le_of_ble_eq_true rfl) rfl dX7_sentences_148 (fun v148 hf => ?_)
      refine lv_ishl hx hb dX7_sentences_149 ?_
      refine lv_ior hx hb dX7_sentences_150 ?_
      refine z_top hf (fun n151 hf => ?_)
      refine lv_istore_n (lv' := [(3, .int n151), (4, .int (zi 1)), (9, .int v117), (0, .ref (G_m Γ 0)), (1, .int b1), (2, .int b2), (5, .int b5), (6, .int b6), (8, .int e74)]) hx hb dX7_sentences_151 rfl hl (Nat.le_of_ble_eq_true rfl) rfl (fun ls hl => ?_)
      exact wm_sentences_l15_j152 Γ l b1 b2 n151 (zi 1) b5 e74 p e R s m args below meth c Q A _ _ _ _ _ _ C hG ⟨ls, rfl, lv_sub hl [3, 4, 5, 0, 1, 6, 8] rfl⟩ hf kk
set_option maxHeartbeats 4000000 in
theorem wm_sentences_l15_b (Γ : zG) (l : Launch) (f1 : Int32) (s2 : Int32) (s3 : Int32) (s4 : Int32) (s5 : Int32) : mRg Γ l yX7_sentences cX7_sentences 10 (some .int) 2 48 (m_sentences_l15 f1 s2 s3 s4 s5) (zAt0 10 15 [(0, .ref (G_m Γ 0)), (1, .int f1), (2, .int s2), (3, .int s3), (4, .int s4), (5, .int s5)] []) (zLE (im_sentences_l15 Γ f1) (em_sentences_l15 Γ f1)) := by
  intro p e R s m args below meth c Q A S H locs x S' g C hG hI hf kk
  obtain ⟨ls, rfl, hl⟩ := hI
  obtain ⟨⟨hx, hb, hml, hown, hts⟩, hr, hlk, hK, hR1, hR2⟩ := id C
  have C : zCx Γ p R s m args meth c cX7_sentences 10 RX7 (some .int) 2 48 := C
  refine lv_iload hx hb dX7_sentences_15 (lv_at hl 5 rfl) ?_
  refine lv_aload_n hx hb dX7_sentences_17 rfl (lv_at hl 0 rfl) ?_
  refine zm_ga C hG 0 (Nat.le_of_ble_eq_true rfl) (by decide) q1443 dX7_sentences_18 ?_
  refine lv_sipush (v := zi 5010) hx hb dX7_sentences_21 (by decide +kernel) ?_
  refine zm_al C hG 0 hf (Nat.le_of_ble_eq_true rfl) rfl dX7_sentences_24 (fun v24 hf => ?_)
  refine lv_icmp_gt (tgt := 201) hx hb dX7_sentences_25 (by decide) (fun c25 => ?_) (fun c25 => ?_)
  · have hf := z_t c25 hf
    obtain ⟨rfl, rfl⟩ := z_p hf
    exact kk _ _ _ ⟨ls, rfl, lv_sub hl [0, 2] rfl⟩ hG
  · have hf := z_f c25 hf
    refine lv_sipush (v := zi 5011) hx hb dX7_sentences_28 (by decide +kernel) ?_
    refine lv_iload hx hb dX7_sentences_31 (lv_at hl 5 rfl) ?_
    refine lv_iadd hx hb dX7_sentences_33 ?_
    refine z_top hf (fun n34 hf => ?_)
    refine lv_istore (lv' := [(6, .int n34), (0, .ref (G_m Γ 0)), (1, .int f1), (2, .int s2), (3, .int s3), (4, .int s4), (5, .int s5)]) hx hb dX7_sentences_34 hl (Nat.le_of_ble_eq_true rfl) rfl (fun ls hl => ?_)
    refine lv_iload hx hb dX7_sentences_36 (lv_at hl 6 rfl) ?_
    refine lv_aload_n hx hb dX7_sentences_38 rfl (lv_at hl 1 rfl) ?_
    refine zm_ga C hG 0 (Nat.le_of_ble_eq_true rfl) (by decide) q1443 dX7_sentences_39 ?_
    refine lv_sipush (v := zi 5010) hx hb dX7_sentences_42 (by decide +kernel) ?_
    refine zm_al C hG 0 hf (Nat.le_of_ble_eq_true rfl) rfl dX7_sentences_45 (fun v45 hf => ?_)
    refine lv_icmp_ge (tgt := 59) hx hb dX7_sentences_46 (by decide) (fun c46 => ?_) (fun c46 => ?_)
    · have hf := z_t c46 hf
      refine lv_bipush (v := zi 46) hx hb dX7_sentences_59 (by decide +kernel) ?_
      exact wm_sentences_l15_j61 Γ l f1 s2 s3 s4 s5 n34 (zi 46) p e R s m args below meth c Q A _ _ _ _ _ _ C hG ⟨ls, rfl, lv_sub hl [1, 2, 3, 4, 5, 6, 0] rfl⟩ hf kk
    · have hf := z_f c46 hf
      refine lv_aload_n hx hb dX7_sentences_49 rfl (lv_at hl 1 rfl) ?_
      refine zm_ga C hG 0 (Nat.le_of_ble_eq_true rfl) (by decide) q1443 dX7_sentences_50 ?_
      refine lv_iload hx hb dX7_sentences_53 (lv_at hl 0 rfl) ?_
      refine zm_al C hG 0 hf (Nat.le_of_ble_eq_true rfl) rfl dX7_sentences_55 (fun v55 hf => ?_)
      refine lv_goto (tgt := 61) hx hb dX7_sentences_56 (by decide) ?_
      exact wm_sentences_l15_j61 Γ l f1 s2 s3 s4 s5 n34 v55 p e R s m args below meth c Q A _ _ _ _ _ _ C hG ⟨ls, rfl, lv_sub hl [1, 2, 3, 4, 5, 6, 0] rfl⟩ hf kk
theorem wm_sentences_l15 (Γ : zG) (l : Launch) (f1 : Int32) : ∀ s : Int32 × Int32 × Int32 × Int32, mRg Γ l yX7_sentences cX7_sentences 10 (some .int) 2 48 (m_sentences_l15 f1 s.1 s.2.1 s.2.2.1 s.2.2.2) (fun m => im_sentences_l15 Γ f1 m s) (zLE (im_sentences_l15 Γ f1) (em_sentences_l15 Γ f1)) := fun s => wm_sentences_l15_b Γ l f1 s.1 s.2.1 s.2.2.1 s.2.2.2
set_option maxHeartbeats 4000000 in
theorem wm_sentences (Γ : zG) (l : Launch) (a1 : Int32) : mRg Γ l yX7_sentences cX7_sentences 10 (some .int) 2 48 (m_sentences a1) (zAt0 10 0 (lv_args 0 [.ref (G_m Γ 0), .int a1]) []) (zLi cX7_sentences) := by
  intro p e R s m args below meth c Q A S H locs x S' g C hG hI hf kk
  obtain ⟨ls, rfl, hl⟩ := hI
  obtain ⟨⟨hx, hb, hml, hown, hts⟩, hr, hlk, hK, hR1, hR2⟩ := id C
  have C : zCx Γ p R s m args meth c cX7_sentences 10 RX7 (some .int) 2 48 := C
  have hl : lv_has ls 10 [(0, .ref (G_m Γ 0)), (1, .int a1)] := hl
  refine lv_iconst (v := zi 0) hx hb dX7_sentences_0 rfl ?_
  refine lv_istore_n (lv' := [(2, .int (zi 0)), (0, .ref (G_m Γ 0)), (1, .int a1)]) hx hb dX7_sentences_1 rfl hl (Nat.le_of_ble_eq_true rfl) rfl (fun ls hl => ?_)
  refine lv_iconst (v := zi 0) hx hb dX7_sentences_2 rfl ?_
  refine lv_istore_n (lv' := [(3, .int (zi 0)), (2, .int (zi 0)), (0, .ref (G_m Γ 0)), (1, .int a1)]) hx hb dX7_sentences_3 rfl hl (Nat.le_of_ble_eq_true rfl) rfl (fun ls hl => ?_)
  refine lv_iconst (v := zi 0) hx hb dX7_sentences_4 rfl ?_
  refine lv_istore (lv' := [(4, .int (zi 0)), (3, .int (zi 0)), (2, .int (zi 0)), (0, .ref (G_m Γ 0)), (1, .int a1)]) hx hb dX7_sentences_5 hl (Nat.le_of_ble_eq_true rfl) rfl (fun ls hl => ?_)
  refine lv_aload_n hx hb dX7_sentences_7 rfl (lv_at hl 3 rfl) ?_
  refine lv_iconst (v := zi (-1)) hx hb dX7_sentences_8 rfl ?_
  refine zm_pf C hG 48 hf (Nat.le_of_ble_eq_true rfl) rfl rfl (by decide +kernel) q1491 dX7_sentences_9 (fun S H locs hG hf => ?_)
  refine lv_iconst (v := zi 0) hx hb dX7_sentences_12 rfl ?_
  refine lv_istore (lv' := [(5, .int (zi 0)), (4, .int (zi 0)), (3, .int (zi 0)), (2, .int (zi 0)), (0, .ref (G_m Γ 0)), (1, .int a1)]) hx hb dX7_sentences_13 hl (Nat.le_of_ble_eq_true rfl) rfl (fun ls hl => ?_)
  obtain ⟨e15, S, hlp, hf⟩ := nB_some hf
  refine mRg.loop (wm_sentences_l15 Γ l a1) ((zi 0), (zi 0), (zi 0), (zi 0)) p e R s m args below meth c Q A _ _ _ _ _ _ C hG ⟨ls, rfl, lv_sub hl [4, 5, 3, 2, 1, 0] rfl⟩ hlp (fun H locs g hL hG => ?_)
  obtain ⟨ls, rfl, hl⟩ := hL
  have hl : lv_has ls 10 [(0, .ref (G_m Γ 0)), (2, .int e15)] := hl
  refine lv_iload_n hx hb dX7_sentences_201 rfl (lv_at hl 1 rfl) ?_
  obtain ⟨rfl, rfl⟩ := z_p hf
  exact kk _ _ _ ⟨_, _, rfl, dX7_sentences_202⟩ hG
theorem ctm_sentences (Γ : zG) (l : Launch) (a1 : Int32) : mCt Γ l yX7_sentences (ws_ yX7_sentences cX7_sentences 10 (some .int)) 2 48 [.ref (G_m Γ 0), .int a1] (m_sentences a1) zoi := mCt.mki (by decide +kernel) (Nat.le_of_ble_eq_true rfl) (wm_sentences Γ l a1)
theorem ytm_sentences : yX7_sentences.cls = RX7 ∧ yX7_sentences.cls ≠ "java/lang/invoke/MethodHandle" ∧ yX7_sentences.cls ≠ "java/lang/invoke/VarHandle" ∧ (parseMethodDescriptor yX7_sentences.desc).map (fun d => d.parameters.length) = some 1 := by decide +kernel
def im_letter_l6 (Γ : zG) (m : MethodId) (s : Int32) (g : JFrame) : Prop := zAt0 3 6 [(0, .ref (G_m Γ 0)), (1, .int s)] [] m g
def em_letter_l6 (Γ : zG) (m : MethodId) (e : Int32 ⊕ (Unit)) (g : JFrame) : Prop := (Sum.elim (fun e => zAt0 3 48 [(0, .ref (G_m Γ 0)), (1, .int e)] [] m g) (fun e => zAt0 3 72 [(0, .ref (G_m Γ 0))] [] m g)) e
set_option maxHeartbeats 4000000 in
theorem wm_letter_l6_b (Γ : zG) (l : Launch) (s1 : Int32) : mRg Γ l yX7_letter cX7_letter 3 (some .int) 3 77 (m_letter_l6 s1) (zAt0 3 6 [(0, .ref (G_m Γ 0)), (1, .int s1)] []) (zLE (im_letter_l6 Γ) (em_letter_l6 Γ)) := by
  intro p e R s m args below meth c Q A S H locs x S' g C hG hI hf kk
  obtain ⟨ls, rfl, hl⟩ := hI
  obtain ⟨⟨hx, hb, hml, hown, hts⟩, hr, hlk, hK, hR1, hR2⟩ := id C
  have C : zCx Γ p R s m args meth c cX7_letter 3 RX7 (some .int) 3 77 := C
  refine lv_iload_n hx hb dX7_letter_6 rfl (lv_at hl 1 rfl) ?_
  refine lv_aload_n hx hb dX7_letter_7 rfl (lv_at hl 0 rfl) ?_
  refine zm_gf C hG 2 hf (Nat.le_of_ble_eq_true rfl) rfl q1445 dX7_letter_8 (fun v8 hf => ?_)
  refine lv_icmp_ge (tgt := 72) hx hb dX7_letter_11 (by decide) (fun c11 => ?_) (fun c11 => ?_)
  · have hf := z_t c11 hf
    obtain ⟨rfl, rfl⟩ := z_p hf
    exact kk _ _ _ ⟨ls, rfl, lv_sub hl [0] rfl⟩ hG
  · have hf := z_f c11 hf
    refine lv_aload_n hx hb dX7_letter_14 rfl (lv_at hl 0 rfl) ?_
    refine lv_iload_n hx hb dX7_letter_15 rfl (lv_at hl 1 rfl) ?_
    refine zm_cvi (As := [.int s1]) (rest := []) C hG hf (ctm_byteAt Γ l s1) (lw_V q1626 q1628 qs45 q107 q1629) ytm_byteAt rfl rfl (Nat.le_of_ble_eq_true rfl) (Nat.le_of_ble_eq_true rfl) hl.1 (Nat.le_of_ble_eq_true rfl) dX7_letter_16 (fun v16 S H locs hG hf => ?_)
    refine lv_istore_n (lv' := [(2, .int v16), (0, .ref (G_m Γ 0)), (1, .int s1)]) hx hb dX7_letter_19 rfl hl (Nat.le_of_ble_eq_true rfl) rfl (fun ls hl => ?_)
    refine lv_iload_n hx hb dX7_letter_20 rfl (lv_at hl 0 rfl) ?_
    refine zm_csi (As := [.int v16]) (rest := []) C hG hf (ctm_isLetter Γ l v16) (lw_S q1630 q1631 q107 q1632) ytm_isLetter rfl rfl (Nat.le_of_ble_eq_true rfl) (Nat.le_of_ble_eq_true rfl) hl.1 (Nat.le_of_ble_eq_true rfl) dX7_letter_21 (fun v21 S H locs hG hf => ?_)
    refine lv_if_ne (tgt := 66) hx hb dX7_letter_24 (by decide) (fun c24 => ?_) (fun c24 => ?_)
    · have hf := z_f c24 hf
      refine z_iinc (fun v => [(1, .int v), (2, .int v16), (0, .ref (G_m Γ 0))]) hx hb hf dX7_letter_66 hl (k := 2) rfl (Nat.le_of_ble_eq_true rfl) (fun _ => rfl) (fun n66 ls hf hl => ?_)
      refine lv_goto (tgt := 6) hx hb dX7_letter_69 (by decide) ?_
      obtain ⟨rfl, rfl⟩ := z_p hf
      exact kk _ _ _ ⟨ls, rfl, lv_sub hl [2, 0] rfl⟩ hG
    · have hf := z_t c24 hf
      refine lv_iload_n hx hb dX7_letter_27 rfl (lv_at hl 0 rfl) ?_
      refine lv_bipush (v := zi 46) hx hb dX7_letter_28 (by decide +kernel) ?_
      refine lv_icmp_eq (tgt := 66) hx hb dX7_letter_30 (by decide) (fun c30 => ?_) (fun c30 => ?_)
      · have hf := z_t c30 hf
        refine z_iinc (fun v => [(1, .int v), (2, .int v16), (0, .ref (G_m Γ 0))]) hx hb hf dX7_letter_66 hl (k := 2) rfl (Nat.le_of_ble_eq_true rfl) (fun _ => rfl) (fun n66 ls hf hl => ?_)
        refine lv_goto (tgt := 6) hx hb dX7_letter_69 (by decide) ?_
        obtain ⟨rfl, rfl⟩ := z_p hf
        exact kk _ _ _ ⟨ls, rfl, lv_sub hl [2, 0] rfl⟩ hG
      · have hf := z_f c30 hf
        refine lv_iload_n hx hb dX7_letter_33 rfl (lv_at hl 0 rfl) ?_
        refine lv_bipush (v := zi 10) hx hb dX7_letter_34 (by decide +kernel) ?_
        refine lv_icmp_eq (tgt := 66) hx hb dX7_letter_36 (by decide) (fun c36 => ?_) (fun c36 => ?_)
        · have hf := z_t c36 hf
          refine z_iinc (fun v => [(1, .int v), (2, .int v16), (0, .ref (G_m Γ 0))]) hx hb hf dX7_letter_66 hl (k := 2) rfl (Nat.le_of_ble_eq_true rfl) (fun _ => rfl) (fun n66 ls hf hl => ?_)
          refine lv_goto (tgt := 6) hx hb dX7_letter_69 (by decide) ?_
          obtain ⟨rfl, rfl⟩ := z_p hf
          exact kk _ _ _ ⟨ls, rfl, lv_sub hl [2, 0] rfl⟩ hG
        · have hf := z_f c36 hf
          refine lv_iload_n hx hb dX7_letter_39 rfl (lv_at hl 0 rfl) ?_
          refine lv_bipush (v := zi 32) hx hb dX7_letter_40 (by decide +kernel) ?_
          refine lv_icmp_ne (tgt := 48) hx hb dX7_letter_42 (by decide) (fun c42 => ?_) (fun c42 => ?_)
          · have hf := z_f c42 hf
            obtain ⟨rfl, rfl⟩ := z_p hf
            exact kk _ _ _ ⟨ls, rfl, lv_sub hl [1, 2] rfl⟩ hG
          · have hf := z_t c42 hf
            refine lv_goto (tgt := 66) hx hb dX7_letter_45 (by decide) ?_
            refine z_iinc (fun v => [(1, .int v), (2, .int v16), (0, .ref (G_m Γ 0))]) hx hb hf dX7_letter_66 hl (k := 2) rfl (Nat.le_of_ble_eq_true rfl) (fun _ => rfl) (fun n66 ls hf hl => ?_)
            refine lv_goto (tgt := 6) hx hb dX7_letter_69 (by decide) ?_
            obtain ⟨rfl, rfl⟩ := z_p hf
            exact kk _ _ _ ⟨ls, rfl, lv_sub hl [2, 0] rfl⟩ hG
theorem wm_letter_l6 (Γ : zG) (l : Launch) : ∀ s : Int32, mRg Γ l yX7_letter cX7_letter 3 (some .int) 3 77 (m_letter_l6 s) (fun m => im_letter_l6 Γ m s) (zLE (im_letter_l6 Γ) (em_letter_l6 Γ)) := fun s => wm_letter_l6_b Γ l s
def im_letter_l86 (Γ : zG) (m : MethodId) (s : Int32) (g : JFrame) : Prop := zAt0 3 86 [(0, .ref (G_m Γ 0)), (1, .int s)] [] m g
def em_letter_l86 (Γ : zG) (m : MethodId) (e : Unit) (g : JFrame) : Prop := zAt0 3 115 [(0, .ref (G_m Γ 0))] [] m g
set_option maxHeartbeats 4000000 in
theorem wm_letter_l86_b (Γ : zG) (l : Launch) (s1 : Int32) : mRg Γ l yX7_letter cX7_letter 3 (some .int) 3 77 (m_letter_l86 s1) (zAt0 3 86 [(0, .ref (G_m Γ 0)), (1, .int s1)] []) (zLE (im_letter_l86 Γ) (em_letter_l86 Γ)) := by
  intro p e R s m args below meth c Q A S H locs x S' g C hG hI hf kk
  obtain ⟨ls, rfl, hl⟩ := hI
  obtain ⟨⟨hx, hb, hml, hown, hts⟩, hr, hlk, hK, hR1, hR2⟩ := id C
  have C : zCx Γ p R s m args meth c cX7_letter 3 RX7 (some .int) 3 77 := C
  refine lv_iload_n hx hb dX7_letter_86 rfl (lv_at hl 1 rfl) ?_
  refine lv_aload_n hx hb dX7_letter_87 rfl (lv_at hl 0 rfl) ?_
  refine zm_gf C hG 2 hf (Nat.le_of_ble_eq_true rfl) rfl q1445 dX7_letter_88 (fun v88 hf => ?_)
  refine lv_icmp_ge (tgt := 115) hx hb dX7_letter_91 (by decide) (fun c91 => ?_) (fun c91 => ?_)
  · have hf := z_t c91 hf
    obtain ⟨rfl, rfl⟩ := z_p hf
    exact kk _ _ _ ⟨ls, rfl, lv_sub hl [0] rfl⟩ hG
  · have hf := z_f c91 hf
    refine lv_aload_n hx hb dX7_letter_94 rfl (lv_at hl 0 rfl) ?_
    refine zm_ga C hG 0 (Nat.le_of_ble_eq_true rfl) (by decide) q1443 dX7_letter_95 ?_
    refine lv_sipush (v := zi 5011) hx hb dX7_letter_98 (by decide +kernel) ?_
    refine lv_iload_n hx hb dX7_letter_101 rfl (lv_at hl 1 rfl) ?_
    refine lv_iadd hx hb dX7_letter_102 ?_
    refine lv_aload_n hx hb dX7_letter_103 rfl (lv_at hl 0 rfl) ?_
    refine lv_iload_n hx hb dX7_letter_104 rfl (lv_at hl 1 rfl) ?_
    refine zm_cvi (As := [.int s1]) (rest := [.int ((zi 5011) + s1), .ref (G_m Γ (0 + 1))]) C hG hf (ctm_byteAt Γ l s1) (lw_V q1626 q1628 qs45 q107 q1629) ytm_byteAt rfl rfl (Nat.le_of_ble_eq_true rfl) (Nat.le_of_ble_eq_true rfl) hl.1 (Nat.le_of_ble_eq_true rfl) dX7_letter_105 (fun v105 S H locs hG hf => ?_)
    refine zm_as C hG 0 hf (Nat.le_of_ble_eq_true rfl) rfl dX7_letter_108 (fun S H locs hG hf => ?_)
    refine z_iinc (fun v => [(1, .int v), (0, .ref (G_m Γ 0))]) hx hb hf dX7_letter_109 hl (k := 1) rfl (Nat.le_of_ble_eq_true rfl) (fun _ => rfl) (fun n109 ls hf hl => ?_)
    refine lv_goto (tgt := 86) hx hb dX7_letter_112 (by decide) ?_
    obtain ⟨rfl, rfl⟩ := z_p hf
    exact kk _ _ _ ⟨ls, rfl, lv_sub hl [1, 0] rfl⟩ hG
theorem wm_letter_l86 (Γ : zG) (l : Launch) : ∀ s : Int32, mRg Γ l yX7_letter cX7_letter 3 (some .int) 3 77 (m_letter_l86 s) (fun m => im_letter_l86 Γ m s) (zLE (im_letter_l86 Γ) (em_letter_l86 Γ)) := fun s => wm_letter_l86_b Γ l s
set_option maxHeartbeats 4000000 in
theorem wm_letter (Γ : zG) (l : Launch) : mRg Γ l yX7_letter cX7_letter 3 (some .int) 3 77 (m_letter) (zAt0 3 0 (lv_args 0 [.ref (G_m Γ 0)]) []) (zLi cX7_letter) := by
  intro p e R s m args below meth c Q A S H locs x S' g C hG hI hf kk
  obtain ⟨ls, rfl, hl⟩ := hI
  obtain ⟨⟨hx, hb, hml, hown, hts⟩, hr, hlk, hK, hR1, hR2⟩ := id C
  have C : zCx Γ p R s m args meth c cX7_letter 3 RX7 (some .int) 3 77 := C
  have hl : lv_has ls 3 [(0, .ref (G_m Γ 0))] := hl
  refine lv_aload_n hx hb dX7_letter_0 rfl (lv_at hl 0 rfl) ?_
  refine zm_cvv (As := []) (rest := []) C hG hf (ctm_begins Γ l) (lw_V q1604 q1606 qs41 q107 q1607) ytm_begins rfl rfl (Nat.le_of_ble_eq_true rfl) (Nat.le_of_ble_eq_true rfl) hl.1 (Nat.le_of_ble_eq_true rfl) dX7_letter_1 (fun S H locs hG hf => ?_)
  refine lv_iconst (v := zi 0) hx hb dX7_letter_4 rfl ?_
  refine lv_istore_n (lv' := [(1, .int (zi 0)), (0, .ref (G_m Γ 0))]) hx hb dX7_letter_5 rfl hl (Nat.le_of_ble_eq_true rfl) rfl (fun ls hl => ?_)
  obtain ⟨e6, S, hlp, hf⟩ := nB_some hf
  refine mRg.loop (wm_letter_l6 Γ l) (zi 0) p e R s m args below meth c Q A _ _ _ _ _ _ C hG ⟨ls, rfl, lv_sub hl [1, 0] rfl⟩ hlp (fun H locs g hL hG => ?_)
  rcases e6 with e6 | e6
  · have hf := z_dl hf
    obtain ⟨ls, rfl, hl⟩ := hL
    have hl : lv_has ls 3 [(0, .ref (G_m Γ 0)), (1, .int e6)] := hl
    refine lv_aload_n hx hb dX7_letter_48 rfl (lv_at hl 0 rfl) ?_
    refine zm_ga C hG 0 (Nat.le_of_ble_eq_true rfl) (by decide) q1443 dX7_letter_49 ?_
    refine lv_bipush (v := zi 7) hx hb dX7_letter_52 (by decide +kernel) ?_
    refine lv_iconst (v := zi 1) hx hb dX7_letter_54 rfl ?_
    refine zm_as C hG 0 hf (Nat.le_of_ble_eq_true rfl) rfl dX7_letter_55 (fun S H locs hG hf => ?_)
    refine lv_aload_n hx hb dX7_letter_56 rfl (lv_at hl 0 rfl) ?_
    refine zm_ga C hG 0 (Nat.le_of_ble_eq_true rfl) (by decide) q1443 dX7_letter_57 ?_
    refine lv_bipush (v := zi 8) hx hb dX7_letter_60 (by decide +kernel) ?_
    refine lv_iload_n hx hb dX7_letter_62 rfl (lv_at hl 1 rfl) ?_
    refine zm_as C hG 0 hf (Nat.le_of_ble_eq_true rfl) rfl dX7_letter_63 (fun S H locs hG hf => ?_)
    refine lv_iconst (v := zi (-1)) hx hb dX7_letter_64 rfl ?_
    obtain ⟨rfl, rfl⟩ := z_p hf
    exact kk _ _ _ ⟨_, _, rfl, dX7_letter_65⟩ hG
  · have hf := z_dr hf
    obtain ⟨ls, rfl, hl⟩ := hL
    have hl : lv_has ls 3 [(0, .ref (G_m Γ 0))] := hl
    refine lv_aload_n hx hb dX7_letter_72 rfl (lv_at hl 0 rfl) ?_
    refine zm_ga C hG 0 (Nat.le_of_ble_eq_true rfl) (by decide) q1443 dX7_letter_73 ?_
    refine lv_sipush (v := zi 5010) hx hb dX7_letter_76 (by decide +kernel) ?_
    refine lv_aload_n hx hb dX7_letter_79 rfl (lv_at hl 0 rfl) ?_
    refine zm_gf C hG 2 hf (Nat.le_of_ble_eq_true rfl) rfl q1445 dX7_letter_80 (fun v80 hf => ?_)
    refine zm_as C hG 0 hf (Nat.le_of_ble_eq_true rfl) rfl dX7_letter_83 (fun S H locs hG hf => ?_)
    refine lv_iconst (v := zi 0) hx hb dX7_letter_84 rfl ?_
    refine lv_istore_n (lv' := [(1, .int (zi 0)), (0, .ref (G_m Γ 0))]) hx hb dX7_letter_85 rfl hl (Nat.le_of_ble_eq_true rfl) rfl (fun ls hl => ?_)
    obtain ⟨e86, S, hlp, hf⟩ := nB_some hf
    refine mRg.loop (wm_letter_l86 Γ l) (zi 0) p e R s m args below meth c Q A _ _ _ _ _ _ C hG ⟨ls, rfl, lv_sub hl [1, 0] rfl⟩ hlp (fun H locs g hL hG => ?_)
    obtain ⟨ls, rfl, hl⟩ := hL
    have hl : lv_has ls 3 [(0, .ref (G_m Γ 0))] := hl
    refine lv_aload_n hx hb dX7_letter_115 rfl (lv_at hl 0 rfl) ?_
    refine lv_iconst (v := zi (-1)) hx hb dX7_letter_116 rfl ?_
    refine zm_cvi (As := [.int (zi (-1))]) (rest := []) C hG hf (ctm_sentences Γ l (zi (-1))) (lw_V q2047 q2049 qs96 q107 q2050) ytm_sentences rfl rfl (Nat.le_of_ble_eq_true rfl) (Nat.le_of_ble_eq_true rfl) hl.1 (Nat.le_of_ble_eq_true rfl) dX7_letter_117 (fun v117 S H locs hG hf => ?_)
    obtain ⟨rfl, rfl⟩ := z_p hf
    exact kk _ _ _ ⟨_, _, rfl, dX7_letter_120⟩ hG
theorem ctm_letter (Γ : zG) (l : Launch) : mCt Γ l yX7_letter (ws_ yX7_letter cX7_letter 3 (some .int)) 3 77 [.ref (G_m Γ 0)] (m_letter) zoi := mCt.mki (by decide +kernel) (Nat.le_of_ble_eq_true rfl) (wm_letter Γ l)
theorem ytm_letter : yX7_letter.cls = RX7 ∧ yX7_letter.cls ≠ "java/lang/invoke/MethodHandle" ∧ yX7_letter.cls ≠ "java/lang/invoke/VarHandle" ∧ (parseMethodDescriptor yX7_letter.desc).map (fun d => d.parameters.length) = some 0 := by decide +kernel
set_option maxHeartbeats 4000000 in
theorem wm_sentence (Γ : zG) (l : Launch) (a1 : Int32) : mRg Γ l yX7_sentence cX7_sentence 3 (some .int) 3 77 (m_sentence a1) (zAt0 3 0 (lv_args 0 [.ref (G_m Γ 0), .int a1]) []) (zLi cX7_sentence) := by
  intro p e R s m args below meth c Q A S H locs x S' g C hG hI hf kk
  obtain ⟨ls, rfl, hl⟩ := hI
  obtain ⟨⟨hx, hb, hml, hown, hts⟩, hr, hlk, hK, hR1, hR2⟩ := id C
  have C : zCx Γ p R s m args meth c cX7_sentence 3 RX7 (some .int) 3 77 := C
  have hl : lv_has ls 3 [(0, .ref (G_m Γ 0)), (1, .int a1)] := hl
  refine lv_aload_n hx hb dX7_sentence_0 rfl (lv_at hl 0 rfl) ?_
  refine lv_iload_n hx hb dX7_sentence_1 rfl (lv_at hl 1 rfl) ?_
  refine zm_cvi (As := [.int a1]) (rest := []) C hG hf (ctm_sentences Γ l a1) (lw_V q2047 q2049 qs96 q107 q2050) ytm_sentences rfl rfl (Nat.le_of_ble_eq_true rfl) (Nat.le_of_ble_eq_true rfl) hl.1 (Nat.le_of_ble_eq_true rfl) dX7_sentence_2 (fun v2 S H locs hG hf => ?_)
  refine lv_istore_n (lv' := [(2, .int v2), (0, .ref (G_m Γ 0)), (1, .int a1)]) hx hb dX7_sentence_5 rfl hl (Nat.le_of_ble_eq_true rfl) rfl (fun ls hl => ?_)
  refine lv_aload_n hx hb dX7_sentence_6 rfl (lv_at hl 1 rfl) ?_
  refine zm_gf C hG 48 hf (Nat.le_of_ble_eq_true rfl) rfl q1491 dX7_sentence_7 (fun v7 hf => ?_)
  obtain ⟨rfl, rfl⟩ := z_p hf
  exact kk _ _ _ ⟨_, _, rfl, dX7_sentence_10⟩ hG
theorem ctm_sentence (Γ : zG) (l : Launch) (a1 : Int32) : mCt Γ l yX7_sentence (ws_ yX7_sentence cX7_sentence 3 (some .int)) 3 77 [.ref (G_m Γ 0), .int a1] (m_sentence a1) zoi := mCt.mki (by decide +kernel) (Nat.le_of_ble_eq_true rfl) (wm_sentence Γ l a1)
theorem ytm_sentence : yX7_sentence.cls = RX7 ∧ yX7_sentence.cls ≠ "java/lang/invoke/MethodHandle" ∧ yX7_sentence.cls ≠ "java/lang/invoke/VarHandle" ∧ (parseMethodDescriptor yX7_sentence.desc).map (fun d => d.parameters.length) = some 1 := by decide +kernel
def im_firstOf_l8 (Γ : zG) (f1 : Int32) (f2 : Int32) (m : MethodId) (s : Int32) (g : JFrame) : Prop := zAt0 4 8 [(0, .ref (G_m Γ 0)), (1, .int f1), (2, .int f2), (3, .int s)] [] m g
def em_firstOf_l8 (Γ : zG) (f1 : Int32) (f2 : Int32) (m : MethodId) (e : Int32 ⊕ (Unit)) (g : JFrame) : Prop := (Sum.elim (fun e => zAt0 4 36 [(0, .ref (G_m Γ 0)), (3, .int e)] [] m g) (fun e => zAt0 4 44 [(0, .ref (G_m Γ 0))] [] m g)) e
set_option maxHeartbeats 4000000 in
theorem wm_firstOf_l8_b (Γ : zG) (l : Launch) (f1 : Int32) (f2 : Int32) (s3 : Int32) : mRg Γ l yX7_firstOf cX7_firstOf 4 (some .int) 4 99 (m_firstOf_l8 f1 f2 s3) (zAt0 4 8 [(0, .ref (G_m Γ 0)), (1, .int f1), (2, .int f2), (3, .int s3)] []) (zLE (im_firstOf_l8 Γ f1 f2) (em_firstOf_l8 Γ f1 f2)) := by
  intro p e R s m args below meth c Q A S H locs x S' g C hG hI hf kk
  obtain ⟨ls, rfl, hl⟩ := hI
  obtain ⟨⟨hx, hb, hml, hown, hts⟩, hr, hlk, hK, hR1, hR2⟩ := id C
  have C : zCx Γ p R s m args meth c cX7_firstOf 4 RX7 (some .int) 4 99 := C
  refine lv_iload_n hx hb dX7_firstOf_8 rfl (lv_at hl 3 rfl) ?_
  refine lv_iload_n hx hb dX7_firstOf_9 rfl (lv_at hl 2 rfl) ?_
  refine lv_icmp_ge (tgt := 44) hx hb dX7_firstOf_10 (by decide) (fun c10 => ?_) (fun c10 => ?_)
  · have hf := z_t c10 hf
    obtain ⟨rfl, rfl⟩ := z_p hf
    exact kk _ _ _ ⟨ls, rfl, lv_sub hl [0] rfl⟩ hG
  · have hf := z_f c10 hf
    refine lv_aload_n hx hb dX7_firstOf_13 rfl (lv_at hl 0 rfl) ?_
    refine zm_ga C hG 0 (Nat.le_of_ble_eq_true rfl) (by decide) q1443 dX7_firstOf_14 ?_
    refine lv_sipush (v := zi 4990) hx hb dX7_firstOf_17 (by decide +kernel) ?_
    refine lv_iconst (v := zi 2) hx hb dX7_firstOf_20 rfl ?_
    refine lv_iload_n hx hb dX7_firstOf_21 rfl (lv_at hl 1 rfl) ?_
    refine lv_imul hx hb dX7_firstOf_22 ?_
    refine lv_iadd hx hb dX7_firstOf_23 ?_
    refine zm_al C hG 0 hf (Nat.le_of_ble_eq_true rfl) rfl dX7_firstOf_24 (fun v24 hf => ?_)
    refine lv_aload_n hx hb dX7_firstOf_25 rfl (lv_at hl 0 rfl) ?_
    refine lv_iload_n hx hb dX7_firstOf_26 rfl (lv_at hl 3 rfl) ?_
    refine zm_cvi (As := [.int s3]) (rest := [.int v24]) C hG hf (ctm_sentence Γ l s3) (lw_V q2063 q2052 q2053 q107 q2054) ytm_sentence rfl rfl (Nat.le_of_ble_eq_true rfl) (Nat.le_of_ble_eq_true rfl) hl.1 (Nat.le_of_ble_eq_true rfl) dX7_firstOf_27 (fun v27 S H locs hG hf => ?_)
    refine lv_iconst (v := zi (-1)) hx hb dX7_firstOf_30 rfl ?_
    refine lv_ixor hx hb dX7_firstOf_31 ?_
    refine lv_iand hx hb dX7_firstOf_32 ?_
    refine lv_if_ne (tgt := 38) hx hb dX7_firstOf_33 (by decide) (fun c33 => ?_) (fun c33 => ?_)
    · have hf := z_f c33 hf
      refine z_iinc (fun v => [(3, .int v), (0, .ref (G_m Γ 0)), (1, .int f1), (2, .int f2)]) hx hb hf dX7_firstOf_38 hl (k := 3) rfl (Nat.le_of_ble_eq_true rfl) (fun _ => rfl) (fun n38 ls hf hl => ?_)
      refine lv_goto (tgt := 8) hx hb dX7_firstOf_41 (by decide) ?_
      obtain ⟨rfl, rfl⟩ := z_p hf
      exact kk _ _ _ ⟨ls, rfl, lv_sub hl [1, 2, 3, 0] rfl⟩ hG
    · have hf := z_t c33 hf
      obtain ⟨rfl, rfl⟩ := z_p hf
      exact kk _ _ _ ⟨ls, rfl, lv_sub hl [0, 3] rfl⟩ hG
theorem wm_firstOf_l8 (Γ : zG) (l : Launch) (f1 : Int32) (f2 : Int32) : ∀ s : Int32, mRg Γ l yX7_firstOf cX7_firstOf 4 (some .int) 4 99 (m_firstOf_l8 f1 f2 s) (fun m => im_firstOf_l8 Γ f1 f2 m s) (zLE (im_firstOf_l8 Γ f1 f2) (em_firstOf_l8 Γ f1 f2)) := fun s => wm_firstOf_l8_b Γ l f1 f2 s
set_option maxHeartbeats 4000000 in
theorem wm_firstOf (Γ : zG) (l : Launch) (a1 : Int32) : mRg Γ l yX7_firstOf cX7_firstOf 4 (some .int) 4 99 (m_firstOf a1) (zAt0 4 0 (lv_args 0 [.ref (G_m Γ 0), .int a1]) []) (zLi cX7_firstOf) := by
  intro p e R s m args below meth c Q A S H locs x S' g C hG hI hf kk
  obtain ⟨ls, rfl, hl⟩ := hI
  obtain ⟨⟨hx, hb, hml, hown, hts⟩, hr, hlk, hK, hR1, hR2⟩ := id C
  have C : zCx Γ p R s m args meth c cX7_firstOf 4 RX7 (some .int) 4 99 := C
  have hl : lv_has ls 4 [(0, .ref (G_m Γ 0)), (1, .int a1)] := hl
  refine lv_aload_n hx hb dX7_firstOf_0 rfl (lv_at hl 0 rfl) ?_
  refine lv_iconst (v := zi (-1)) hx hb dX7_firstOf_1 rfl ?_
  refine zm_cvi (As := [.int (zi (-1))]) (rest := []) C hG hf (ctm_sentences Γ l (zi (-1))) (lw_V q2047 q2049 qs96 q107 q2050) ytm_sentences rfl rfl (Nat.le_of_ble_eq_true rfl) (Nat.le_of_ble_eq_true rfl) hl.1 (Nat.le_of_ble_eq_true rfl) dX7_firstOf_2 (fun v2 S H locs hG hf => ?_)
  refine lv_istore_n (lv' := [(2, .int v2), (0, .ref (G_m Γ 0)), (1, .int a1)]) hx hb dX7_firstOf_5 rfl hl (Nat.le_of_ble_eq_true rfl) rfl (fun ls hl => ?_)
  refine lv_iconst (v := zi 0) hx hb dX7_firstOf_6 rfl ?_
  refine lv_istore_n (lv' := [(3, .int (zi 0)), (2, .int v2), (0, .ref (G_m Γ 0)), (1, .int a1)]) hx hb dX7_firstOf_7 rfl hl (Nat.le_of_ble_eq_true rfl) rfl (fun ls hl => ?_)
  obtain ⟨e8, S, hlp, hf⟩ := nB_some hf
  refine mRg.loop (wm_firstOf_l8 Γ l a1 v2) (zi 0) p e R s m args below meth c Q A _ _ _ _ _ _ C hG ⟨ls, rfl, lv_sub hl [2, 3, 1, 0] rfl⟩ hlp (fun H locs g hL hG => ?_)
  rcases e8 with e8 | e8
  · have hf := z_dl hf
    obtain ⟨ls, rfl, hl⟩ := hL
    have hl : lv_has ls 4 [(0, .ref (G_m Γ 0)), (3, .int e8)] := hl
    refine lv_iload_n hx hb dX7_firstOf_36 rfl (lv_at hl 1 rfl) ?_
    obtain ⟨rfl, rfl⟩ := z_p hf
    exact kk _ _ _ ⟨_, _, rfl, dX7_firstOf_37⟩ hG
  · have hf := z_dr hf
    obtain ⟨ls, rfl, hl⟩ := hL
    have hl : lv_has ls 4 [(0, .ref (G_m Γ 0))] := hl
    refine lv_iconst (v := zi (-1)) hx hb dX7_firstOf_44 rfl ?_
    obtain ⟨rfl, rfl⟩ := z_p hf
    exact kk _ _ _ ⟨_, _, rfl, dX7_firstOf_45⟩ hG
theorem ctm_firstOf (Γ : zG) (l : Launch) (a1 : Int32) : mCt Γ l yX7_firstOf (ws_ yX7_firstOf cX7_firstOf 4 (some .int)) 4 99 [.ref (G_m Γ 0), .int a1] (m_firstOf a1) zoi := mCt.mki (by decide +kernel) (Nat.le_of_ble_eq_true rfl) (wm_firstOf Γ l a1)
theorem ytm_firstOf : yX7_firstOf.cls = RX7 ∧ yX7_firstOf.cls ≠ "java/lang/invoke/MethodHandle" ∧ yX7_firstOf.cls ≠ "java/lang/invoke/VarHandle" ∧ (parseMethodDescriptor yX7_firstOf.desc).map (fun d => d.parameters.length) = some 1 := by decide +kernel
set_option maxHeartbeats 4000000 in
theorem wm_holds (Γ : zG) (l : Launch) (a1 : Int32) : mRg Γ l yX7_holds cX7_holds 2 (some .int) 5 122 (m_holds a1) (zAt0 2 0 (lv_args 0 [.ref (G_m Γ 0), .int a1]) []) (zLi cX7_holds) := by
  intro p e R s m args below meth c Q A S H locs x S' g C hG hI hf kk
  obtain ⟨ls, rfl, hl⟩ := hI
  obtain ⟨⟨hx, hb, hml, hown, hts⟩, hr, hlk, hK, hR1, hR2⟩ := id C
  have C : zCx Γ p R s m args meth c cX7_holds 2 RX7 (some .int) 5 122 := C
  have hl : lv_has ls 2 [(0, .ref (G_m Γ 0)), (1, .int a1)] := hl
  refine lv_iload_n hx hb dX7_holds_0 rfl (lv_at hl 1 rfl) ?_
  refine lv_iconst (v := zi 0) hx hb dX7_holds_1 rfl ?_
  refine lv_aload_n hx hb dX7_holds_2 rfl (lv_at hl 0 rfl) ?_
  refine zm_ga C hG 0 (Nat.le_of_ble_eq_true rfl) (by decide) q1443 dX7_holds_3 ?_
  refine lv_sipush (v := zi 5007) hx hb dX7_holds_6 (by decide +kernel) ?_
  refine zm_al C hG 0 hf (Nat.le_of_ble_eq_true rfl) rfl dX7_holds_9 (fun v9 hf => ?_)
  refine lv_iconst (v := zi 1) hx hb dX7_holds_10 rfl ?_
  refine lv_isub hx hb dX7_holds_11 ?_
  refine zm_csi (As := [.int a1, .int (zi 0), .int (v9 - (zi 1))]) (rest := []) C hG hf (ctm_isIn Γ l a1 (zi 0) (v9 - (zi 1))) (lw_S q1612 q1613 q107 q1614) ytm_isIn rfl rfl (Nat.le_of_ble_eq_true rfl) (Nat.le_of_ble_eq_true rfl) hl.1 (Nat.le_of_ble_eq_true rfl) dX7_holds_12 (fun v12 S H locs hG hf => ?_)
  refine lv_if_eq (tgt := 26) hx hb dX7_holds_15 (by decide) (fun c15 => ?_) (fun c15 => ?_)
  · have hf := z_t c15 hf
    refine lv_iconst (v := zi (-1)) hx hb dX7_holds_26 rfl ?_
    obtain ⟨rfl, rfl⟩ := z_p hf
    exact kk _ _ _ ⟨_, _, rfl, dX7_holds_27⟩ hG
  · have hf := z_f c15 hf
    refine lv_aload_n hx hb dX7_holds_18 rfl (lv_at hl 0 rfl) ?_
    refine lv_iload_n hx hb dX7_holds_19 rfl (lv_at hl 1 rfl) ?_
    refine zm_cvi (As := [.int a1]) (rest := []) C hG hf (ctm_firstOf Γ l a1) (lw_V q2059 q2061 qs97 q107 q2062) ytm_firstOf rfl rfl (Nat.le_of_ble_eq_true rfl) (Nat.le_of_ble_eq_true rfl) hl.1 (Nat.le_of_ble_eq_true rfl) dX7_holds_20 (fun v20 S H locs hG hf => ?_)
    refine lv_goto (tgt := 27) hx hb dX7_holds_23 (by decide) ?_
    obtain ⟨rfl, rfl⟩ := z_p hf
    exact kk _ _ _ ⟨_, _, rfl, dX7_holds_27⟩ hG
theorem ctm_holds (Γ : zG) (l : Launch) (a1 : Int32) : mCt Γ l yX7_holds (ws_ yX7_holds cX7_holds 2 (some .int)) 5 122 [.ref (G_m Γ 0), .int a1] (m_holds a1) zoi := mCt.mki (by decide +kernel) (Nat.le_of_ble_eq_true rfl) (wm_holds Γ l a1)
theorem ytm_holds : yX7_holds.cls = RX7 ∧ yX7_holds.cls ≠ "java/lang/invoke/MethodHandle" ∧ yX7_holds.cls ≠ "java/lang/invoke/VarHandle" ∧ (parseMethodDescriptor yX7_holds.desc).map (fun d => d.parameters.length) = some 1 := by decide +kernel
def im_presses_l4 (Γ : zG) (m : MethodId) (s : Int32 × Int32) (g : JFrame) : Prop := zAt0 3 4 [(0, .ref (G_m Γ 0)), (1, .int s.1), (2, .int s.2)] [] m g
def em_presses_l4 (Γ : zG) (m : MethodId) (e : Int32) (g : JFrame) : Prop := zAt0 3 51 [(0, .ref (G_m Γ 0)), (1, .int e)] [] m g
set_option maxHeartbeats 4000000 in
theorem wm_presses_l4_j43 (Γ : zG) (l : Launch) (b2 : Int32) (t0 : Int32) (t1 : Int32) : mRg Γ l yX7_presses cX7_presses 3 (some .int) 5 122 (m_presses_l4_j43 b2 t0 t1) (zAt0 3 43 [(0, .ref (G_m Γ 0)), (2, .int b2)] [.int t0, .int t1]) (zLE (im_presses_l4 Γ) (em_presses_l4 Γ)) := by
  intro p e R s m args below meth c Q A S H locs x S' g C hG hI hf kk
  obtain ⟨ls, rfl, hl⟩ := hI
  obtain ⟨⟨hx, hb, hml, hown, hts⟩, hr, hlk, hK, hR1, hR2⟩ := id C
  have C : zCx Γ p R s m args meth c cX7_presses 3 RX7 (some .int) 5 122 := C
  refine lv_iadd hx hb dX7_presses_43 ?_
  refine z_top hf (fun n44 hf => ?_)
  refine lv_istore_n (lv' := [(1, .int n44), (0, .ref (G_m Γ 0)), (2, .int b2)]) hx hb dX7_presses_44 rfl hl (Nat.le_of_ble_eq_true rfl) rfl (fun ls hl => ?_)
  refine z_iinc (fun v => [(2, .int v), (1, .int n44), (0, .ref (G_m Γ 0))]) hx hb hf dX7_presses_45 hl (k := 2) rfl (Nat.le_of_ble_eq_true rfl) (fun _ => rfl) (fun n45 ls hf hl => ?_)
  refine lv_goto (tgt := 4) hx hb dX7_presses_48 (by decide) ?_
  obtain ⟨rfl, rfl⟩ := z_p hf
  exact kk _ _ _ ⟨ls, rfl, lv_sub hl [2, 1, 0] rfl⟩ hG
set_option maxHeartbeats 4000000 in
theorem wm_presses_l4_b (Γ : zG) (l : Launch) (s1 : Int32) (s2 : Int32) : mRg Γ l yX7_presses cX7_presses 3 (some .int) 5 122 (m_presses_l4 s1 s2) (zAt0 3 4 [(0, .ref (G_m Γ 0)), (1, .int s1), (2, .int s2)] []) (zLE (im_presses_l4 Γ) (em_presses_l4 Γ)) := by
  intro p e R s m args below meth c Q A S H locs x S' g C hG hI hf kk
  obtain ⟨ls, rfl, hl⟩ := hI
  obtain ⟨⟨hx, hb, hml, hown, hts⟩, hr, hlk, hK, hR1, hR2⟩ := id C
  have C : zCx Γ p R s m args meth c cX7_presses 3 RX7 (some .int) 5 122 := C
  refine lv_iload_n hx hb dX7_presses_4 rfl (lv_at hl 2 rfl) ?_
  refine lv_aload_n hx hb dX7_presses_5 rfl (lv_at hl 0 rfl) ?_
  refine zm_ga C hG 0 (Nat.le_of_ble_eq_true rfl) (by decide) q1443 dX7_presses_6 ?_
  refine lv_sipush (v := zi 5007) hx hb dX7_presses_9 (by decide +kernel) ?_
  refine zm_al C hG 0 hf (Nat.le_of_ble_eq_true rfl) rfl dX7_presses_12 (fun v12 hf => ?_)
  refine lv_icmp_ge (tgt := 51) hx hb dX7_presses_13 (by decide) (fun c13 => ?_) (fun c13 => ?_)
  · have hf := z_t c13 hf
    obtain ⟨rfl, rfl⟩ := z_p hf
    exact kk _ _ _ ⟨ls, rfl, lv_sub hl [0, 1] rfl⟩ hG
  · have hf := z_f c13 hf
    refine lv_iload_n hx hb dX7_presses_16 rfl (lv_at hl 1 rfl) ?_
    refine lv_aload_n hx hb dX7_presses_17 rfl (lv_at hl 0 rfl) ?_
    refine lv_iload_n hx hb dX7_presses_18 rfl (lv_at hl 2 rfl) ?_
    refine zm_cvi (As := [.int s2]) (rest := [.int s1]) C hG hf (ctm_firstOf Γ l s2) (lw_V q2059 q2061 qs97 q107 q2062) ytm_firstOf rfl rfl (Nat.le_of_ble_eq_true rfl) (Nat.le_of_ble_eq_true rfl) hl.1 (Nat.le_of_ble_eq_true rfl) dX7_presses_19 (fun v19 S H locs hG hf => ?_)
    refine lv_if_lt (tgt := 42) hx hb dX7_presses_22 (by decide) (fun c22 => ?_) (fun c22 => ?_)
    · have hf := z_t c22 hf
      refine lv_iconst (v := zi 0) hx hb dX7_presses_42 rfl ?_
      exact wm_presses_l4_j43 Γ l s2 (zi 0) s1 p e R s m args below meth c Q A _ _ _ _ _ _ C hG ⟨ls, rfl, lv_sub hl [0, 2] rfl⟩ hf kk
    · have hf := z_f c22 hf
      refine lv_aload_n hx hb dX7_presses_25 rfl (lv_at hl 0 rfl) ?_
      refine zm_ga C hG 0 (Nat.le_of_ble_eq_true rfl) (by decide) q1443 dX7_presses_26 ?_
      refine lv_sipush (v := zi 4990) hx hb dX7_presses_29 (by decide +kernel) ?_
      refine lv_iconst (v := zi 2) hx hb dX7_presses_32 rfl ?_
      refine lv_iload_n hx hb dX7_presses_33 rfl (lv_at hl 2 rfl) ?_
      refine lv_imul hx hb dX7_presses_34 ?_
      refine lv_iadd hx hb dX7_presses_35 ?_
      refine lv_iconst (v := zi 1) hx hb dX7_presses_36 rfl ?_
      refine lv_iadd hx hb dX7_presses_37 ?_
      refine zm_al C hG 0 hf (Nat.le_of_ble_eq_true rfl) rfl dX7_presses_38 (fun v38 hf => ?_)
      refine lv_goto (tgt := 43) hx hb dX7_presses_39 (by decide) ?_
      exact wm_presses_l4_j43 Γ l s2 v38 s1 p e R s m args below meth c Q A _ _ _ _ _ _ C hG ⟨ls, rfl, lv_sub hl [0, 2] rfl⟩ hf kk
theorem wm_presses_l4 (Γ : zG) (l : Launch) : ∀ s : Int32 × Int32, mRg Γ l yX7_presses cX7_presses 3 (some .int) 5 122 (m_presses_l4 s.1 s.2) (fun m => im_presses_l4 Γ m s) (zLE (im_presses_l4 Γ) (em_presses_l4 Γ)) := fun s => wm_presses_l4_b Γ l s.1 s.2
set_option maxHeartbeats 4000000 in
theorem wm_presses (Γ : zG) (l : Launch) : mRg Γ l yX7_presses cX7_presses 3 (some .int) 5 122 (m_presses) (zAt0 3 0 (lv_args 0 [.ref (G_m Γ 0)]) []) (zLi cX7_presses) := by
  intro p e R s m args below meth c Q A S H locs x S' g C hG hI hf kk
  obtain ⟨ls, rfl, hl⟩ := hI
  obtain ⟨⟨hx, hb, hml, hown, hts⟩, hr, hlk, hK, hR1, hR2⟩ := id C
  have C : zCx Γ p R s m args meth c cX7_presses 3 RX7 (some .int) 5 122 := C
  have hl : lv_has ls 3 [(0, .ref (G_m Γ 0))] := hl
  refine lv_iconst (v := zi 0) hx hb dX7_presses_0 rfl ?_
  refine lv_istore_n (lv' := [(1, .int (zi 0)), (0, .ref (G_m Γ 0))]) hx hb dX7_presses_1 rfl hl (Nat.le_of_ble_eq_true rfl) rfl (fun ls hl => ?_)
  refine lv_iconst (v := zi 0) hx hb dX7_presses_2 rfl ?_
  refine lv_istore_n (lv' := [(2, .int (zi 0)), (1, .int (zi 0)), (0, .ref (G_m Γ 0))]) hx hb dX7_presses_3 rfl hl (Nat.le_of_ble_eq_true rfl) rfl (fun ls hl => ?_)
  obtain ⟨e4, S, hlp, hf⟩ := nB_some hf
  refine mRg.loop (wm_presses_l4 Γ l) ((zi 0), (zi 0)) p e R s m args below meth c Q A _ _ _ _ _ _ C hG ⟨ls, rfl, lv_sub hl [2, 1, 0] rfl⟩ hlp (fun H locs g hL hG => ?_)
  obtain ⟨ls, rfl, hl⟩ := hL
  have hl : lv_has ls 3 [(0, .ref (G_m Γ 0)), (1, .int e4)] := hl
  refine lv_iload_n hx hb dX7_presses_51 rfl (lv_at hl 1 rfl) ?_
  obtain ⟨rfl, rfl⟩ := z_p hf
  exact kk _ _ _ ⟨_, _, rfl, dX7_presses_52⟩ hG
theorem ctm_presses (Γ : zG) (l : Launch) : mCt Γ l yX7_presses (ws_ yX7_presses cX7_presses 3 (some .int)) 5 122 [.ref (G_m Γ 0)] (m_presses) zoi := mCt.mki (by decide +kernel) (Nat.le_of_ble_eq_true rfl) (wm_presses Γ l)
theorem ytm_presses : yX7_presses.cls = RX7 ∧ yX7_presses.cls ≠ "java/lang/invoke/MethodHandle" ∧ yX7_presses.cls ≠ "java/lang/invoke/VarHandle" ∧ (parseMethodDescriptor yX7_presses.desc).map (fun d => d.parameters.length) = some 0 := by decide +kernel
set_option maxHeartbeats 4000000 in
theorem wm_picture_j63 (Γ : zG) (l : Launch) (b3 : Int32) (t0 : Int32) : mRg Γ l yX7_picture cX7_picture 4 (some .boolean) 2 43 (m_picture_j63 b3 t0) (zAt0 4 63 [(0, .ref (G_m Γ 0)), (3, .int b3)] [.int t0, .ref (G_m Γ (0 + 1))]) (zLz cX7_picture) := by
  intro p e R s m args below meth c Q A S H locs x S' g C hG hI hf kk
  obtain ⟨ls, rfl, hl⟩ := hI
  obtain ⟨⟨hx, hb, hml, hown, hts⟩, hr, hlk, hK, hR1, hR2⟩ := id C
  have C : zCx Γ p R s m args meth c cX7_picture 4 RX7 (some .boolean) 2 43 := C
  refine lv_iload_n hx hb dX7_picture_63 rfl (lv_at hl 1 rfl) ?_
  refine zm_as C hG 0 hf (Nat.le_of_ble_eq_true rfl) rfl dX7_picture_64 (fun S H locs hG hf => ?_)
  refine lv_iconst (v := zi 1) hx hb dX7_picture_65 rfl ?_
  obtain ⟨rfl, rfl⟩ := z_p hf
  exact kk _ _ _ ⟨_, _, rfl, dX7_picture_66, Or.inr rfl⟩ hG
set_option maxHeartbeats 4000000 in
theorem wm_picture_j23 (Γ : zG) (l : Launch) (b1 : Int32) (b2 : Int32) (b3 : Int32) : mRg Γ l yX7_picture cX7_picture 4 (some .boolean) 2 43 (m_picture_j23 b1 b2 b3) (zAt0 4 23 [(0, .ref (G_m Γ 0)), (1, .int b1), (2, .int b2), (3, .int b3)] []) (zLz cX7_picture) := by
  intro p e R s m args below meth c Q A S H locs x S' g C hG hI hf kk
  obtain ⟨ls, rfl, hl⟩ := hI
  obtain ⟨⟨hx, hb, hml, hown, hts⟩, hr, hlk, hK, hR1, hR2⟩ := id C
  have C : zCx Γ p R s m args meth c cX7_picture 4 RX7 (some .boolean) 2 43 := C
  refine lv_iload_n hx hb dX7_picture_23 rfl (lv_at hl 3 rfl) ?_
  refine lv_iconst (v := zi 0) hx hb dX7_picture_24 rfl ?_
  refine lv_ldcw (v := (33554431 : Int32)) hx hb hown (hts _ q2072) dX7_picture_25 ?_
  refine zm_csi (As := [.int b3, .int (zi 0), .int (33554431 : Int32)]) (rest := []) C hG hf (ctm_isIn Γ l b3 (zi 0) (33554431 : Int32)) (lw_S q1612 q1613 q107 q1614) ytm_isIn rfl rfl (Nat.le_of_ble_eq_true rfl) (Nat.le_of_ble_eq_true rfl) hl.1 (Nat.le_of_ble_eq_true rfl) dX7_picture_28 (fun v28 S H locs hG hf => ?_)
  refine lv_if_ne (tgt := 36) hx hb dX7_picture_31 (by decide) (fun c31 => ?_) (fun c31 => ?_)
  · have hf := z_f c31 hf
    refine lv_aload_n hx hb dX7_picture_36 rfl (lv_at hl 0 rfl) ?_
    refine zm_ga C hG 0 (Nat.le_of_ble_eq_true rfl) (by decide) q1443 dX7_picture_37 ?_
    refine lv_iload_n hx hb dX7_picture_40 rfl (lv_at hl 1 rfl) ?_
    refine lv_if_eq (tgt := 55) hx hb dX7_picture_41 (by decide) (fun c41 => ?_) (fun c41 => ?_)
    · have hf := z_t c41 hf
      refine lv_iload_n hx hb dX7_picture_55 rfl (lv_at hl 2 rfl) ?_
      refine zm_csi (As := [.int b2]) (rest := [.ref (G_m Γ (0 + 1))]) C hG hf (ctm_houseAt Γ l b2) (lw_S q1615 q1616 q107 q1617) ytm_houseAt rfl rfl (Nat.le_of_ble_eq_true rfl) (Nat.le_of_ble_eq_true rfl) hl.1 (Nat.le_of_ble_eq_true rfl) dX7_picture_56 (fun v56 S H locs hG hf => ?_)
      refine lv_sipush (v := zi 159) hx hb dX7_picture_59 (by decide +kernel) ?_
      refine lv_iadd hx hb dX7_picture_62 ?_
      exact wm_picture_j63 Γ l b3 (v56 + (zi 159)) p e R s m args below meth c Q A _ _ _ _ _ _ C hG ⟨ls, rfl, lv_sub hl [0, 3] rfl⟩ hf kk
    · have hf := z_f c41 hf
      refine lv_iload_n hx hb dX7_picture_44 rfl (lv_at hl 2 rfl) ?_
      refine zm_csi (As := [.int b2]) (rest := [.ref (G_m Γ (0 + 1))]) C hG hf (ctm_pageAt Γ l b2) (lw_S q1683 q1684 q107 q1685) ytm_pageAt rfl rfl (Nat.le_of_ble_eq_true rfl) (Nat.le_of_ble_eq_true rfl) hl.1 (Nat.le_of_ble_eq_true rfl) dX7_picture_45 (fun v45 S H locs hG hf => ?_)
      refine lv_sipush (v := zi 202) hx hb dX7_picture_48 (by decide +kernel) ?_
      refine lv_iadd hx hb dX7_picture_51 ?_
      refine lv_goto (tgt := 63) hx hb dX7_picture_52 (by decide) ?_
      exact wm_picture_j63 Γ l b3 (v45 + (zi 202)) p e R s m args below meth c Q A _ _ _ _ _ _ C hG ⟨ls, rfl, lv_sub hl [0, 3] rfl⟩ hf kk
  · have hf := z_t c31 hf
    refine lv_iconst (v := zi 0) hx hb dX7_picture_34 rfl ?_
    obtain ⟨rfl, rfl⟩ := z_p hf
    exact kk _ _ _ ⟨_, _, rfl, dX7_picture_35, Or.inl rfl⟩ hG
set_option maxHeartbeats 4000000 in
theorem wm_picture (Γ : zG) (l : Launch) (a1 : Int32) (a2 : Int32) (a3 : Int32) : mRg Γ l yX7_picture cX7_picture 4 (some .boolean) 2 43 (m_picture a1 a2 a3) (zAt0 4 0 (lv_args 0 [.ref (G_m Γ 0), .int a1, .int a2, .int a3]) []) (zLz cX7_picture) := by
  intro p e R s m args below meth c Q A S H locs x S' g C hG hI hf kk
  obtain ⟨ls, rfl, hl⟩ := hI
  obtain ⟨⟨hx, hb, hml, hown, hts⟩, hr, hlk, hK, hR1, hR2⟩ := id C
  have C : zCx Γ p R s m args meth c cX7_picture 4 RX7 (some .boolean) 2 43 := C
  have hl : lv_has ls 4 [(0, .ref (G_m Γ 0)), (1, .int a1), (2, .int a2), (3, .int a3)] := hl
  refine lv_iload_n hx hb dX7_picture_0 rfl (lv_at hl 1 rfl) ?_
  refine lv_if_eq (tgt := 15) hx hb dX7_picture_1 (by decide) (fun c1 => ?_) (fun c1 => ?_)
  · have hf := z_t c1 hf
    refine lv_aload_n hx hb dX7_picture_15 rfl (lv_at hl 0 rfl) ?_
    refine lv_iload_n hx hb dX7_picture_16 rfl (lv_at hl 2 rfl) ?_
    refine zm_cvi (As := [.int a2]) (rest := []) C hG hf (ctm_isHouse Γ l a2) (lw_V q1608 q1610 qs42 q107 q1611) ytm_isHouse rfl rfl (Nat.le_of_ble_eq_true rfl) (Nat.le_of_ble_eq_true rfl) hl.1 (Nat.le_of_ble_eq_true rfl) dX7_picture_17 (fun v17 S H locs hG hf => ?_)
    refine lv_if_eq (tgt := 34) hx hb dX7_picture_20 (by decide) (fun c20 => ?_) (fun c20 => ?_)
    · have hf := z_t c20 hf
      refine lv_iconst (v := zi 0) hx hb dX7_picture_34 rfl ?_
      obtain ⟨rfl, rfl⟩ := z_p hf
      exact kk _ _ _ ⟨_, _, rfl, dX7_picture_35, Or.inl rfl⟩ hG
    · have hf := z_f c20 hf
      exact wm_picture_j23 Γ l a1 a2 a3 p e R s m args below meth c Q A _ _ _ _ _ _ C hG ⟨ls, rfl, lv_sub hl [0, 1, 2, 3] rfl⟩ hf kk
  · have hf := z_f c1 hf
    refine lv_aload_n hx hb dX7_picture_4 rfl (lv_at hl 0 rfl) ?_
    refine lv_iload_n hx hb dX7_picture_5 rfl (lv_at hl 2 rfl) ?_
    refine zm_cvi (As := [.int a2]) (rest := []) C hG hf (ctm_isPage Γ l a2) (lw_V q1701 q1703 qs54 q107 q1704) ytm_isPage rfl rfl (Nat.le_of_ble_eq_true rfl) (Nat.le_of_ble_eq_true rfl) hl.1 (Nat.le_of_ble_eq_true rfl) dX7_picture_6 (fun v6 S H locs hG hf => ?_)
    refine lv_if_ne (tgt := 23) hx hb dX7_picture_9 (by decide) (fun c9 => ?_) (fun c9 => ?_)
    · have hf := z_f c9 hf
      exact wm_picture_j23 Γ l a1 a2 a3 p e R s m args below meth c Q A _ _ _ _ _ _ C hG ⟨ls, rfl, lv_sub hl [0, 1, 2, 3] rfl⟩ hf kk
    · have hf := z_t c9 hf
      refine lv_goto (tgt := 34) hx hb dX7_picture_12 (by decide) ?_
      refine lv_iconst (v := zi 0) hx hb dX7_picture_34 rfl ?_
      obtain ⟨rfl, rfl⟩ := z_p hf
      exact kk _ _ _ ⟨_, _, rfl, dX7_picture_35, Or.inl rfl⟩ hG
theorem ctm_picture (Γ : zG) (l : Launch) (a1 : Int32) (a2 : Int32) (a3 : Int32) : mCt Γ l yX7_picture (ws_ yX7_picture cX7_picture 4 (some .boolean)) 2 43 [.ref (G_m Γ 0), .int a1, .int a2, .int a3] (m_picture a1 a2 a3) zoi := mCt.mkz (by decide +kernel) (Nat.le_of_ble_eq_true rfl) (wm_picture Γ l a1 a2 a3)
theorem ytm_picture : yX7_picture.cls = RX7 ∧ yX7_picture.cls ≠ "java/lang/invoke/MethodHandle" ∧ yX7_picture.cls ≠ "java/lang/invoke/VarHandle" ∧ (parseMethodDescriptor yX7_picture.desc).map (fun d => d.parameters.length) = some 3 := by decide +kernel
def im_moved_l5 (Γ : zG) (f0 : Int32) (f1 : Int32) (f2 : Int32) (m : MethodId) (s : Int32 × Int32) (g : JFrame) : Prop := zAt0 7 5 [(0, .int f0), (1, .int f1), (2, .int f2), (3, .int s.1), (4, .int s.2)] [] m g
def em_moved_l5 (Γ : zG) (f0 : Int32) (f1 : Int32) (f2 : Int32) (m : MethodId) (e : Int32) (g : JFrame) : Prop := zAt0 7 76 [(3, .int e)] [] m g
set_option maxHeartbeats 4000000 in
theorem wm_moved_l5_b (Γ : zG) (l : Launch) (f0 : Int32) (f1 : Int32) (f2 : Int32) (s3 : Int32) (s4 : Int32) : mRg Γ l yX7_moved cX7_moved 7 (some .int) 1 22 (m_moved_l5 f0 f1 f2 s3 s4) (zAt0 7 5 [(0, .int f0), (1, .int f1), (2, .int f2), (3, .int s3), (4, .int s4)] []) (zLE (im_moved_l5 Γ f0 f1 f2) (em_moved_l5 Γ f0 f1 f2)) := by
  intro p e R s m args below meth c Q A S H locs x S' g C hG hI hf kk
  obtain ⟨ls, rfl, hl⟩ := hI
  obtain ⟨⟨hx, hb, hml, hown, hts⟩, hr, hlk, hK, hR1, hR2⟩ := id C
  have C : zCx Γ p R s m args meth c cX7_moved 7 RX7 (some .int) 1 22 := C
  refine lv_iload hx hb dX7_moved_5 (lv_at hl 4 rfl) ?_
  refine lv_bipush (v := zi 25) hx hb dX7_moved_7 (by decide +kernel) ?_
  refine lv_icmp_ge (tgt := 76) hx hb dX7_moved_9 (by decide) (fun c9 => ?_) (fun c9 => ?_)
  · have hf := z_t c9 hf
    obtain ⟨rfl, rfl⟩ := z_p hf
    exact kk _ _ _ ⟨ls, rfl, lv_sub hl [3] rfl⟩ hG
  · have hf := z_f c9 hf
    refine lv_iload hx hb dX7_moved_12 (lv_at hl 4 rfl) ?_
    refine lv_iconst (v := zi 5) hx hb dX7_moved_14 rfl ?_
    refine lv_idiv hx hb dX7_moved_15 (by decide +kernel) ?_
    refine lv_iload_n hx hb dX7_moved_16 rfl (lv_at hl 1 rfl) ?_
    refine lv_iadd hx hb dX7_moved_17 ?_
    refine z_top hf (fun n18 hf => ?_)
    refine lv_istore (lv' := [(5, .int n18), (0, .int f0), (1, .int f1), (2, .int f2), (3, .int s3), (4, .int s4)]) hx hb dX7_moved_18 hl (Nat.le_of_ble_eq_true rfl) rfl (fun ls hl => ?_)
    refine lv_iload hx hb dX7_moved_20 (lv_at hl 5 rfl) ?_
    refine lv_iconst (v := zi 5) hx hb dX7_moved_22 rfl ?_
    refine lv_irem hx hb dX7_moved_23 (by decide +kernel) ?_
    refine lv_iload_n hx hb dX7_moved_24 rfl (lv_at hl 3 rfl) ?_
    refine lv_iadd hx hb dX7_moved_25 ?_
    refine z_top hf (fun n26 hf => ?_)
    refine lv_istore (lv' := [(6, .int n26), (5, .int n18), (0, .int f0), (1, .int f1), (2, .int f2), (3, .int s3), (4, .int s4)]) hx hb dX7_moved_26 hl (Nat.le_of_ble_eq_true rfl) rfl (fun ls hl => ?_)
    refine lv_iload_n hx hb dX7_moved_28 rfl (lv_at hl 2 rfl) ?_
    refine lv_iload hx hb dX7_moved_29 (lv_at hl 6 rfl) ?_
    refine lv_ishr hx hb dX7_moved_31 ?_
    refine lv_iconst (v := zi 1) hx hb dX7_moved_32 rfl ?_
    refine lv_iand hx hb dX7_moved_33 ?_
    refine lv_iconst (v := zi 1) hx hb dX7_moved_34 rfl ?_
    refine lv_icmp_ne (tgt := 70) hx hb dX7_moved_35 (by decide) (fun c35 => ?_) (fun c35 => ?_)
    · have hf := z_f c35 hf
      refine z_iinc (fun v => [(4, .int v), (6, .int n26), (5, .int n18), (0, .int f0), (1, .int f1), (2, .int f2), (3, .int s3)]) hx hb hf dX7_moved_70 hl (k := 6) rfl (Nat.le_of_ble_eq_true rfl) (fun _ => rfl) (fun n70 ls hf hl => ?_)
      refine lv_goto (tgt := 5) hx hb dX7_moved_73 (by decide) ?_
      obtain ⟨rfl, rfl⟩ := z_p hf
      exact kk _ _ _ ⟨ls, rfl, lv_sub hl [3, 4, 5, 6, 0] rfl⟩ hG
    · have hf := z_t c35 hf
      refine lv_iload hx hb dX7_moved_38 (lv_at hl 1 rfl) ?_
      refine lv_iconst (v := zi 0) hx hb dX7_moved_40 rfl ?_
      refine lv_iconst (v := zi 4) hx hb dX7_moved_41 rfl ?_
      refine zm_csi (As := [.int n18, .int (zi 0), .int (zi 4)]) (rest := []) C hG hf (ctm_isIn Γ l n18 (zi 0) (zi 4)) (lw_S q1612 q1613 q107 q1614) ytm_isIn rfl rfl (Nat.le_of_ble_eq_true rfl) (Nat.le_of_ble_eq_true rfl) hl.1 (Nat.le_of_ble_eq_true rfl) dX7_moved_42 (fun v42 S H locs hG hf => ?_)
      refine lv_if_eq (tgt := 70) hx hb dX7_moved_45 (by decide) (fun c45 => ?_) (fun c45 => ?_)
      · have hf := z_t c45 hf
        refine z_iinc (fun v => [(4, .int v), (6, .int n26), (5, .int n18), (0, .int f0), (1, .int f1), (2, .int f2), (3, .int s3)]) hx hb hf dX7_moved_70 hl (k := 6) rfl (Nat.le_of_ble_eq_true rfl) (fun _ => rfl) (fun n70 ls hf hl => ?_)
        refine lv_goto (tgt := 5) hx hb dX7_moved_73 (by decide) ?_
        obtain ⟨rfl, rfl⟩ := z_p hf
        exact kk _ _ _ ⟨ls, rfl, lv_sub hl [3, 4, 5, 6, 0] rfl⟩ hG
      · have hf := z_f c45 hf
        refine lv_iload hx hb dX7_moved_48 (lv_at hl 0 rfl) ?_
        refine lv_iconst (v := zi 0) hx hb dX7_moved_50 rfl ?_
        refine lv_iconst (v := zi 4) hx hb dX7_moved_51 rfl ?_
        refine zm_csi (As := [.int n26, .int (zi 0), .int (zi 4)]) (rest := []) C hG hf (ctm_isIn Γ l n26 (zi 0) (zi 4)) (lw_S q1612 q1613 q107 q1614) ytm_isIn rfl rfl (Nat.le_of_ble_eq_true rfl) (Nat.le_of_ble_eq_true rfl) hl.1 (Nat.le_of_ble_eq_true rfl) dX7_moved_52 (fun v52 S H locs hG hf => ?_)
        refine lv_if_eq (tgt := 70) hx hb dX7_moved_55 (by decide) (fun c55 => ?_) (fun c55 => ?_)
        · have hf := z_t c55 hf
          refine z_iinc (fun v => [(4, .int v), (6, .int n26), (5, .int n18), (0, .int f0), (1, .int f1), (2, .int f2), (3, .int s3)]) hx hb hf dX7_moved_70 hl (k := 6) rfl (Nat.le_of_ble_eq_true rfl) (fun _ => rfl) (fun n70 ls hf hl => ?_)
          refine lv_goto (tgt := 5) hx hb dX7_moved_73 (by decide) ?_
          obtain ⟨rfl, rfl⟩ := z_p hf
          exact kk _ _ _ ⟨ls, rfl, lv_sub hl [3, 4, 5, 6, 0] rfl⟩ hG
        · have hf := z_f c55 hf
          refine lv_iload_n hx hb dX7_moved_58 rfl (lv_at hl 5 rfl) ?_
          refine lv_iconst (v := zi 1) hx hb dX7_moved_59 rfl ?_
          refine lv_iconst (v := zi 5) hx hb dX7_moved_60 rfl ?_
          refine lv_iload hx hb dX7_moved_61 (lv_at hl 1 rfl) ?_
          refine lv_imul hx hb dX7_moved_63 ?_
          refine lv_iload hx hb dX7_moved_64 (lv_at hl 0 rfl) ?_
          refine lv_iadd hx hb dX7_moved_66 ?_
          refine lv_ishl hx hb dX7_moved_67 ?_
          refine lv_ior hx hb dX7_moved_68 ?_
          refine z_top hf (fun n69 hf => ?_)
          refine lv_istore_n (lv' := [(3, .int n69), (6, .int n26), (5, .int n18), (0, .int f0), (1, .int f1), (2, .int f2), (4, .int s4)]) hx hb dX7_moved_69 rfl hl (Nat.le_of_ble_eq_true rfl) rfl (fun ls hl => ?_)
          refine z_iinc (fun v => [(4, .int v), (3, .int n69), (6, .int n26), (5, .int n18), (0, .int f0), (1, .int f1), (2, .int f2)]) hx hb hf dX7_moved_70 hl (k := 6) rfl (Nat.le_of_ble_eq_true rfl) (fun _ => rfl) (fun n70 ls hf hl => ?_)
          refine lv_goto (tgt := 5) hx hb dX7_moved_73 (by decide) ?_
          obtain ⟨rfl, rfl⟩ := z_p hf
          exact kk _ _ _ ⟨ls, rfl, lv_sub hl [4, 5, 6, 1, 0] rfl⟩ hG
theorem wm_moved_l5 (Γ : zG) (l : Launch) (f0 : Int32) (f1 : Int32) (f2 : Int32) : ∀ s : Int32 × Int32, mRg Γ l yX7_moved cX7_moved 7 (some .int) 1 22 (m_moved_l5 f0 f1 f2 s.1 s.2) (fun m => im_moved_l5 Γ f0 f1 f2 m s) (zLE (im_moved_l5 Γ f0 f1 f2) (em_moved_l5 Γ f0 f1 f2)) := fun s => wm_moved_l5_b Γ l f0 f1 f2 s.1 s.2
set_option maxHeartbeats 4000000 in
theorem wm_moved (Γ : zG) (l : Launch) (a0 : Int32) (a1 : Int32) (a2 : Int32) : mRg Γ l yX7_moved cX7_moved 7 (some .int) 1 22 (m_moved a0 a1 a2) (zAt0 7 0 (lv_args 0 [.int a0, .int a1, .int a2]) []) (zLi cX7_moved) := by
  intro p e R s m args below meth c Q A S H locs x S' g C hG hI hf kk
  obtain ⟨ls, rfl, hl⟩ := hI
  obtain ⟨⟨hx, hb, hml, hown, hts⟩, hr, hlk, hK, hR1, hR2⟩ := id C
  have C : zCx Γ p R s m args meth c cX7_moved 7 RX7 (some .int) 1 22 := C
  have hl : lv_has ls 7 [(0, .int a0), (1, .int a1), (2, .int a2)] := hl
  refine lv_iconst (v := zi 0) hx hb dX7_moved_0 rfl ?_
  refine lv_istore_n (lv' := [(3, .int (zi 0)), (0, .int a0), (1, .int a1), (2, .int a2)]) hx hb dX7_moved_1 rfl hl (Nat.le_of_ble_eq_true rfl) rfl (fun ls hl => ?_)
  refine lv_iconst (v := zi 0) hx hb dX7_moved_2 rfl ?_
  refine lv_istore (lv' := [(4, .int (zi 0)), (3, .int (zi 0)), (0, .int a0), (1, .int a1), (2, .int a2)]) hx hb dX7_moved_3 hl (Nat.le_of_ble_eq_true rfl) rfl (fun ls hl => ?_)
  obtain ⟨e5, S, hlp, hf⟩ := nB_some hf
  refine mRg.loop (wm_moved_l5 Γ l a0 a1 a2) ((zi 0), (zi 0)) p e R s m args below meth c Q A _ _ _ _ _ _ C hG ⟨ls, rfl, lv_sub hl [2, 3, 4, 1, 0] rfl⟩ hlp (fun H locs g hL hG => ?_)
  obtain ⟨ls, rfl, hl⟩ := hL
  have hl : lv_has ls 7 [(3, .int e5)] := hl
  refine lv_iload_n hx hb dX7_moved_76 rfl (lv_at hl 0 rfl) ?_
  obtain ⟨rfl, rfl⟩ := z_p hf
  exact kk _ _ _ ⟨_, _, rfl, dX7_moved_77⟩ hG
theorem ctm_moved (Γ : zG) (l : Launch) (a0 : Int32) (a1 : Int32) (a2 : Int32) : mCt Γ l yX7_moved (ws_ yX7_moved cX7_moved 7 (some .int)) 1 22 [.int a0, .int a1, .int a2] (m_moved a0 a1 a2) zoi := mCt.mki (by decide +kernel) (Nat.le_of_ble_eq_true rfl) (wm_moved Γ l a0 a1 a2)
theorem ytm_moved : yX7_moved.cls = RX7 ∧ yX7_moved.cls ≠ "java/lang/invoke/MethodHandle" ∧ yX7_moved.cls ≠ "java/lang/invoke/VarHandle" ∧ (parseMethodDescriptor yX7_moved.desc).map (fun d => d.parameters.length) = some 3 := by decide +kernel
def im_quarter_l4 (Γ : zG) (f0 : Int32) (m : MethodId) (s : Int32 × Int32) (g : JFrame) : Prop := zAt0 3 4 [(0, .int f0), (1, .int s.1), (2, .int s.2)] [] m g
def em_quarter_l4 (Γ : zG) (f0 : Int32) (m : MethodId) (e : Int32) (g : JFrame) : Prop := zAt0 3 45 [(1, .int e)] [] m g
set_option maxHeartbeats 4000000 in
theorem wm_quarter_l4_j37 (Γ : zG) (l : Launch) (b0 : Int32) (b2 : Int32) (t0 : Int32) (t1 : Int32) : mRg Γ l yX7_quarter cX7_quarter 3 (some .int) 0 0 (m_quarter_l4_j37 b0 b2 t0 t1) (zAt0 3 37 [(0, .int b0), (2, .int b2)] [.int t0, .int t1]) (zLE (im_quarter_l4 Γ b0) (em_quarter_l4 Γ b0)) := by
  intro p e R s m args below meth c Q A S H locs x S' g C hG hI hf kk
  obtain ⟨ls, rfl, hl⟩ := hI
  obtain ⟨⟨hx, hb, hml, hown, hts⟩, hr, hlk, hK, hR1, hR2⟩ := id C
  have C : zCx Γ p R s m args meth c cX7_quarter 3 RX7 (some .int) 0 0 := C
  refine lv_ior hx hb dX7_quarter_37 ?_
  refine z_top hf (fun n38 hf => ?_)
  refine lv_istore_n (lv' := [(1, .int n38), (0, .int b0), (2, .int b2)]) hx hb dX7_quarter_38 rfl hl (Nat.le_of_ble_eq_true rfl) rfl (fun ls hl => ?_)
  refine z_iinc (fun v => [(2, .int v), (1, .int n38), (0, .int b0)]) hx hb hf dX7_quarter_39 hl (k := 2) rfl (Nat.le_of_ble_eq_true rfl) (fun _ => rfl) (fun n39 ls hf hl => ?_)
  refine lv_goto (tgt := 4) hx hb dX7_quarter_42 (by decide) ?_
  obtain ⟨rfl, rfl⟩ := z_p hf
  exact kk _ _ _ ⟨ls, rfl, lv_sub hl [2, 1, 0] rfl⟩ hG
set_option maxHeartbeats 4000000 in
theorem wm_quarter_l4_b (Γ : zG) (l : Launch) (f0 : Int32) (s1 : Int32) (s2 : Int32) : mRg Γ l yX7_quarter cX7_quarter 3 (some .int) 0 0 (m_quarter_l4 f0 s1 s2) (zAt0 3 4 [(0, .int f0), (1, .int s1), (2, .int s2)] []) (zLE (im_quarter_l4 Γ f0) (em_quarter_l4 Γ f0)) := by
  intro p e R s m args below meth c Q A S H locs x S' g C hG hI hf kk
  obtain ⟨ls, rfl, hl⟩ := hI
  obtain ⟨⟨hx, hb, hml, hown, hts⟩, hr, hlk, hK, hR1, hR2⟩ := id C
  have C : zCx Γ p R s m args meth c cX7_quarter 3 RX7 (some .int) 0 0 := C
  refine lv_iload_n hx hb dX7_quarter_4 rfl (lv_at hl 2 rfl) ?_
  refine lv_bipush (v := zi 25) hx hb dX7_quarter_5 (by decide +kernel) ?_
  refine lv_icmp_ge (tgt := 45) hx hb dX7_quarter_7 (by decide) (fun c7 => ?_) (fun c7 => ?_)
  · have hf := z_t c7 hf
    obtain ⟨rfl, rfl⟩ := z_p hf
    exact kk _ _ _ ⟨ls, rfl, lv_sub hl [1] rfl⟩ hG
  · have hf := z_f c7 hf
    refine lv_iload_n hx hb dX7_quarter_10 rfl (lv_at hl 1 rfl) ?_
    refine lv_iload_n hx hb dX7_quarter_11 rfl (lv_at hl 0 rfl) ?_
    refine lv_iload_n hx hb dX7_quarter_12 rfl (lv_at hl 2 rfl) ?_
    refine lv_ishr hx hb dX7_quarter_13 ?_
    refine lv_iconst (v := zi 1) hx hb dX7_quarter_14 rfl ?_
    refine lv_iand hx hb dX7_quarter_15 ?_
    refine lv_iconst (v := zi 1) hx hb dX7_quarter_16 rfl ?_
    refine lv_icmp_ne (tgt := 36) hx hb dX7_quarter_17 (by decide) (fun c17 => ?_) (fun c17 => ?_)
    · have hf := z_f c17 hf
      refine lv_iconst (v := zi 0) hx hb dX7_quarter_36 rfl ?_
      exact wm_quarter_l4_j37 Γ l f0 s2 (zi 0) s1 p e R s m args below meth c Q A _ _ _ _ _ _ C hG ⟨ls, rfl, lv_sub hl [0, 2] rfl⟩ hf kk
    · have hf := z_t c17 hf
      refine lv_iconst (v := zi 1) hx hb dX7_quarter_20 rfl ?_
      refine lv_iconst (v := zi 5) hx hb dX7_quarter_21 rfl ?_
      refine lv_iload_n hx hb dX7_quarter_22 rfl (lv_at hl 2 rfl) ?_
      refine lv_iconst (v := zi 5) hx hb dX7_quarter_23 rfl ?_
      refine lv_irem hx hb dX7_quarter_24 (by decide +kernel) ?_
      refine lv_imul hx hb dX7_quarter_25 ?_
      refine lv_iconst (v := zi 4) hx hb dX7_quarter_26 rfl ?_
      refine lv_iadd hx hb dX7_quarter_27 ?_
      refine lv_iload_n hx hb dX7_quarter_28 rfl (lv_at hl 2 rfl) ?_
      refine lv_iconst (v := zi 5) hx hb dX7_quarter_29 rfl ?_
      refine lv_idiv hx hb dX7_quarter_30 (by decide +kernel) ?_
      refine lv_isub hx hb dX7_quarter_31 ?_
      refine lv_ishl hx hb dX7_quarter_32 ?_
      refine lv_goto (tgt := 37) hx hb dX7_quarter_33 (by decide) ?_
      exact wm_quarter_l4_j37 Γ l f0 s2 ((zi 1) <<< (((((zi 5) * (s2 - s2 / (zi 5) * (zi 5))) + (zi 4)) - (s2 / (zi 5))) &&& 31)) s1 p e R s m args below meth c Q A _ _ _ _ _ _ C hG ⟨ls, rfl, lv_sub hl [0, 2] rfl⟩ hf kk
theorem wm_quarter_l4 (Γ : zG) (l : Launch) (f0 : Int32) : ∀ s : Int32 × Int32, mRg Γ l yX7_quarter cX7_quarter 3 (some .int) 0 0 (m_quarter_l4 f0 s.1 s.2) (fun m => im_quarter_l4 Γ f0 m s) (zLE (im_quarter_l4 Γ f0) (em_quarter_l4 Γ f0)) := fun s => wm_quarter_l4_b Γ l f0 s.1 s.2
set_option maxHeartbeats 4000000 in
theorem wm_quarter (Γ : zG) (l : Launch) (a0 : Int32) : mRg Γ l yX7_quarter cX7_quarter 3 (some .int) 0 0 (m_quarter a0) (zAt0 3 0 (lv_args 0 [.int a0]) []) (zLi cX7_quarter) := by
  intro p e R s m args below meth c Q A S H locs x S' g C hG hI hf kk
  obtain ⟨ls, rfl, hl⟩ := hI
  obtain ⟨⟨hx, hb, hml, hown, hts⟩, hr, hlk, hK, hR1, hR2⟩ := id C
  have C : zCx Γ p R s m args meth c cX7_quarter 3 RX7 (some .int) 0 0 := C
  have hl : lv_has ls 3 [(0, .int a0)] := hl
  refine lv_iconst (v := zi 0) hx hb dX7_quarter_0 rfl ?_
  refine lv_istore_n (lv' := [(1, .int (zi 0)), (0, .int a0)]) hx hb dX7_quarter_1 rfl hl (Nat.le_of_ble_eq_true rfl) rfl (fun ls hl => ?_)
  refine lv_iconst (v := zi 0) hx hb dX7_quarter_2 rfl ?_
  refine lv_istore_n (lv' := [(2, .int (zi 0)), (1, .int (zi 0)), (0, .int a0)]) hx hb dX7_quarter_3 rfl hl (Nat.le_of_ble_eq_true rfl) rfl (fun ls hl => ?_)
  obtain ⟨e4, S, hlp, hf⟩ := nB_some hf
  refine mRg.loop (wm_quarter_l4 Γ l a0) ((zi 0), (zi 0)) p e R s m args below meth c Q A _ _ _ _ _ _ C hG ⟨ls, rfl, lv_sub hl [2, 1, 0] rfl⟩ hlp (fun H locs g hL hG => ?_)
  obtain ⟨ls, rfl, hl⟩ := hL
  have hl : lv_has ls 3 [(1, .int e4)] := hl
  refine lv_iload_n hx hb dX7_quarter_45 rfl (lv_at hl 0 rfl) ?_
  obtain ⟨rfl, rfl⟩ := z_p hf
  exact kk _ _ _ ⟨_, _, rfl, dX7_quarter_46⟩ hG
theorem ctm_quarter (Γ : zG) (l : Launch) (a0 : Int32) : mCt Γ l yX7_quarter (ws_ yX7_quarter cX7_quarter 3 (some .int)) 0 0 [.int a0] (m_quarter a0) zoi := mCt.mki (by decide +kernel) (Nat.le_of_ble_eq_true rfl) (wm_quarter Γ l a0)
theorem ytm_quarter : yX7_quarter.cls = RX7 ∧ yX7_quarter.cls ≠ "java/lang/invoke/MethodHandle" ∧ yX7_quarter.cls ≠ "java/lang/invoke/VarHandle" ∧ (parseMethodDescriptor yX7_quarter.desc).map (fun d => d.parameters.length) = some 1 := by decide +kernel
def im_unlikeOf_l21 (Γ : zG) (f2 : Int32) (m : MethodId) (s : Int32 × Int32 × Int32) (g : JFrame) : Prop := zAt0 7 21 [(0, .ref (G_m Γ 0)), (2, .int f2), (3, .int s.1), (4, .int s.2.1), (5, .int s.2.2)] [] m g
def em_unlikeOf_l21 (Γ : zG) (f2 : Int32) (m : MethodId) (e : Int32) (g : JFrame) : Prop := zAt0 7 95 [(0, .ref (G_m Γ 0)), (3, .int e)] [] m g
def im_unlikeOf_l30 (Γ : zG) (f2 : Int32) (f4 : Int32) (f5 : Int32) (m : MethodId) (s : Int32 × Int32) (g : JFrame) : Prop := zAt0 7 30 [(0, .ref (G_m Γ 0)), (2, .int f2), (3, .int s.1), (4, .int f4), (5, .int f5), (6, .int s.2)] [] m g
def em_unlikeOf_l30 (Γ : zG) (f2 : Int32) (f4 : Int32) (f5 : Int32) (m : MethodId) (e : Int32) (g : JFrame) : Prop := zAt0 7 82 [(0, .ref (G_m Γ 0)), (2, .int f2), (3, .int e), (4, .int f4), (5, .int f5)] [] m g
set_option maxHeartbeats 4000000 in
theorem wm_unlikeOf_l30_b (Γ : zG) (l : Launch) (f2 : Int32) (f4 : Int32) (f5 : Int32) (s3 : Int32) (s6 : Int32) : mRg Γ l yX7_unlikeOf cX7_unlikeOf 7 (some .int) 2 48 (m_unlikeOf_l30 f2 f4 f5 s3 s6) (zAt0 7 30 [(0, .ref (G_m Γ 0)), (2, .int f2), (3, .int s3), (4, .int f4), (5, .int f5), (6, .int s6)] []) (zLE (im_unlikeOf_l30 Γ f2 f4 f5) (em_unlikeOf_l30 Γ f2 f4 f5)) := by
  intro p e R s m args below meth c Q A S H locs x S' g C hG hI hf kk
  obtain ⟨ls, rfl, hl⟩ := hI
  obtain ⟨⟨hx, hb, hml, hown, hts⟩, hr, hlk, hK, hR1, hR2⟩ := id C
  have C : zCx Γ p R s m args meth c cX7_unlikeOf 7 RX7 (some .int) 2 48 := C
  refine lv_iload hx hb dX7_unlikeOf_30 (lv_at hl 5 rfl) ?_
  refine lv_bipush (v := zi 9) hx hb dX7_unlikeOf_32 (by decide +kernel) ?_
  refine lv_icmp_ge (tgt := 82) hx hb dX7_unlikeOf_34 (by decide) (fun c34 => ?_) (fun c34 => ?_)
  · have hf := z_t c34 hf
    obtain ⟨rfl, rfl⟩ := z_p hf
    exact kk _ _ _ ⟨ls, rfl, lv_sub hl [0, 1, 2, 3, 4] rfl⟩ hG
  · have hf := z_f c34 hf
    refine lv_iload_n hx hb dX7_unlikeOf_37 rfl (lv_at hl 2 rfl) ?_
    refine lv_iload hx hb dX7_unlikeOf_38 (lv_at hl 3 rfl) ?_
    refine lv_iload hx hb dX7_unlikeOf_40 (lv_at hl 5 rfl) ?_
    refine lv_iconst (v := zi 3) hx hb dX7_unlikeOf_42 rfl ?_
    refine lv_idiv hx hb dX7_unlikeOf_43 (by decide +kernel) ?_
    refine lv_iconst (v := zi 1) hx hb dX7_unlikeOf_44 rfl ?_
    refine lv_isub hx hb dX7_unlikeOf_45 ?_
    refine lv_iload hx hb dX7_unlikeOf_46 (lv_at hl 5 rfl) ?_
    refine lv_iconst (v := zi 3) hx hb dX7_unlikeOf_48 rfl ?_
    refine lv_irem hx hb dX7_unlikeOf_49 (by decide +kernel) ?_
    refine lv_iconst (v := zi 1) hx hb dX7_unlikeOf_50 rfl ?_
    refine lv_isub hx hb dX7_unlikeOf_51 ?_
    refine zm_csi (As := [.int f4, .int ((s6 / (zi 3)) - (zi 1)), .int ((s6 - s6 / (zi 3) * (zi 3)) - (zi 1))]) (rest := [.int s3]) C hG hf (ctm_moved Γ l f4 ((s6 / (zi 3)) - (zi 1)) ((s6 - s6 / (zi 3) * (zi 3)) - (zi 1))) (lw_S q2081 q2082 q107 q2083) ytm_moved rfl rfl (Nat.le_of_ble_eq_true rfl) (Nat.le_of_ble_eq_true rfl) hl.1 (Nat.le_of_ble_eq_true rfl) dX7_unlikeOf_52 (fun v52 S H locs hG hf => ?_)
    refine lv_aload_n hx hb dX7_unlikeOf_55 rfl (lv_at hl 0 rfl) ?_
    refine zm_ga C hG 0 (Nat.le_of_ble_eq_true rfl) (by decide) q1443 dX7_unlikeOf_56 ?_
    refine lv_iload_n hx hb dX7_unlikeOf_59 rfl (lv_at hl 1 rfl) ?_
    refine zm_csi (As := [.int f2]) (rest := [.ref (G_m Γ (0 + 1)), .int v52, .int s3]) C hG hf (ctm_houseAt Γ l f2) (lw_S q1615 q1616 q107 q1617) ytm_houseAt rfl rfl (Nat.le_of_ble_eq_true rfl) (Nat.le_of_ble_eq_true rfl) hl.1 (Nat.le_of_ble_eq_true rfl) dX7_unlikeOf_60 (fun v60 S H locs hG hf => ?_)
    refine lv_sipush (v := zi 159) hx hb dX7_unlikeOf_63 (by decide +kernel) ?_
    refine lv_iadd hx hb dX7_unlikeOf_66 ?_
    refine zm_al C hG 0 hf (Nat.le_of_ble_eq_true rfl) rfl dX7_unlikeOf_67 (fun v67 hf => ?_)
    refine lv_ixor hx hb dX7_unlikeOf_68 ?_
    refine zm_csi (As := [.int (v52 ^^^ v67)]) (rest := [.int s3]) C hG hf (ctm_ones Γ l (v52 ^^^ v67)) (lw_S q1858 q1859 q107 q1860) ytm_ones rfl rfl (Nat.le_of_ble_eq_true rfl) (Nat.le_of_ble_eq_true rfl) hl.1 (Nat.le_of_ble_eq_true rfl) dX7_unlikeOf_69 (fun v69 S H locs hG hf => ?_)
    refine zm_csi (As := [.int s3, .int v69]) (rest := []) C hG hf (ctm_lesser Γ l s3 v69) (lw_S q1721 q1722 q107 q1723) ytm_lesser rfl rfl (Nat.le_of_ble_eq_true rfl) (Nat.le_of_ble_eq_true rfl) hl.1 (Nat.le_of_ble_eq_true rfl) dX7_unlikeOf_72 (fun v72 S H locs hG hf => ?_)
    refine lv_istore_n (lv' := [(3, .int v72), (0, .ref (G_m Γ 0)), (2, .int f2), (4, .int f4), (5, .int f5), (6, .int s6)]) hx hb dX7_unlikeOf_75 rfl hl (Nat.le_of_ble_eq_true rfl) rfl (fun ls hl => ?_)
    refine z_iinc (fun v => [(6, .int v), (3, .int v72), (0, .ref (G_m Γ 0)), (2, .int f2), (4, .int f4), (5, .int f5)]) hx hb hf dX7_unlikeOf_76 hl (k := 5) rfl (Nat.le_of_ble_eq_true rfl) (fun _ => rfl) (fun n76 ls hf hl => ?_)
    refine lv_goto (tgt := 30) hx hb dX7_unlikeOf_79 (by decide) ?_
    obtain ⟨rfl, rfl⟩ := z_p hf
    exact kk _ _ _ ⟨ls, rfl, lv_sub hl [2, 3, 1, 4, 5, 0] rfl⟩ hG
theorem wm_unlikeOf_l30 (Γ : zG) (l : Launch) (f2 : Int32) (f4 : Int32) (f5 : Int32) : ∀ s : Int32 × Int32, mRg Γ l yX7_unlikeOf cX7_unlikeOf 7 (some .int) 2 48 (m_unlikeOf_l30 f2 f4 f5 s.1 s.2) (fun m => im_unlikeOf_l30 Γ f2 f4 f5 m s) (zLE (im_unlikeOf_l30 Γ f2 f4 f5) (em_unlikeOf_l30 Γ f2 f4 f5)) := fun s => wm_unlikeOf_l30_b Γ l f2 f4 f5 s.1 s.2
set_option maxHeartbeats 4000000 in
theorem wm_unlikeOf_l21_b (Γ : zG) (l : Launch) (f2 : Int32) (s3 : Int32) (s4 : Int32) (s5 : Int32) : mRg Γ l yX7_unlikeOf cX7_unlikeOf 7 (some .int) 2 48 (m_unlikeOf_l21 f2 s3 s4 s5) (zAt0 7 21 [(0, .ref (G_m Γ 0)), (2, .int f2), (3, .int s3), (4, .int s4), (5, .int s5)] []) (zLE (im_unlikeOf_l21 Γ f2) (em_unlikeOf_l21 Γ f2)) := by
  intro p e R s m args below meth c Q A S H locs x S' g C hG hI hf kk
  obtain ⟨ls, rfl, hl⟩ := hI
  obtain ⟨⟨hx, hb, hml, hown, hts⟩, hr, hlk, hK, hR1, hR2⟩ := id C
  have C : zCx Γ p R s m args meth c cX7_unlikeOf 7 RX7 (some .int) 2 48 := C
  refine lv_iload hx hb dX7_unlikeOf_21 (lv_at hl 4 rfl) ?_
  refine lv_iconst (v := zi 4) hx hb dX7_unlikeOf_23 rfl ?_
  refine lv_icmp_ge (tgt := 95) hx hb dX7_unlikeOf_24 (by decide) (fun c24 => ?_) (fun c24 => ?_)
  · have hf := z_t c24 hf
    obtain ⟨rfl, rfl⟩ := z_p hf
    exact kk _ _ _ ⟨ls, rfl, lv_sub hl [0, 2] rfl⟩ hG
  · have hf := z_f c24 hf
    refine lv_iconst (v := zi 0) hx hb dX7_unlikeOf_27 rfl ?_
    refine lv_istore (lv' := [(6, .int (zi 0)), (0, .ref (G_m Γ 0)), (2, .int f2), (3, .int s3), (4, .int s4), (5, .int s5)]) hx hb dX7_unlikeOf_28 hl (Nat.le_of_ble_eq_true rfl) rfl (fun ls hl => ?_)
    obtain ⟨e30, S, hlp, hf⟩ := nB_some hf
    refine mRg.loop (wm_unlikeOf_l30 Γ l f2 s4 s5) (s3, (zi 0)) p e R s m args below meth c Q A _ _ _ _ _ _ C hG ⟨ls, rfl, lv_sub hl [1, 2, 3, 4, 5, 0] rfl⟩ hlp (fun H locs g hL hG => ?_)
    obtain ⟨ls, rfl, hl⟩ := hL
    have hl : lv_has ls 7 [(0, .ref (G_m Γ 0)), (2, .int f2), (3, .int e30), (4, .int s4), (5, .int s5)] := hl
    refine lv_iload hx hb dX7_unlikeOf_82 (lv_at hl 3 rfl) ?_
    refine zm_csi (As := [.int s4]) (rest := []) C hG hf (ctm_quarter Γ l s4) (lw_S q2084 q2085 q107 q2086) ytm_quarter rfl rfl (Nat.le_of_ble_eq_true rfl) (Nat.le_of_ble_eq_true rfl) hl.1 (Nat.le_of_ble_eq_true rfl) dX7_unlikeOf_84 (fun v84 S H locs hG hf => ?_)
    refine lv_istore (lv' := [(4, .int v84), (0, .ref (G_m Γ 0)), (2, .int f2), (3, .int e30), (5, .int s5)]) hx hb dX7_unlikeOf_87 hl (Nat.le_of_ble_eq_true rfl) rfl (fun ls hl => ?_)
    refine z_iinc (fun v => [(5, .int v), (4, .int v84), (0, .ref (G_m Γ 0)), (2, .int f2), (3, .int e30)]) hx hb hf dX7_unlikeOf_89 hl (k := 4) rfl (Nat.le_of_ble_eq_true rfl) (fun _ => rfl) (fun n89 ls hf hl => ?_)
    refine lv_goto (tgt := 21) hx hb dX7_unlikeOf_92 (by decide) ?_
    obtain ⟨rfl, rfl⟩ := z_p hf
    exact kk _ _ _ ⟨ls, rfl, lv_sub hl [2, 3, 4, 1, 0] rfl⟩ hG
theorem wm_unlikeOf_l21 (Γ : zG) (l : Launch) (f2 : Int32) : ∀ s : Int32 × Int32 × Int32, mRg Γ l yX7_unlikeOf cX7_unlikeOf 7 (some .int) 2 48 (m_unlikeOf_l21 f2 s.1 s.2.1 s.2.2) (fun m => im_unlikeOf_l21 Γ f2 m s) (zLE (im_unlikeOf_l21 Γ f2) (em_unlikeOf_l21 Γ f2)) := fun s => wm_unlikeOf_l21_b Γ l f2 s.1 s.2.1 s.2.2
set_option maxHeartbeats 4000000 in
theorem wm_unlikeOf (Γ : zG) (l : Launch) (a1 : Int32) (a2 : Int32) : mRg Γ l yX7_unlikeOf cX7_unlikeOf 7 (some .int) 2 48 (m_unlikeOf a1 a2) (zAt0 7 0 (lv_args 0 [.ref (G_m Γ 0), .int a1, .int a2]) []) (zLi cX7_unlikeOf) := by
  intro p e R s m args below meth c Q A S H locs x S' g C hG hI hf kk
  obtain ⟨ls, rfl, hl⟩ := hI
  obtain ⟨⟨hx, hb, hml, hown, hts⟩, hr, hlk, hK, hR1, hR2⟩ := id C
  have C : zCx Γ p R s m args meth c cX7_unlikeOf 7 RX7 (some .int) 2 48 := C
  have hl : lv_has ls 7 [(0, .ref (G_m Γ 0)), (1, .int a1), (2, .int a2)] := hl
  refine lv_bipush (v := zi 25) hx hb dX7_unlikeOf_0 (by decide +kernel) ?_
  refine lv_istore_n (lv' := [(3, .int (zi 25)), (0, .ref (G_m Γ 0)), (1, .int a1), (2, .int a2)]) hx hb dX7_unlikeOf_2 rfl hl (Nat.le_of_ble_eq_true rfl) rfl (fun ls hl => ?_)
  refine lv_aload_n hx hb dX7_unlikeOf_3 rfl (lv_at hl 1 rfl) ?_
  refine zm_ga C hG 0 (Nat.le_of_ble_eq_true rfl) (by decide) q1443 dX7_unlikeOf_4 ?_
  refine lv_iload_n hx hb dX7_unlikeOf_7 rfl (lv_at hl 2 rfl) ?_
  refine zm_csi (As := [.int a1]) (rest := [.ref (G_m Γ (0 + 1))]) C hG hf (ctm_pageAt Γ l a1) (lw_S q1683 q1684 q107 q1685) ytm_pageAt rfl rfl (Nat.le_of_ble_eq_true rfl) (Nat.le_of_ble_eq_true rfl) hl.1 (Nat.le_of_ble_eq_true rfl) dX7_unlikeOf_8 (fun v8 S H locs hG hf => ?_)
  refine lv_sipush (v := zi 202) hx hb dX7_unlikeOf_11 (by decide +kernel) ?_
  refine lv_iadd hx hb dX7_unlikeOf_14 ?_
  refine zm_al C hG 0 hf (Nat.le_of_ble_eq_true rfl) rfl dX7_unlikeOf_15 (fun v15 hf => ?_)
  refine lv_istore (lv' := [(4, .int v15), (3, .int (zi 25)), (0, .ref (G_m Γ 0)), (1, .int a1), (2, .int a2)]) hx hb dX7_unlikeOf_16 hl (Nat.le_of_ble_eq_true rfl) rfl (fun ls hl => ?_)
  refine lv_iconst (v := zi 0) hx hb dX7_unlikeOf_18 rfl ?_
  refine lv_istore (lv' := [(5, .int (zi 0)), (4, .int v15), (3, .int (zi 25)), (0, .ref (G_m Γ 0)), (1, .int a1), (2, .int a2)]) hx hb dX7_unlikeOf_19 hl (Nat.le_of_ble_eq_true rfl) rfl (fun ls hl => ?_)
  obtain ⟨e21, S, hlp, hf⟩ := nB_some hf
  refine mRg.loop (wm_unlikeOf_l21 Γ l a2) ((zi 25), v15, (zi 0)) p e R s m args below meth c Q A _ _ _ _ _ _ C hG ⟨ls, rfl, lv_sub hl [3, 5, 2, 1, 0] rfl⟩ hlp (fun H locs g hL hG => ?_)
  obtain ⟨ls, rfl, hl⟩ := hL
  have hl : lv_has ls 7 [(0, .ref (G_m Γ 0)), (3, .int e21)] := hl
  refine lv_iload_n hx hb dX7_unlikeOf_95 rfl (lv_at hl 1 rfl) ?_
  obtain ⟨rfl, rfl⟩ := z_p hf
  exact kk _ _ _ ⟨_, _, rfl, dX7_unlikeOf_96⟩ hG
theorem ctm_unlikeOf (Γ : zG) (l : Launch) (a1 : Int32) (a2 : Int32) : mCt Γ l yX7_unlikeOf (ws_ yX7_unlikeOf cX7_unlikeOf 7 (some .int)) 2 48 [.ref (G_m Γ 0), .int a1, .int a2] (m_unlikeOf a1 a2) zoi := mCt.mki (by decide +kernel) (Nat.le_of_ble_eq_true rfl) (wm_unlikeOf Γ l a1 a2)
theorem ytm_unlikeOf : yX7_unlikeOf.cls = RX7 ∧ yX7_unlikeOf.cls ≠ "java/lang/invoke/MethodHandle" ∧ yX7_unlikeOf.cls ≠ "java/lang/invoke/VarHandle" ∧ (parseMethodDescriptor yX7_unlikeOf.desc).map (fun d => d.parameters.length) = some 2 := by decide +kernel
set_option maxHeartbeats 4000000 in
theorem wm_unlike (Γ : zG) (l : Launch) (a1 : Int32) (a2 : Int32) : mRg Γ l yX7_unlike cX7_unlike 3 (some .int) 3 74 (m_unlike a1 a2) (zAt0 3 0 (lv_args 0 [.ref (G_m Γ 0), .int a1, .int a2]) []) (zLi cX7_unlike) := by
  intro p e R s m args below meth c Q A S H locs x S' g C hG hI hf kk
  obtain ⟨ls, rfl, hl⟩ := hI
  obtain ⟨⟨hx, hb, hml, hown, hts⟩, hr, hlk, hK, hR1, hR2⟩ := id C
  have C : zCx Γ p R s m args meth c cX7_unlike 3 RX7 (some .int) 3 74 := C
  have hl : lv_has ls 3 [(0, .ref (G_m Γ 0)), (1, .int a1), (2, .int a2)] := hl
  refine lv_aload_n hx hb dX7_unlike_0 rfl (lv_at hl 0 rfl) ?_
  refine lv_iload_n hx hb dX7_unlike_1 rfl (lv_at hl 1 rfl) ?_
  refine zm_cvi (As := [.int a1]) (rest := []) C hG hf (ctm_isPage Γ l a1) (lw_V q1701 q1703 qs54 q107 q1704) ytm_isPage rfl rfl (Nat.le_of_ble_eq_true rfl) (Nat.le_of_ble_eq_true rfl) hl.1 (Nat.le_of_ble_eq_true rfl) dX7_unlike_2 (fun v2 S H locs hG hf => ?_)
  refine lv_if_eq (tgt := 25) hx hb dX7_unlike_5 (by decide) (fun c5 => ?_) (fun c5 => ?_)
  · have hf := z_t c5 hf
    refine lv_iconst (v := zi (-1)) hx hb dX7_unlike_25 rfl ?_
    obtain ⟨rfl, rfl⟩ := z_p hf
    exact kk _ _ _ ⟨_, _, rfl, dX7_unlike_26⟩ hG
  · have hf := z_f c5 hf
    refine lv_aload_n hx hb dX7_unlike_8 rfl (lv_at hl 0 rfl) ?_
    refine lv_iload_n hx hb dX7_unlike_9 rfl (lv_at hl 2 rfl) ?_
    refine zm_cvi (As := [.int a2]) (rest := []) C hG hf (ctm_isHouse Γ l a2) (lw_V q1608 q1610 qs42 q107 q1611) ytm_isHouse rfl rfl (Nat.le_of_ble_eq_true rfl) (Nat.le_of_ble_eq_true rfl) hl.1 (Nat.le_of_ble_eq_true rfl) dX7_unlike_10 (fun v10 S H locs hG hf => ?_)
    refine lv_if_eq (tgt := 25) hx hb dX7_unlike_13 (by decide) (fun c13 => ?_) (fun c13 => ?_)
    · have hf := z_t c13 hf
      refine lv_iconst (v := zi (-1)) hx hb dX7_unlike_25 rfl ?_
      obtain ⟨rfl, rfl⟩ := z_p hf
      exact kk _ _ _ ⟨_, _, rfl, dX7_unlike_26⟩ hG
    · have hf := z_f c13 hf
      refine lv_aload_n hx hb dX7_unlike_16 rfl (lv_at hl 0 rfl) ?_
      refine lv_iload_n hx hb dX7_unlike_17 rfl (lv_at hl 1 rfl) ?_
      refine lv_iload_n hx hb dX7_unlike_18 rfl (lv_at hl 2 rfl) ?_
      refine zm_cvi (As := [.int a1, .int a2]) (rest := []) C hG hf (ctm_unlikeOf Γ l a1 a2) (lw_V q2077 q2079 qs98 q107 q2080) ytm_unlikeOf rfl rfl (Nat.le_of_ble_eq_true rfl) (Nat.le_of_ble_eq_true rfl) hl.1 (Nat.le_of_ble_eq_true rfl) dX7_unlike_19 (fun v19 S H locs hG hf => ?_)
      refine lv_goto (tgt := 26) hx hb dX7_unlike_22 (by decide) ?_
      obtain ⟨rfl, rfl⟩ := z_p hf
      exact kk _ _ _ ⟨_, _, rfl, dX7_unlike_26⟩ hG
theorem ctm_unlike (Γ : zG) (l : Launch) (a1 : Int32) (a2 : Int32) : mCt Γ l yX7_unlike (ws_ yX7_unlike cX7_unlike 3 (some .int)) 3 74 [.ref (G_m Γ 0), .int a1, .int a2] (m_unlike a1 a2) zoi := mCt.mki (by decide +kernel) (Nat.le_of_ble_eq_true rfl) (wm_unlike Γ l a1 a2)
theorem ytm_unlike : yX7_unlike.cls = RX7 ∧ yX7_unlike.cls ≠ "java/lang/invoke/MethodHandle" ∧ yX7_unlike.cls ≠ "java/lang/invoke/VarHandle" ∧ (parseMethodDescriptor yX7_unlike.desc).map (fun d => d.parameters.length) = some 2 := by decide +kernel
def im_near_l14 (Γ : zG) (f1 : Int32) (m : MethodId) (s : Int32 × Int32) (g : JFrame) : Prop := zAt0 4 14 [(0, .ref (G_m Γ 0)), (1, .int f1), (2, .int s.1), (3, .int s.2)] [] m g
def em_near_l14 (Γ : zG) (f1 : Int32) (m : MethodId) (e : Int32) (g : JFrame) : Prop := zAt0 4 51 [(0, .ref (G_m Γ 0)), (2, .int e)] [] m g
set_option maxHeartbeats 4000000 in
theorem wm_near_l14_j43 (Γ : zG) (l : Launch) (b1 : Int32) (b3 : Int32) : mRg Γ l yX7_near cX7_near 4 (some .int) 3 74 (m_near_l14_j43 b1 b3) (zAt0 4 43 [(0, .ref (G_m Γ 0)), (1, .int b1), (3, .int b3)] []) (zLE (im_near_l14 Γ b1) (em_near_l14 Γ b1)) := by
  intro p e R s m args below meth c Q A S H locs x S' g C hG hI hf kk
  obtain ⟨ls, rfl, hl⟩ := hI
  obtain ⟨⟨hx, hb, hml, hown, hts⟩, hr, hlk, hK, hR1, hR2⟩ := id C
  have C : zCx Γ p R s m args meth c cX7_near 4 RX7 (some .int) 3 74 := C
  refine lv_iload_n hx hb dX7_near_43 rfl (lv_at hl 2 rfl) ?_
  refine lv_istore_n (lv' := [(2, .int b3), (0, .ref (G_m Γ 0)), (1, .int b1), (3, .int b3)]) hx hb dX7_near_44 rfl hl (Nat.le_of_ble_eq_true rfl) rfl (fun ls hl => ?_)
  refine z_iinc (fun v => [(3, .int v), (2, .int b3), (0, .ref (G_m Γ 0)), (1, .int b1)]) hx hb hf dX7_near_45 hl (k := 3) rfl (Nat.le_of_ble_eq_true rfl) (fun _ => rfl) (fun n45 ls hf hl => ?_)
  refine lv_goto (tgt := 14) hx hb dX7_near_48 (by decide) ?_
  obtain ⟨rfl, rfl⟩ := z_p hf
  exact kk _ _ _ ⟨ls, rfl, lv_sub hl [2, 3, 1, 0] rfl⟩ hG
set_option maxHeartbeats 4000000 in
theorem wm_near_l14_b (Γ : zG) (l : Launch) (f1 : Int32) (s2 : Int32) (s3 : Int32) : mRg Γ l yX7_near cX7_near 4 (some .int) 3 74 (m_near_l14 f1 s2 s3) (zAt0 4 14 [(0, .ref (G_m Γ 0)), (1, .int f1), (2, .int s2), (3, .int s3)] []) (zLE (im_near_l14 Γ f1) (em_near_l14 Γ f1)) := by
  intro p e R s m args below meth c Q A S H locs x S' g C hG hI hf kk
  obtain ⟨ls, rfl, hl⟩ := hI
  obtain ⟨⟨hx, hb, hml, hown, hts⟩, hr, hlk, hK, hR1, hR2⟩ := id C
  have C : zCx Γ p R s m args meth c cX7_near 4 RX7 (some .int) 3 74 := C
  refine lv_iload_n hx hb dX7_near_14 rfl (lv_at hl 3 rfl) ?_
  refine lv_aload_n hx hb dX7_near_15 rfl (lv_at hl 0 rfl) ?_
  refine zm_ga C hG 0 (Nat.le_of_ble_eq_true rfl) (by decide) q1443 dX7_near_16 ?_
  refine lv_iconst (v := zi 0) hx hb dX7_near_19 rfl ?_
  refine zm_al C hG 0 hf (Nat.le_of_ble_eq_true rfl) rfl dX7_near_20 (fun v20 hf => ?_)
  refine lv_icmp_ge (tgt := 51) hx hb dX7_near_21 (by decide) (fun c21 => ?_) (fun c21 => ?_)
  · have hf := z_t c21 hf
    obtain ⟨rfl, rfl⟩ := z_p hf
    exact kk _ _ _ ⟨ls, rfl, lv_sub hl [0, 2] rfl⟩ hG
  · have hf := z_f c21 hf
    refine lv_iload_n hx hb dX7_near_24 rfl (lv_at hl 2 rfl) ?_
    refine lv_if_lt (tgt := 43) hx hb dX7_near_25 (by decide) (fun c25 => ?_) (fun c25 => ?_)
    · have hf := z_t c25 hf
      exact wm_near_l14_j43 Γ l f1 s3 p e R s m args below meth c Q A _ _ _ _ _ _ C hG ⟨ls, rfl, lv_sub hl [0, 1, 3] rfl⟩ hf kk
    · have hf := z_f c25 hf
      refine lv_aload_n hx hb dX7_near_28 rfl (lv_at hl 0 rfl) ?_
      refine lv_iload_n hx hb dX7_near_29 rfl (lv_at hl 1 rfl) ?_
      refine lv_iload_n hx hb dX7_near_30 rfl (lv_at hl 3 rfl) ?_
      refine zm_cvi (As := [.int f1, .int s3]) (rest := []) C hG hf (ctm_unlikeOf Γ l f1 s3) (lw_V q2077 q2079 qs98 q107 q2080) ytm_unlikeOf rfl rfl (Nat.le_of_ble_eq_true rfl) (Nat.le_of_ble_eq_true rfl) hl.1 (Nat.le_of_ble_eq_true rfl) dX7_near_31 (fun v31 S H locs hG hf => ?_)
      refine lv_aload_n hx hb dX7_near_34 rfl (lv_at hl 0 rfl) ?_
      refine lv_iload_n hx hb dX7_near_35 rfl (lv_at hl 1 rfl) ?_
      refine lv_iload_n hx hb dX7_near_36 rfl (lv_at hl 2 rfl) ?_
      refine zm_cvi (As := [.int f1, .int s2]) (rest := [.int v31]) C hG hf (ctm_unlikeOf Γ l f1 s2) (lw_V q2077 q2079 qs98 q107 q2080) ytm_unlikeOf rfl rfl (Nat.le_of_ble_eq_true rfl) (Nat.le_of_ble_eq_true rfl) hl.1 (Nat.le_of_ble_eq_true rfl) dX7_near_37 (fun v37 S H locs hG hf => ?_)
      refine lv_icmp_ge (tgt := 45) hx hb dX7_near_40 (by decide) (fun c40 => ?_) (fun c40 => ?_)
      · have hf := z_t c40 hf
        refine z_iinc (fun v => [(3, .int v), (0, .ref (G_m Γ 0)), (1, .int f1), (2, .int s2)]) hx hb hf dX7_near_45 hl (k := 3) rfl (Nat.le_of_ble_eq_true rfl) (fun _ => rfl) (fun n45 ls hf hl => ?_)
        refine lv_goto (tgt := 14) hx hb dX7_near_48 (by decide) ?_
        obtain ⟨rfl, rfl⟩ := z_p hf
        exact kk _ _ _ ⟨ls, rfl, lv_sub hl [1, 2, 3, 0] rfl⟩ hG
      · have hf := z_f c40 hf
        exact wm_near_l14_j43 Γ l f1 s3 p e R s m args below meth c Q A _ _ _ _ _ _ C hG ⟨ls, rfl, lv_sub hl [0, 1, 3] rfl⟩ hf kk
theorem wm_near_l14 (Γ : zG) (l : Launch) (f1 : Int32) : ∀ s : Int32 × Int32, mRg Γ l yX7_near cX7_near 4 (some .int) 3 74 (m_near_l14 f1 s.1 s.2) (fun m => im_near_l14 Γ f1 m s) (zLE (im_near_l14 Γ f1) (em_near_l14 Γ f1)) := fun s => wm_near_l14_b Γ l f1 s.1 s.2
set_option maxHeartbeats 4000000 in
theorem wm_near (Γ : zG) (l : Launch) (a1 : Int32) : mRg Γ l yX7_near cX7_near 4 (some .int) 3 74 (m_near a1) (zAt0 4 0 (lv_args 0 [.ref (G_m Γ 0), .int a1]) []) (zLi cX7_near) := by
  intro p e R s m args below meth c Q A S H locs x S' g C hG hI hf kk
  obtain ⟨ls, rfl, hl⟩ := hI
  obtain ⟨⟨hx, hb, hml, hown, hts⟩, hr, hlk, hK, hR1, hR2⟩ := id C
  have C : zCx Γ p R s m args meth c cX7_near 4 RX7 (some .int) 3 74 := C
  have hl : lv_has ls 4 [(0, .ref (G_m Γ 0)), (1, .int a1)] := hl
  refine lv_aload_n hx hb dX7_near_0 rfl (lv_at hl 0 rfl) ?_
  refine lv_iload_n hx hb dX7_near_1 rfl (lv_at hl 1 rfl) ?_
  refine zm_cvi (As := [.int a1]) (rest := []) C hG hf (ctm_isPage Γ l a1) (lw_V q1701 q1703 qs54 q107 q1704) ytm_isPage rfl rfl (Nat.le_of_ble_eq_true rfl) (Nat.le_of_ble_eq_true rfl) hl.1 (Nat.le_of_ble_eq_true rfl) dX7_near_2 (fun v2 S H locs hG hf => ?_)
  refine lv_if_ne (tgt := 10) hx hb dX7_near_5 (by decide) (fun c5 => ?_) (fun c5 => ?_)
  · have hf := z_f c5 hf
    refine lv_iconst (v := zi (-1)) hx hb dX7_near_10 rfl ?_
    refine lv_istore_n (lv' := [(2, .int (zi (-1))), (0, .ref (G_m Γ 0)), (1, .int a1)]) hx hb dX7_near_11 rfl hl (Nat.le_of_ble_eq_true rfl) rfl (fun ls hl => ?_)
    refine lv_iconst (v := zi 0) hx hb dX7_near_12 rfl ?_
    refine lv_istore_n (lv' := [(3, .int (zi 0)), (2, .int (zi (-1))), (0, .ref (G_m Γ 0)), (1, .int a1)]) hx hb dX7_near_13 rfl hl (Nat.le_of_ble_eq_true rfl) rfl (fun ls hl => ?_)
    obtain ⟨e14, S, hlp, hf⟩ := nB_some hf
    refine mRg.loop (wm_near_l14 Γ l a1) ((zi (-1)), (zi 0)) p e R s m args below meth c Q A _ _ _ _ _ _ C hG ⟨ls, rfl, lv_sub hl [2, 3, 1, 0] rfl⟩ hlp (fun H locs g hL hG => ?_)
    obtain ⟨ls, rfl, hl⟩ := hL
    have hl : lv_has ls 4 [(0, .ref (G_m Γ 0)), (2, .int e14)] := hl
    refine lv_iload_n hx hb dX7_near_51 rfl (lv_at hl 1 rfl) ?_
    obtain ⟨rfl, rfl⟩ := z_p hf
    exact kk _ _ _ ⟨_, _, rfl, dX7_near_52⟩ hG
  · have hf := z_t c5 hf
    refine lv_iconst (v := zi (-1)) hx hb dX7_near_8 rfl ?_
    obtain ⟨rfl, rfl⟩ := z_p hf
    exact kk _ _ _ ⟨_, _, rfl, dX7_near_9⟩ hG
theorem ctm_near (Γ : zG) (l : Launch) (a1 : Int32) : mCt Γ l yX7_near (ws_ yX7_near cX7_near 4 (some .int)) 3 74 [.ref (G_m Γ 0), .int a1] (m_near a1) zoi := mCt.mki (by decide +kernel) (Nat.le_of_ble_eq_true rfl) (wm_near Γ l a1)
theorem ytm_near : yX7_near.cls = RX7 ∧ yX7_near.cls ≠ "java/lang/invoke/MethodHandle" ∧ yX7_near.cls ≠ "java/lang/invoke/VarHandle" ∧ (parseMethodDescriptor yX7_near.desc).map (fun d => d.parameters.length) = some 1 := by decide +kernel
set_option maxHeartbeats 4000000 in
theorem wm_count (Γ : zG) (l : Launch) (a1 : Int32) : mRg Γ l yX7_count cX7_count 2 (some .int) 3 77 (m_count a1) (zAt0 2 0 (lv_args 0 [.ref (G_m Γ 0), .int a1]) []) (zLi cX7_count) := by
  intro p e R s m args below meth c Q A S H locs x S' g C hG hI hf kk
  obtain ⟨ls, rfl, hl⟩ := hI
  obtain ⟨⟨hx, hb, hml, hown, hts⟩, hr, hlk, hK, hR1, hR2⟩ := id C
  have C : zCx Γ p R s m args meth c cX7_count 2 RX7 (some .int) 3 77 := C
  have hl : lv_has ls 2 [(0, .ref (G_m Γ 0)), (1, .int a1)] := hl
  refine lv_iload_n hx hb dX7_count_0 rfl (lv_at hl 1 rfl) ?_
  refine lv_iconst (v := zi 0) hx hb dX7_count_1 rfl ?_
  refine lv_iconst (v := zi 5) hx hb dX7_count_2 rfl ?_
  refine zm_csi (As := [.int a1, .int (zi 0), .int (zi 5)]) (rest := []) C hG hf (ctm_isIn Γ l a1 (zi 0) (zi 5)) (lw_S q1612 q1613 q107 q1614) ytm_isIn rfl rfl (Nat.le_of_ble_eq_true rfl) (Nat.le_of_ble_eq_true rfl) hl.1 (Nat.le_of_ble_eq_true rfl) dX7_count_3 (fun v3 S H locs hG hf => ?_)
  refine lv_if_eq (tgt := 16) hx hb dX7_count_6 (by decide) (fun c6 => ?_) (fun c6 => ?_)
  · have hf := z_t c6 hf
    refine lv_iload_n hx hb dX7_count_16 rfl (lv_at hl 1 rfl) ?_
    refine lv_bipush (v := zi 6) hx hb dX7_count_17 (by decide +kernel) ?_
    refine lv_icmp_ne (tgt := 31) hx hb dX7_count_19 (by decide) (fun c19 => ?_) (fun c19 => ?_)
    · have hf := z_f c19 hf
      refine lv_iload_n hx hb dX7_count_31 rfl (lv_at hl 1 rfl) ?_
      refine lv_bipush (v := zi 7) hx hb dX7_count_32 (by decide +kernel) ?_
      refine lv_icmp_ne (tgt := 46) hx hb dX7_count_34 (by decide) (fun c34 => ?_) (fun c34 => ?_)
      · have hf := z_f c34 hf
        refine lv_iload_n hx hb dX7_count_46 rfl (lv_at hl 1 rfl) ?_
        refine lv_bipush (v := zi 8) hx hb dX7_count_47 (by decide +kernel) ?_
        refine lv_icmp_ne (tgt := 58) hx hb dX7_count_49 (by decide) (fun c49 => ?_) (fun c49 => ?_)
        · have hf := z_f c49 hf
          refine lv_iload_n hx hb dX7_count_58 rfl (lv_at hl 1 rfl) ?_
          refine lv_bipush (v := zi 10) hx hb dX7_count_59 (by decide +kernel) ?_
          refine lv_bipush (v := zi 9) hx hb dX7_count_61 (by decide +kernel) ?_
          refine lv_aload_n hx hb dX7_count_63 rfl (lv_at hl 0 rfl) ?_
          refine zm_ga C hG 0 (Nat.le_of_ble_eq_true rfl) (by decide) q1443 dX7_count_64 ?_
          refine lv_iconst (v := zi 1) hx hb dX7_count_67 rfl ?_
          refine zm_al C hG 0 hf (Nat.le_of_ble_eq_true rfl) rfl dX7_count_68 (fun v68 hf => ?_)
          refine lv_iadd hx hb dX7_count_69 ?_
          refine zm_csi (As := [.int a1, .int (zi 10), .int ((zi 9) + v68)]) (rest := []) C hG hf (ctm_isIn Γ l a1 (zi 10) ((zi 9) + v68)) (lw_S q1612 q1613 q107 q1614) ytm_isIn rfl rfl (Nat.le_of_ble_eq_true rfl) (Nat.le_of_ble_eq_true rfl) hl.1 (Nat.le_of_ble_eq_true rfl) dX7_count_70 (fun v70 S H locs hG hf => ?_)
          refine lv_if_eq (tgt := 92) hx hb dX7_count_73 (by decide) (fun c73 => ?_) (fun c73 => ?_)
          · have hf := z_t c73 hf
            refine lv_iload_n hx hb dX7_count_92 rfl (lv_at hl 1 rfl) ?_
            refine lv_bipush (v := zi 20) hx hb dX7_count_93 (by decide +kernel) ?_
            refine lv_bipush (v := zi 19) hx hb dX7_count_95 (by decide +kernel) ?_
            refine lv_aload_n hx hb dX7_count_97 rfl (lv_at hl 0 rfl) ?_
            refine zm_ga C hG 0 (Nat.le_of_ble_eq_true rfl) (by decide) q1443 dX7_count_98 ?_
            refine lv_iconst (v := zi 0) hx hb dX7_count_101 rfl ?_
            refine zm_al C hG 0 hf (Nat.le_of_ble_eq_true rfl) rfl dX7_count_102 (fun v102 hf => ?_)
            refine lv_iadd hx hb dX7_count_103 ?_
            refine zm_csi (As := [.int a1, .int (zi 20), .int ((zi 19) + v102)]) (rest := []) C hG hf (ctm_isIn Γ l a1 (zi 20) ((zi 19) + v102)) (lw_S q1612 q1613 q107 q1614) ytm_isIn rfl rfl (Nat.le_of_ble_eq_true rfl) (Nat.le_of_ble_eq_true rfl) hl.1 (Nat.le_of_ble_eq_true rfl) dX7_count_104 (fun v104 S H locs hG hf => ?_)
            refine lv_if_eq (tgt := 126) hx hb dX7_count_107 (by decide) (fun c107 => ?_) (fun c107 => ?_)
            · have hf := z_t c107 hf
              refine lv_iload_n hx hb dX7_count_126 rfl (lv_at hl 1 rfl) ?_
              refine lv_bipush (v := zi 30) hx hb dX7_count_127 (by decide +kernel) ?_
              refine lv_bipush (v := zi 37) hx hb dX7_count_129 (by decide +kernel) ?_
              refine zm_csi (As := [.int a1, .int (zi 30), .int (zi 37)]) (rest := []) C hG hf (ctm_isIn Γ l a1 (zi 30) (zi 37)) (lw_S q1612 q1613 q107 q1614) ytm_isIn rfl rfl (Nat.le_of_ble_eq_true rfl) (Nat.le_of_ble_eq_true rfl) hl.1 (Nat.le_of_ble_eq_true rfl) dX7_count_131 (fun v131 S H locs hG hf => ?_)
              refine lv_if_eq (tgt := 152) hx hb dX7_count_134 (by decide) (fun c134 => ?_) (fun c134 => ?_)
              · have hf := z_t c134 hf
                refine lv_bipush (v := zi (-2)) hx hb dX7_count_152 (by decide +kernel) ?_
                obtain ⟨rfl, rfl⟩ := z_p hf
                exact kk _ _ _ ⟨_, _, rfl, dX7_count_154⟩ hG
              · have hf := z_f c134 hf
                refine lv_aload_n hx hb dX7_count_137 rfl (lv_at hl 0 rfl) ?_
                refine zm_ga C hG 0 (Nat.le_of_ble_eq_true rfl) (by decide) q1443 dX7_count_138 ?_
                refine lv_bipush (v := zi 10) hx hb dX7_count_141 (by decide +kernel) ?_
                refine lv_iload_n hx hb dX7_count_143 rfl (lv_at hl 1 rfl) ?_
                refine lv_iadd hx hb dX7_count_144 ?_
                refine lv_bipush (v := zi 30) hx hb dX7_count_145 (by decide +kernel) ?_
                refine lv_isub hx hb dX7_count_147 ?_
                refine zm_al C hG 0 hf (Nat.le_of_ble_eq_true rfl) rfl dX7_count_148 (fun v148 hf => ?_)
                refine lv_goto (tgt := 154) hx hb dX7_count_149 (by decide) ?_
                obtain ⟨rfl, rfl⟩ := z_p hf
                exact kk _ _ _ ⟨_, _, rfl, dX7_count_154⟩ hG
            · have hf := z_f c107 hf
              refine lv_aload_n hx hb dX7_count_110 rfl (lv_at hl 0 rfl) ?_
              refine zm_ga C hG 0 (Nat.le_of_ble_eq_true rfl) (by decide) q1443 dX7_count_111 ?_
              refine lv_iload_n hx hb dX7_count_114 rfl (lv_at hl 1 rfl) ?_
              refine lv_bipush (v := zi 20) hx hb dX7_count_115 (by decide +kernel) ?_
              refine lv_isub hx hb dX7_count_117 ?_
              refine zm_csi (As := [.int (a1 - (zi 20))]) (rest := [.ref (G_m Γ (0 + 1))]) C hG hf (ctm_houseAt Γ l (a1 - (zi 20))) (lw_S q1615 q1616 q107 q1617) ytm_houseAt rfl rfl (Nat.le_of_ble_eq_true rfl) (Nat.le_of_ble_eq_true rfl) hl.1 (Nat.le_of_ble_eq_true rfl) dX7_count_118 (fun v118 S H locs hG hf => ?_)
              refine lv_bipush (v := zi 13) hx hb dX7_count_121 (by decide +kernel) ?_
              refine lv_iadd hx hb dX7_count_123 ?_
              refine zm_al C hG 0 hf (Nat.le_of_ble_eq_true rfl) rfl dX7_count_124 (fun v124 hf => ?_)
              obtain ⟨rfl, rfl⟩ := z_p hf
              exact kk _ _ _ ⟨_, _, rfl, dX7_count_125⟩ hG
          · have hf := z_f c73 hf
            refine lv_aload_n hx hb dX7_count_76 rfl (lv_at hl 0 rfl) ?_
            refine zm_ga C hG 0 (Nat.le_of_ble_eq_true rfl) (by decide) q1443 dX7_count_77 ?_
            refine lv_iload_n hx hb dX7_count_80 rfl (lv_at hl 1 rfl) ?_
            refine lv_bipush (v := zi 10) hx hb dX7_count_81 (by decide +kernel) ?_
            refine lv_isub hx hb dX7_count_83 ?_
            refine zm_csi (As := [.int (a1 - (zi 10))]) (rest := [.ref (G_m Γ (0 + 1))]) C hG hf (ctm_pageAt Γ l (a1 - (zi 10))) (lw_S q1683 q1684 q107 q1685) ytm_pageAt rfl rfl (Nat.le_of_ble_eq_true rfl) (Nat.le_of_ble_eq_true rfl) hl.1 (Nat.le_of_ble_eq_true rfl) dX7_count_84 (fun v84 S H locs hG hf => ?_)
            refine lv_bipush (v := zi 15) hx hb dX7_count_87 (by decide +kernel) ?_
            refine lv_iadd hx hb dX7_count_89 ?_
            refine zm_al C hG 0 hf (Nat.le_of_ble_eq_true rfl) rfl dX7_count_90 (fun v90 hf => ?_)
            obtain ⟨rfl, rfl⟩ := z_p hf
            exact kk _ _ _ ⟨_, _, rfl, dX7_count_91⟩ hG
        · have hf := z_t c49 hf
          refine lv_aload_n hx hb dX7_count_52 rfl (lv_at hl 0 rfl) ?_
          refine lv_iconst (v := zi (-1)) hx hb dX7_count_53 rfl ?_
          refine zm_cvi (As := [.int (zi (-1))]) (rest := []) C hG hf (ctm_sentences Γ l (zi (-1))) (lw_V q2047 q2049 qs96 q107 q2050) ytm_sentences rfl rfl (Nat.le_of_ble_eq_true rfl) (Nat.le_of_ble_eq_true rfl) hl.1 (Nat.le_of_ble_eq_true rfl) dX7_count_54 (fun v54 S H locs hG hf => ?_)
          obtain ⟨rfl, rfl⟩ := z_p hf
          exact kk _ _ _ ⟨_, _, rfl, dX7_count_57⟩ hG
      · have hf := z_t c34 hf
        refine lv_aload_n hx hb dX7_count_37 rfl (lv_at hl 0 rfl) ?_
        refine zm_ga C hG 0 (Nat.le_of_ble_eq_true rfl) (by decide) q1443 dX7_count_38 ?_
        refine lv_sipush (v := zi 5007) hx hb dX7_count_41 (by decide +kernel) ?_
        refine zm_al C hG 0 hf (Nat.le_of_ble_eq_true rfl) rfl dX7_count_44 (fun v44 hf => ?_)
        obtain ⟨rfl, rfl⟩ := z_p hf
        exact kk _ _ _ ⟨_, _, rfl, dX7_count_45⟩ hG
    · have hf := z_t c19 hf
      refine lv_aload_n hx hb dX7_count_22 rfl (lv_at hl 0 rfl) ?_
      refine zm_ga C hG 0 (Nat.le_of_ble_eq_true rfl) (by decide) q1443 dX7_count_23 ?_
      refine lv_sipush (v := zi 5006) hx hb dX7_count_26 (by decide +kernel) ?_
      refine zm_al C hG 0 hf (Nat.le_of_ble_eq_true rfl) rfl dX7_count_29 (fun v29 hf => ?_)
      obtain ⟨rfl, rfl⟩ := z_p hf
      exact kk _ _ _ ⟨_, _, rfl, dX7_count_30⟩ hG
  · have hf := z_f c6 hf
    refine lv_aload_n hx hb dX7_count_9 rfl (lv_at hl 0 rfl) ?_
    refine zm_ga C hG 0 (Nat.le_of_ble_eq_true rfl) (by decide) q1443 dX7_count_10 ?_
    refine lv_iload_n hx hb dX7_count_13 rfl (lv_at hl 1 rfl) ?_
    refine zm_al C hG 0 hf (Nat.le_of_ble_eq_true rfl) rfl dX7_count_14 (fun v14 hf => ?_)
    obtain ⟨rfl, rfl⟩ := z_p hf
    exact kk _ _ _ ⟨_, _, rfl, dX7_count_15⟩ hG
theorem ctm_count (Γ : zG) (l : Launch) (a1 : Int32) : mCt Γ l yX7_count (ws_ yX7_count cX7_count 2 (some .int)) 3 77 [.ref (G_m Γ 0), .int a1] (m_count a1) zoi := mCt.mki (by decide +kernel) (Nat.le_of_ble_eq_true rfl) (wm_count Γ l a1)
theorem ytm_count : yX7_count.cls = RX7 ∧ yX7_count.cls ≠ "java/lang/invoke/MethodHandle" ∧ yX7_count.cls ≠ "java/lang/invoke/VarHandle" ∧ (parseMethodDescriptor yX7_count.desc).map (fun d => d.parameters.length) = some 1 := by decide +kernel
def im_image_l20 (Γ : zG) (f1 : Int32) (m : MethodId) (s : Int32) (g : JFrame) : Prop := zAt0 3 20 [(0, .ref (G_m Γ 0)), (1, .int f1), (2, .int s)] [] m g
def em_image_l20 (Γ : zG) (f1 : Int32) (m : MethodId) (e : Unit) (g : JFrame) : Prop := zAt0 3 53 [(0, .ref (G_m Γ 0))] [] m g
set_option maxHeartbeats 4000000 in
theorem wm_image_l20_b (Γ : zG) (l : Launch) (f1 : Int32) (s2 : Int32) : mRg Γ l yX7_image cX7_image 3 (some .boolean) 1 22 (m_image_l20 f1 s2) (zAt0 3 20 [(0, .ref (G_m Γ 0)), (1, .int f1), (2, .int s2)] []) (zLE (im_image_l20 Γ f1) (em_image_l20 Γ f1)) := by
  intro p e R s m args below meth c Q A S H locs x S' g C hG hI hf kk
  obtain ⟨ls, rfl, hl⟩ := hI
  obtain ⟨⟨hx, hb, hml, hown, hts⟩, hr, hlk, hK, hR1, hR2⟩ := id C
  have C : zCx Γ p R s m args meth c cX7_image 3 RX7 (some .boolean) 1 22 := C
  refine lv_iload_n hx hb dX7_image_20 rfl (lv_at hl 2 rfl) ?_
  refine lv_sipush (v := zi 5520) hx hb dX7_image_21 (by decide +kernel) ?_
  refine lv_icmp_ge (tgt := 53) hx hb dX7_image_24 (by decide) (fun c24 => ?_) (fun c24 => ?_)
  · have hf := z_t c24 hf
    obtain ⟨rfl, rfl⟩ := z_p hf
    exact kk _ _ _ ⟨ls, rfl, lv_sub hl [0] rfl⟩ hG
  · have hf := z_f c24 hf
    refine lv_aload_n hx hb dX7_image_27 rfl (lv_at hl 0 rfl) ?_
    refine zm_ga C hG 0 (Nat.le_of_ble_eq_true rfl) (by decide) q1443 dX7_image_28 ?_
    refine lv_sipush (v := zi 5520) hx hb dX7_image_31 (by decide +kernel) ?_
    refine lv_iload_n hx hb dX7_image_34 rfl (lv_at hl 1 rfl) ?_
    refine lv_iconst (v := zi 1) hx hb dX7_image_35 rfl ?_
    refine lv_iadd hx hb dX7_image_36 ?_
    refine lv_imul hx hb dX7_image_37 ?_
    refine lv_iload_n hx hb dX7_image_38 rfl (lv_at hl 2 rfl) ?_
    refine lv_iadd hx hb dX7_image_39 ?_
    refine lv_aload_n hx hb dX7_image_40 rfl (lv_at hl 0 rfl) ?_
    refine zm_ga C hG 0 (Nat.le_of_ble_eq_true rfl) (by decide) q1443 dX7_image_41 ?_
    refine lv_iload_n hx hb dX7_image_44 rfl (lv_at hl 2 rfl) ?_
    refine zm_al C hG 0 hf (Nat.le_of_ble_eq_true rfl) rfl dX7_image_45 (fun v45 hf => ?_)
    refine zm_as C hG 0 hf (Nat.le_of_ble_eq_true rfl) rfl dX7_image_46 (fun S H locs hG hf => ?_)
    refine z_iinc (fun v => [(2, .int v), (0, .ref (G_m Γ 0)), (1, .int f1)]) hx hb hf dX7_image_47 hl (k := 2) rfl (Nat.le_of_ble_eq_true rfl) (fun _ => rfl) (fun n47 ls hf hl => ?_)
    refine lv_goto (tgt := 20) hx hb dX7_image_50 (by decide) ?_
    obtain ⟨rfl, rfl⟩ := z_p hf
    exact kk _ _ _ ⟨ls, rfl, lv_sub hl [1, 2, 0] rfl⟩ hG
theorem wm_image_l20 (Γ : zG) (l : Launch) (f1 : Int32) : ∀ s : Int32, mRg Γ l yX7_image cX7_image 3 (some .boolean) 1 22 (m_image_l20 f1 s) (fun m => im_image_l20 Γ f1 m s) (zLE (im_image_l20 Γ f1) (em_image_l20 Γ f1)) := fun s => wm_image_l20_b Γ l f1 s
set_option maxHeartbeats 4000000 in
theorem wm_image (Γ : zG) (l : Launch) (a1 : Int32) : mRg Γ l yX7_image cX7_image 3 (some .boolean) 1 22 (m_image a1) (zAt0 3 0 (lv_args 0 [.ref (G_m Γ 0), .int a1]) []) (zLz cX7_image) := by
  intro p e R s m args below meth c Q A S H locs x S' g C hG hI hf kk
  obtain ⟨ls, rfl, hl⟩ := hI
  obtain ⟨⟨hx, hb, hml, hown, hts⟩, hr, hlk, hK, hR1, hR2⟩ := id C
  have C : zCx Γ p R s m args meth c cX7_image 3 RX7 (some .boolean) 1 22 := C
  have hl : lv_has ls 3 [(0, .ref (G_m Γ 0)), (1, .int a1)] := hl
  refine lv_iload_n hx hb dX7_image_0 rfl (lv_at hl 1 rfl) ?_
  refine lv_iconst (v := zi 0) hx hb dX7_image_1 rfl ?_
  refine lv_iconst (v := zi 2) hx hb dX7_image_2 rfl ?_
  refine zm_csi (As := [.int a1, .int (zi 0), .int (zi 2)]) (rest := []) C hG hf (ctm_isIn Γ l a1 (zi 0) (zi 2)) (lw_S q1612 q1613 q107 q1614) ytm_isIn rfl rfl (Nat.le_of_ble_eq_true rfl) (Nat.le_of_ble_eq_true rfl) hl.1 (Nat.le_of_ble_eq_true rfl) dX7_image_3 (fun v3 S H locs hG hf => ?_)
  refine lv_if_ne (tgt := 11) hx hb dX7_image_6 (by decide) (fun c6 => ?_) (fun c6 => ?_)
  · have hf := z_f c6 hf
    refine lv_aload_n hx hb dX7_image_11 rfl (lv_at hl 0 rfl) ?_
    refine zm_ga C hG 1 (Nat.le_of_ble_eq_true rfl) (by decide) q1444 dX7_image_12 ?_
    refine lv_iload_n hx hb dX7_image_15 rfl (lv_at hl 1 rfl) ?_
    refine lv_iconst (v := zi 1) hx hb dX7_image_16 rfl ?_
    refine zm_az2 C hG 1 hf (Nat.le_of_ble_eq_true rfl) rfl dX7_image_17 (fun S H locs hG hf => ?_)
    refine lv_iconst (v := zi 0) hx hb dX7_image_18 rfl ?_
    refine lv_istore_n (lv' := [(2, .int (zi 0)), (0, .ref (G_m Γ 0)), (1, .int a1)]) hx hb dX7_image_19 rfl hl (Nat.le_of_ble_eq_true rfl) rfl (fun ls hl => ?_)
    obtain ⟨e20, S, hlp, hf⟩ := nB_some hf
    refine mRg.loop (wm_image_l20 Γ l a1) (zi 0) p e R s m args below meth c Q A _ _ _ _ _ _ C hG ⟨ls, rfl, lv_sub hl [1, 2, 0] rfl⟩ hlp (fun H locs g hL hG => ?_)
    obtain ⟨ls, rfl, hl⟩ := hL
    have hl : lv_has ls 3 [(0, .ref (G_m Γ 0))] := hl
    refine lv_iconst (v := zi 1) hx hb dX7_image_53 rfl ?_
    obtain ⟨rfl, rfl⟩ := z_p hf
    exact kk _ _ _ ⟨_, _, rfl, dX7_image_54, Or.inr rfl⟩ hG
  · have hf := z_t c6 hf
    refine lv_iconst (v := zi 0) hx hb dX7_image_9 rfl ?_
    obtain ⟨rfl, rfl⟩ := z_p hf
    exact kk _ _ _ ⟨_, _, rfl, dX7_image_10, Or.inl rfl⟩ hG
theorem ctm_image (Γ : zG) (l : Launch) (a1 : Int32) : mCt Γ l yX7_image (ws_ yX7_image cX7_image 3 (some .boolean)) 1 22 [.ref (G_m Γ 0), .int a1] (m_image a1) zoi := mCt.mkz (by decide +kernel) (Nat.le_of_ble_eq_true rfl) (wm_image Γ l a1)
theorem ytm_image : yX7_image.cls = RX7 ∧ yX7_image.cls ≠ "java/lang/invoke/MethodHandle" ∧ yX7_image.cls ≠ "java/lang/invoke/VarHandle" ∧ (parseMethodDescriptor yX7_image.desc).map (fun d => d.parameters.length) = some 1 := by decide +kernel
def im_again_l22 (Γ : zG) (f1 : Int32) (m : MethodId) (s : Int32) (g : JFrame) : Prop := zAt0 3 22 [(0, .ref (G_m Γ 0)), (1, .int f1), (2, .int s)] [] m g
def em_again_l22 (Γ : zG) (f1 : Int32) (m : MethodId) (e : Unit) (g : JFrame) : Prop := zAt0 3 55 [(0, .ref (G_m Γ 0))] [] m g
set_option maxHeartbeats 4000000 in
theorem wm_again_l22_b (Γ : zG) (l : Launch) (f1 : Int32) (s2 : Int32) : mRg Γ l yX7_again cX7_again 3 (some .boolean) 1 22 (m_again_l22 f1 s2) (zAt0 3 22 [(0, .ref (G_m Γ 0)), (1, .int f1), (2, .int s2)] []) (zLE (im_again_l22 Γ f1) (em_again_l22 Γ f1)) := by
  intro p e R s m args below meth c Q A S H locs x S' g C hG hI hf kk
  obtain ⟨ls, rfl, hl⟩ := hI
  obtain ⟨⟨hx, hb, hml, hown, hts⟩, hr, hlk, hK, hR1, hR2⟩ := id C
  have C : zCx Γ p R s m args meth c cX7_again 3 RX7 (some .boolean) 1 22 := C
  refine lv_iload_n hx hb dX7_again_22 rfl (lv_at hl 2 rfl) ?_
  refine lv_sipush (v := zi 5520) hx hb dX7_again_23 (by decide +kernel) ?_
  refine lv_icmp_ge (tgt := 55) hx hb dX7_again_26 (by decide) (fun c26 => ?_) (fun c26 => ?_)
  · have hf := z_t c26 hf
    obtain ⟨rfl, rfl⟩ := z_p hf
    exact kk _ _ _ ⟨ls, rfl, lv_sub hl [0] rfl⟩ hG
  · have hf := z_f c26 hf
    refine lv_aload_n hx hb dX7_again_29 rfl (lv_at hl 0 rfl) ?_
    refine zm_ga C hG 0 (Nat.le_of_ble_eq_true rfl) (by decide) q1443 dX7_again_30 ?_
    refine lv_iload_n hx hb dX7_again_33 rfl (lv_at hl 2 rfl) ?_
    refine lv_aload_n hx hb dX7_again_34 rfl (lv_at hl 0 rfl) ?_
    refine zm_ga C hG 0 (Nat.le_of_ble_eq_true rfl) (by decide) q1443 dX7_again_35 ?_
    refine lv_sipush (v := zi 5520) hx hb dX7_again_38 (by decide +kernel) ?_
    refine lv_iload_n hx hb dX7_again_41 rfl (lv_at hl 1 rfl) ?_
    refine lv_iconst (v := zi 1) hx hb dX7_again_42 rfl ?_
    refine lv_iadd hx hb dX7_again_43 ?_
    refine lv_imul hx hb dX7_again_44 ?_
    refine lv_iload_n hx hb dX7_again_45 rfl (lv_at hl 2 rfl) ?_
    refine lv_iadd hx hb dX7_again_46 ?_
    refine zm_al C hG 0 hf (Nat.le_of_ble_eq_true rfl) rfl dX7_again_47 (fun v47 hf => ?_)
    refine zm_as C hG 0 hf (Nat.le_of_ble_eq_true rfl) rfl dX7_again_48 (fun S H locs hG hf => ?_)
    refine z_iinc (fun v => [(2, .int v), (0, .ref (G_m Γ 0)), (1, .int f1)]) hx hb hf dX7_again_49 hl (k := 2) rfl (Nat.le_of_ble_eq_true rfl) (fun _ => rfl) (fun n49 ls hf hl => ?_)
    refine lv_goto (tgt := 22) hx hb dX7_again_52 (by decide) ?_
    obtain ⟨rfl, rfl⟩ := z_p hf
    exact kk _ _ _ ⟨ls, rfl, lv_sub hl [1, 2, 0] rfl⟩ hG
theorem wm_again_l22 (Γ : zG) (l : Launch) (f1 : Int32) : ∀ s : Int32, mRg Γ l yX7_again cX7_again 3 (some .boolean) 1 22 (m_again_l22 f1 s) (fun m => im_again_l22 Γ f1 m s) (zLE (im_again_l22 Γ f1) (em_again_l22 Γ f1)) := fun s => wm_again_l22_b Γ l f1 s
set_option maxHeartbeats 4000000 in
theorem wm_again (Γ : zG) (l : Launch) (a1 : Int32) : mRg Γ l yX7_again cX7_again 3 (some .boolean) 1 22 (m_again a1) (zAt0 3 0 (lv_args 0 [.ref (G_m Γ 0), .int a1]) []) (zLz cX7_again) := by
  intro p e R s m args below meth c Q A S H locs x S' g C hG hI hf kk
  obtain ⟨ls, rfl, hl⟩ := hI
  obtain ⟨⟨hx, hb, hml, hown, hts⟩, hr, hlk, hK, hR1, hR2⟩ := id C
  have C : zCx Γ p R s m args meth c cX7_again 3 RX7 (some .boolean) 1 22 := C
  have hl : lv_has ls 3 [(0, .ref (G_m Γ 0)), (1, .int a1)] := hl
  refine lv_iload_n hx hb dX7_again_0 rfl (lv_at hl 1 rfl) ?_
  refine lv_iconst (v := zi 0) hx hb dX7_again_1 rfl ?_
  refine lv_iconst (v := zi 2) hx hb dX7_again_2 rfl ?_
  refine zm_csi (As := [.int a1, .int (zi 0), .int (zi 2)]) (rest := []) C hG hf (ctm_isIn Γ l a1 (zi 0) (zi 2)) (lw_S q1612 q1613 q107 q1614) ytm_isIn rfl rfl (Nat.le_of_ble_eq_true rfl) (Nat.le_of_ble_eq_true rfl) hl.1 (Nat.le_of_ble_eq_true rfl) dX7_again_3 (fun v3 S H locs hG hf => ?_)
  refine lv_if_eq (tgt := 18) hx hb dX7_again_6 (by decide) (fun c6 => ?_) (fun c6 => ?_)
  · have hf := z_t c6 hf
    refine lv_iconst (v := zi 0) hx hb dX7_again_18 rfl ?_
    obtain ⟨rfl, rfl⟩ := z_p hf
    exact kk _ _ _ ⟨_, _, rfl, dX7_again_19, Or.inl rfl⟩ hG
  · have hf := z_f c6 hf
    refine lv_aload_n hx hb dX7_again_9 rfl (lv_at hl 0 rfl) ?_
    refine zm_ga C hG 1 (Nat.le_of_ble_eq_true rfl) (by decide) q1444 dX7_again_10 ?_
    refine lv_iload_n hx hb dX7_again_13 rfl (lv_at hl 1 rfl) ?_
    refine zm_az C hG 1 hf (Nat.le_of_ble_eq_true rfl) rfl dX7_again_14 (fun v14 hf => ?_)
    refine lv_if_ne (tgt := 20) hx hb dX7_again_15 (by decide) (fun c15 => ?_) (fun c15 => ?_)
    · have hf := z_f c15 hf
      refine lv_iconst (v := zi 0) hx hb dX7_again_20 rfl ?_
      refine lv_istore_n (lv' := [(2, .int (zi 0)), (0, .ref (G_m Γ 0)), (1, .int a1)]) hx hb dX7_again_21 rfl hl (Nat.le_of_ble_eq_true rfl) rfl (fun ls hl => ?_)
      obtain ⟨e22, S, hlp, hf⟩ := nB_some hf
      refine mRg.loop (wm_again_l22 Γ l a1) (zi 0) p e R s m args below meth c Q A _ _ _ _ _ _ C hG ⟨ls, rfl, lv_sub hl [1, 2, 0] rfl⟩ hlp (fun H locs g hL hG => ?_)
      obtain ⟨ls, rfl, hl⟩ := hL
      have hl : lv_has ls 3 [(0, .ref (G_m Γ 0))] := hl
      refine lv_iconst (v := zi 1) hx hb dX7_again_55 rfl ?_
      obtain ⟨rfl, rfl⟩ := z_p hf
      exact kk _ _ _ ⟨_, _, rfl, dX7_again_56, Or.inr rfl⟩ hG
    · have hf := z_t c15 hf
      refine lv_iconst (v := zi 0) hx hb dX7_again_18 rfl ?_
      obtain ⟨rfl, rfl⟩ := z_p hf
      exact kk _ _ _ ⟨_, _, rfl, dX7_again_19, Or.inl rfl⟩ hG
theorem ctm_again (Γ : zG) (l : Launch) (a1 : Int32) : mCt Γ l yX7_again (ws_ yX7_again cX7_again 3 (some .boolean)) 1 22 [.ref (G_m Γ 0), .int a1] (m_again a1) zoi := mCt.mkz (by decide +kernel) (Nat.le_of_ble_eq_true rfl) (wm_again Γ l a1)
theorem ytm_again : yX7_again.cls = RX7 ∧ yX7_again.cls ≠ "java/lang/invoke/MethodHandle" ∧ yX7_again.cls ≠ "java/lang/invoke/VarHandle" ∧ (parseMethodDescriptor yX7_again.desc).map (fun d => d.parameters.length) = some 1 := by decide +kernel
