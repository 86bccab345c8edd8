set_option maxRecDepth 100000
/-! the model as functions (printed by genm.py) -/
noncomputable def m_feed_l21_j74 (b1 : Int32) (b2 : Int32) (b3 : Int32) (b4 : Int32) (b5 : Int32) (b6 : Int32) (t0 : Int32) : mN ((Int32) ⊕ (Unit)) :=
  nB (mA 0 (zi 6)) fun v88 =>
  nB (mS 0 ((zi 70) + v88) ((t0 >>> (((zi 24) - ((zi 8) * (b6 - b6 / (zi 4) * (zi 4)))) &&& 31)) &&& (zi 255))) fun _ =>
  nB (mA 0 (zi 6)) fun v115 =>
  nB (mS 0 (zi 6) (v115 + (zi 1))) fun _ =>
  nE (b6 + zi 1) fun n119 =>
  nP (Sum.inl n119)
noncomputable def m_feed_l21 (f1 : Int32) (f2 : Int32) (f3 : Int32) (f4 : Int32) (f5 : Int32) (s6 : Int32) : mN ((Int32) ⊕ (Unit)) :=
  if (zi 20) ≤ s6 then (nP (Sum.inr ())) else (if (zi 4) ≤ s6 then (if (zi 8) ≤ s6 then (if (zi 12) ≤ s6 then (if (zi 16) ≤ s6 then (m_feed_l21_j74 f1 f2 f3 f4 f5 s6 f5) else (m_feed_l21_j74 f1 f2 f3 f4 f5 s6 f4)) else (m_feed_l21_j74 f1 f2 f3 f4 f5 s6 f3)) else (m_feed_l21_j74 f1 f2 f3 f4 f5 s6 f2)) else (m_feed_l21_j74 f1 f2 f3 f4 f5 s6 f1))
noncomputable def m_feed (a1 : Int32) (a2 : Int32) (a3 : Int32) (a4 : Int32) (a5 : Int32) : mN Int32 :=
  nB (mA 0 (zi 6)) fun v6 =>
  if (v6 + (zi 20)) ≤ (zi 500) then (nB (nLp (fun s => m_feed_l21 a1 a2 a3 a4 a5 s) (zi 0)) fun e21 =>
  nB (mA 0 (zi 6)) fun v131 =>
  nP v131) else (nP (zi (-1)))
def m_end (a1 : Int32) : mN Int32 :=
  if a1 < 0 then (nP (zi (-1))) else (nB (mA 0 (zi 6)) fun v11 =>
  if a1 ≤ v11 then (nB (mS 0 (zi 6) a1) fun _ =>
  nP a1) else (nP (zi (-1))))
def m_begins : mN Unit :=
  nB (mA 0 (zi 6)) fun v7 =>
  nB (mW 2 v7) fun _ =>
  nB (mS 0 (zi 6) (zi 0)) fun _ =>
  nB (mS 0 (zi 7) (zi 0)) fun _ =>
  nB (mS 0 (zi 8) (zi (-1))) fun _ =>
  nB (mW 3 (zi 0)) fun _ =>
  nB (mV 9 (zi 0)) fun _ =>
  nB (mW 10 (zi 0)) fun _ =>
  nB (mW 11 (zi 0)) fun _ =>
  nP ()
def m_isIn (a0 : Int32) (a1 : Int32) (a2 : Int32) : mN Int32 :=
  if a0 < a1 then (nP (zi 0)) else (if a2 < a0 then (nP (zi 0)) else (nP (zi 1)))
def m_isHouse (a1 : Int32) : mN Int32 :=
  nB (mA 0 (zi 0)) fun v7 =>
  nB (m_isIn a1 (zi 0) (v7 - (zi 1))) fun v10 =>
  nC (v10 = 0 ∨ v10 = 1) (nP v10)
def m_houseAt (a0 : Int32) : mN Int32 :=
  nP ((zi 1870) + ((zi 160) * a0))
def m_byteAt (a1 : Int32) : mN Int32 :=
  nB (mF 2) fun v2 =>
  if v2 ≤ a1 then (nP (zi (-1))) else (nB (mA 0 ((zi 70) + a1)) fun v16 =>
  nP v16)
def m_isLetter (a0 : Int32) : mN Int32 :=
  if a0 < (zi 97) then (nP (zi 0)) else (if (zi 122) < a0 then (nP (zi 0)) else (nP (zi 1)))
def m_three (a0 : Int32) (a1 : Int32) (a2 : Int32) : mN Int32 :=
  nP (((((((zi 32) * (a0 - (zi 96))) + a1) - (zi 96)) * (zi 32)) + a2) - (zi 96))
def m_four (a0 : Int32) (a1 : Int32) (a2 : Int32) (a3 : Int32) : mN Int32 :=
  nB (m_three a0 a1 a2) fun v5 =>
  nP ((((zi 32) * v5) + a3) - (zi 96))
def m_two (a0 : Int32) (a1 : Int32) : mN Int32 :=
  nP ((((zi 32) * (a0 - (zi 96))) + a1) - (zi 96))
def m_wordOf (a0 : Int32) : mN Int32 :=
  nB (m_three (zi 98) (zi 111) (zi 120)) fun v7 =>
  if a0 = v7 then (nP (zi 0)) else (nB (m_four (zi 102) (zi 111) (zi 114) (zi 109)) fun v24 =>
  if a0 = v24 then (nP (zi 1)) else (nB (m_four (zi 112) (zi 97) (zi 115) (zi 115)) fun v41 =>
  if a0 = v41 then (nP (zi 2)) else (nB (m_four (zi 99) (zi 97) (zi 114) (zi 100)) fun v58 =>
  if a0 = v58 then (nP (zi 3)) else (nB (m_three (zi 112) (zi 105) (zi 110)) fun v73 =>
  if a0 = v73 then (nP (zi 4)) else (nB (m_four (zi 108) (zi 111) (zi 103) (zi 111)) fun v90 =>
  if a0 = v90 then (nP (zi 5)) else (nB (m_four (zi 116) (zi 101) (zi 120) (zi 116)) fun v107 =>
  if a0 = v107 then (nP (zi 6)) else (nB (m_four (zi 108) (zi 105) (zi 110) (zi 107)) fun v125 =>
  if a0 = v125 then (nP (zi 7)) else (nB (m_four (zi 108) (zi 97) (zi 110) (zi 100)) fun v143 =>
  if a0 = v143 then (nP (zi 8)) else (nB (m_three (zi 100) (zi 97) (zi 121)) fun v159 =>
  if a0 = v159 then (nP (zi 9)) else (nB (m_four (zi 114) (zi 101) (zi 97) (zi 100)) fun v177 =>
  if a0 = v177 then (nP (zi 10)) else (nB (m_two (zi 116) (zi 111)) fun v191 =>
  if a0 = v191 then (nP (zi 11)) else (nB (m_three (zi 109) (zi 105) (zi 120)) fun v207 =>
  if a0 = v207 then (nP (zi 12)) else (nB (m_three (zi 112) (zi 117) (zi 116)) fun v223 =>
  if a0 = v223 then (nP (zi 13)) else (nB (m_four (zi 115) (zi 101) (zi 110) (zi 100)) fun v241 =>
  if a0 = v241 then (nP (zi 14)) else (nB (m_two (zi 105) (zi 102)) fun v255 =>
  if a0 = v255 then (nP (zi 15)) else (nB (m_two (zi 103) (zi 111)) fun v269 =>
  if a0 = v269 then (nP (zi 16)) else (nB (m_four (zi 115) (zi 116) (zi 111) (zi 112)) fun v287 =>
  if a0 = v287 then (nP (zi 17)) else (nP (zi 99)))))))))))))))))))
def m_isDigit (a0 : Int32) : mN Int32 :=
  if a0 < (zi 48) then (nP (zi 0)) else (if (zi 57) < a0 then (nP (zi 0)) else (nP (zi 1)))
noncomputable def m_advance_l0_j26 : mN ((Unit) ⊕ (Unit)) :=
  nB (mF 3) fun v28 =>
  nB (mW 3 (v28 + (zi 1))) fun _ =>
  nP (Sum.inl ())
noncomputable def m_advance_l0 : mN ((Unit) ⊕ (Unit)) :=
  nB (mF 3) fun v2 =>
  nB (m_byteAt v2) fun v5 =>
  if v5 = (zi 10) then (m_advance_l0_j26) else (nB (mF 3) fun v15 =>
  nB (m_byteAt v15) fun v18 =>
  if v18 = (zi 32) then (m_advance_l0_j26) else (nP (Sum.inr ())))
noncomputable def m_advance_j326 (t0 : Int32) : mN Unit :=
  nB (mW 5 t0) fun _ =>
  nP ()
noncomputable def m_advance_j321 : mN Unit :=
  m_advance_j326 (zi 2)
noncomputable def m_advance_l193_j243 : mN ((Unit) ⊕ (Unit)) :=
  nB (mF 3) fun v245 =>
  nB (mW 3 (v245 + (zi 1))) fun _ =>
  nP (Sum.inl ())
noncomputable def m_advance_l193 : mN ((Unit) ⊕ (Unit)) :=
  nB (mF 3) fun v195 =>
  nB (m_byteAt v195) fun v198 =>
  nB (m_isDigit v198) fun v201 =>
  if v201 = 0 then (nP (Sum.inr ())) else (nB (mF 3) fun v208 =>
  nB (mF 4) fun v212 =>
  if (zi 4) ≤ (v208 - v212) then (m_advance_l193_j243) else (nB (mF 6) fun v224 =>
  nB (mF 3) fun v230 =>
  nB (m_byteAt v230) fun v233 =>
  nB (mW 6 ((((zi 10) * v224) + v233) - (zi 48))) fun _ =>
  m_advance_l193_j243))
noncomputable def m_advance_j275 (t0 : Int32) : mN Unit :=
  nB (mW 5 t0) fun _ =>
  nP ()
noncomputable def m_advance_l77_j121 (b2 : Int32) : mN ((Int32) ⊕ (Int32)) :=
  nB (mF 3) fun v123 =>
  nB (mW 3 (v123 + (zi 1))) fun _ =>
  nP (Sum.inl b2)
noncomputable def m_advance_l77 (s2 : Int32) : mN ((Int32) ⊕ (Int32)) :=
  nB (mF 3) fun v79 =>
  nB (m_byteAt v79) fun v82 =>
  nB (m_isLetter v82) fun v85 =>
  if v85 = 0 then (nP (Sum.inr s2)) else (nB (mF 3) fun v92 =>
  nB (mF 4) fun v96 =>
  if (zi 5) ≤ (v92 - v96) then (m_advance_l77_j121 s2) else (nB (mF 3) fun v110 =>
  nB (m_byteAt v110) fun v113 =>
  nE ((((zi 32) * s2) + v113) - (zi 96)) fun n120 =>
  m_advance_l77_j121 n120))
noncomputable def m_advance_j175 (t0 : Int32) : mN Unit :=
  nB (mW 5 t0) fun _ =>
  nP ()
noncomputable def m_advance_j157 (t0 : Int32) : mN Unit :=
  nB (mW 8 t0) fun _ =>
  nB (mF 8) fun v162 =>
  if v162 = (zi 99) then (m_advance_j175 (zi 4)) else (m_advance_j175 (zi 3))
noncomputable def m_advance : mN Unit :=
  nB (nLp (fun s => m_advance_l0) ()) fun e0 =>
  nB (mF 3) fun v41 =>
  nB (mW 4 v41) fun _ =>
  nB (mF 3) fun v49 =>
  nB (m_byteAt v49) fun v52 =>
  if 0 ≤ v52 then (nB (m_isLetter v52) fun v69 =>
  if v69 = 0 then (nB (m_isDigit v52) fun v182 =>
  if v182 = 0 then (nB (mF 3) fun v283 =>
  nB (mW 3 (v283 + (zi 1))) fun _ =>
  nB (mW 7 v52) fun _ =>
  if v52 = (zi 40) then (m_advance_j321) else (if v52 = (zi 41) then (m_advance_j321) else (if v52 = (zi 59) then (m_advance_j321) else (if v52 = (zi 60) then (m_advance_j321) else (m_advance_j326 (zi 4)))))) else (nB (mW 6 (zi 0)) fun _ =>
  nB (nLp (fun s => m_advance_l193) ()) fun e193 =>
  nB (mF 3) fun v258 =>
  nB (mF 4) fun v262 =>
  if (v258 - v262) ≤ (zi 4) then (m_advance_j275 (zi 1)) else (m_advance_j275 (zi 4)))) else (nB (nLp (fun s => m_advance_l77 s) (zi 0)) fun e77 =>
  nB (mF 3) fun v136 =>
  nB (mF 4) fun v140 =>
  if (v136 - v140) ≤ (zi 4) then (nB (m_wordOf e77) fun v154 =>
  m_advance_j157 v154) else (m_advance_j157 (zi 99)))) else (nB (mW 5 (zi 0)) fun _ =>
  nP ())
def m_ends : mN Unit :=
  nB (mF 9) fun v1 =>
  if v1 = 0 then (nB (mV 9 (zi 1)) fun _ =>
  nB (mS 0 (zi 7) (zi 1)) fun _ =>
  nB (mF 4) fun v28 =>
  nB (mS 0 (zi 8) v28) fun _ =>
  nP ()) else (nP ())
def m_also_j51 (b1 : Int32) (b2 : Int32) : mN Unit :=
  nB (mS 0 (zi 7) b1) fun _ =>
  nB (mS 0 (zi 8) b2) fun _ =>
  nP ()
def m_also (a1 : Int32) (a2 : Int32) : mN Unit :=
  nB (mF 9) fun v1 =>
  if v1 = 0 then (nB (mA 0 (zi 7)) fun v13 =>
  if v13 = 0 then (m_also_j51 a1 a2) else (nB (mA 0 (zi 8)) fun v23 =>
  if v23 < a2 then (nP ()) else (nB (mA 0 (zi 8)) fun v34 =>
  if v34 = a2 then (nB (mA 0 (zi 7)) fun v45 =>
  if a1 < v45 then (m_also_j51 a1 a2) else (nP ())) else (m_also_j51 a1 a2)))) else (nP ())
noncomputable def m_numbered_j15 : mN Int32 :=
  nB (m_ends) fun _ =>
  nP (zi 0)
noncomputable def m_numbered_j40 (b2 : Int32) : mN Int32 :=
  nB (m_advance) fun _ =>
  nP b2
noncomputable def m_numbered (a1 : Int32) : mN Int32 :=
  nB (mF 9) fun v1 =>
  if v1 = 0 then (nB (mF 5) fun v8 =>
  if v8 = (zi 1) then (nB (mF 6) fun v22 =>
  if v22 ≤ a1 then (m_numbered_j40 v22) else (nB (mF 4) fun v34 =>
  nB (m_also (zi 2) v34) fun _ =>
  m_numbered_j40 v22)) else (m_numbered_j15)) else (m_numbered_j15)
def m_isWord (a1 : Int32) : mN Int32 :=
  nB (mF 9) fun v1 =>
  if v1 = 0 then (nB (mF 5) fun v8 =>
  if v8 = (zi 3) then (nB (mF 8) fun v16 =>
  if v16 = a1 then (nP (zi 1)) else (nP (zi 0))) else (nP (zi 0))) else (nP (zi 0))
def m_isSign (a1 : Int32) : mN Int32 :=
  nB (mF 9) fun v1 =>
  if v1 = 0 then (nB (mF 5) fun v8 =>
  if v8 = (zi 2) then (nB (mF 7) fun v16 =>
  if v16 = a1 then (nP (zi 1)) else (nP (zi 0))) else (nP (zi 0))) else (nP (zi 0))
noncomputable def m_aBox_j24 : mN Unit :=
  nB (m_ends) fun _ =>
  nP ()
noncomputable def m_aBox_l320 : mN ((Unit) ⊕ (Unit)) :=
  nB (mF 11) fun v321 =>
  if v321 ≤ 0 then (nP (Sum.inr ())) else (nB (m_isSign (zi 41)) fun v330 =>
  if v330 = 0 then (nP (Sum.inr ())) else (nB (m_advance) fun _ =>
  nB (mF 11) fun v342 =>
  nB (mW 11 (v342 - (zi 1))) fun _ =>
  nP (Sum.inl ())))
noncomputable def m_aBox_j310 : mN Unit :=
  nB (mF 10) fun v312 =>
  nB (mW 10 (v312 + (zi 1))) fun _ =>
  nB (nLp (fun s => m_aBox_l320) ()) fun e320 =>
  nP ()
noncomputable def m_aBox_j300 : mN Unit :=
  nB (mF 11) fun v302 =>
  nB (mW 11 (v302 + (zi 1))) fun _ =>
  m_aBox_j310
noncomputable def m_aBox_j270 (b2 : Int32) : mN Unit :=
  nB (m_advance) fun _ =>
  if b2 = 0 then (m_aBox_j310) else (nB (mF 11) fun v279 =>
  if (zi 7) ≤ v279 then (m_aBox_j300) else (nB (mF 11) fun v292 =>
  nB (mF 10) fun v296 =>
  nB (mS 12 v292 v296) fun _ =>
  m_aBox_j300))
noncomputable def m_aBox_j245 : mN Unit :=
  nB (m_isSign (zi 40)) fun v248 =>
  if v248 = 0 then (nB (m_isSign (zi 59)) fun v259 =>
  if v259 = 0 then (nB (m_ends) fun _ =>
  nP ()) else (m_aBox_j270 v248)) else (m_aBox_j270 v248)
noncomputable def m_aBox_j218 (b1 : Int32) : mN Unit :=
  nB (m_isWord (zi 9)) fun v221 =>
  if v221 = 0 then (m_aBox_j245) else (nB (m_advance) fun _ =>
  nB (m_numbered (zi 99)) fun v241 =>
  nB (mS 13 (b1 + (zi 4)) v241) fun _ =>
  m_aBox_j245)
noncomputable def m_aBox_j173 (b1 : Int32) (t0 : Int32) (t1 : Int32) : mN Unit :=
  nB (mS 13 t1 t0) fun _ =>
  nB (mS 13 (b1 + (zi 3)) (zi (-1))) fun _ =>
  nB (mS 13 (b1 + (zi 4)) (zi 0)) fun _ =>
  nB (m_isWord (zi 8)) fun v195 =>
  if v195 = 0 then (m_aBox_j218 b1) else (nB (m_advance) fun _ =>
  nB (m_numbered (zi 3)) fun v214 =>
  nB (mS 13 (b1 + (zi 3)) v214) fun _ =>
  m_aBox_j218 b1)
noncomputable def m_aBox_j158 (b1 : Int32) (t0 : Int32) : mN Unit :=
  m_aBox_j173 b1 (zi (-1)) t0
noncomputable def m_aBox_j134 (b1 : Int32) (t0 : Int32) (t1 : Int32) : mN Unit :=
  nB (mS 13 t1 t0) fun _ =>
  nB (mF 11) fun v143 =>
  if v143 = 0 then (m_aBox_j158 b1 (b1 + (zi 2))) else (nB (mF 11) fun v150 =>
  if v150 ≤ (zi 6) then (nB (mF 11) fun v167 =>
  nB (mA 12 (v167 - (zi 1))) fun v172 =>
  m_aBox_j173 b1 v172 (b1 + (zi 2))) else (m_aBox_j158 b1 (b1 + (zi 2))))
noncomputable def m_aBox_j133 (b1 : Int32) (t0 : Int32) : mN Unit :=
  m_aBox_j134 b1 (zi 0) t0
noncomputable def m_aBox_j85 (t0 : Int32) (t1 : Int32) (t2 : Int32) : mN Unit :=
  nE (t2 + (t1 * t0)) fun n87 =>
  nB (mF 8) fun v94 =>
  nB (mS 13 n87 v94) fun _ =>
  nB (m_advance) fun _ =>
  nB (mF 9) fun v110 =>
  if v110 = 0 then (nB (mF 5) fun v117 =>
  if v117 = (zi 1) then (nB (m_numbered (zi 9)) fun v127 =>
  m_aBox_j134 n87 v127 (n87 + (zi 1))) else (m_aBox_j133 n87 (n87 + (zi 1)))) else (m_aBox_j133 n87 (n87 + (zi 1)))
noncomputable def m_aBox_j65 : mN Unit :=
  nB (mF 10) fun v68 =>
  if (zi 14) ≤ v68 then (m_aBox_j85 (zi 13) (zi 5) (zi 1)) else (nB (mF 10) fun v77 =>
  m_aBox_j85 v77 (zi 5) (zi 1))
noncomputable def m_aBox_j47 : mN Unit :=
  nB (mF 11) fun v48 =>
  if v48 = (zi 6) then (nB (mF 4) fun v59 =>
  nB (m_also (zi 4) v59) fun _ =>
  m_aBox_j65) else (m_aBox_j65)
noncomputable def m_aBox : mN Unit :=
  nB (mF 9) fun v1 =>
  if v1 = 0 then (nB (mF 5) fun v8 =>
  if v8 = (zi 3) then (nB (mF 8) fun v16 =>
  if v16 ≤ (zi 7) then (nB (mF 10) fun v30 =>
  if v30 = (zi 14) then (nB (mF 4) fun v41 =>
  nB (m_also (zi 3) v41) fun _ =>
  m_aBox_j47) else (m_aBox_j47)) else (m_aBox_j24)) else (m_aBox_j24)) else (m_aBox_j24)
noncomputable def m_reads_l8 : mN ((Unit) ⊕ (Unit)) :=
  nB (mF 9) fun v9 =>
  if v9 = 0 then (nB (mF 11) fun v16 =>
  if v16 ≤ 0 then (nP (Sum.inr ())) else (nB (m_aBox) fun _ =>
  nP (Sum.inl ()))) else (nP (Sum.inr ()))
noncomputable def m_reads_j47 : mN Int32 :=
  nB (mA 0 (zi 7)) fun v53 =>
  if v53 = 0 then (nP (zi 1)) else (nP (zi 0))
noncomputable def m_reads : mN Int32 :=
  nB (m_advance) fun _ =>
  nB (m_aBox) fun _ =>
  nB (nLp (fun s => m_reads_l8) ()) fun e8 =>
  nB (mF 9) fun v30 =>
  if v30 = 0 then (nB (mF 5) fun v37 =>
  if v37 = 0 then (m_reads_j47) else (nB (m_ends) fun _ =>
  m_reads_j47)) else (m_reads_j47)
def m_ownTree (a0 : Int32) (a1 : Int32) : mN Int32 :=
  nB (m_houseAt a0) fun v1 =>
  nP ((v1 + (zi 14)) + ((zi 72) * a1))
noncomputable def m_keeps_l12 (f1 : Int32) (s2 : Int32) : mN ((Int32) ⊕ (Unit)) :=
  nB (mF 10) fun v15 =>
  if ((zi 5) * v15) < s2 then (nP (Sum.inr ())) else (nB (mA 13 s2) fun v34 =>
  nB (mS 0 (f1 + s2) v34) fun _ =>
  nE (s2 + zi 1) fun n36 =>
  nP (Sum.inl n36))
noncomputable def m_keeps (a1 : Int32) : mN Unit :=
  nB (mF 10) fun v6 =>
  nB (mS 0 a1 v6) fun _ =>
  nB (nLp (fun s => m_keeps_l12 a1 s) (zi 1)) fun e12 =>
  nP ()
noncomputable def m_own (a1 : Int32) : mN Int32 :=
  nB (m_begins) fun _ =>
  nB (m_isHouse a1) fun v6 =>
  if v6 = 0 then (nP (zi (-2))) else (nB (m_houseAt a1) fun v17 =>
  nB (mA 0 (v17 + (zi 13))) fun v23 =>
  if v23 = (zi 2) then (nP (zi (-2))) else (nB (m_reads) fun v32 =>
  if v32 = 0 then (nP (zi (-1))) else (nB (m_houseAt a1) fun v41 =>
  nE (v41 + (zi 13)) fun n47 =>
  nB (mA 0 n47) fun v55 =>
  nB (m_ownTree a1 v55) fun v56 =>
  nB (m_keeps v56) fun _ =>
  nB (mA 0 n47) fun v68 =>
  nB (mS 0 n47 (v68 + (zi 1))) fun _ =>
  nB (mA 0 n47) fun v77 =>
  nP v77)))
def m_pageAt (a0 : Int32) : mN Int32 :=
  nP ((zi 2670) + ((zi 210) * a0))
noncomputable def m_page_l39 (f1 : Int32) (s2 : Int32) : mN ((Int32) ⊕ (Unit)) :=
  if (zi 42) ≤ s2 then (nP (Sum.inr ())) else (nB (mS 0 (f1 + s2) (zi 0)) fun _ =>
  nE (s2 + zi 1) fun n54 =>
  nP (Sum.inl n54))
noncomputable def m_page : mN Int32 :=
  nB (m_begins) fun _ =>
  nB (mA 0 (zi 1)) fun v9 =>
  if v9 = (zi 10) then (nP (zi (-2))) else (nB (m_reads) fun v19 =>
  if v19 = 0 then (nP (zi (-1))) else (nB (mA 0 (zi 1)) fun v32 =>
  nB (m_pageAt v32) fun v33 =>
  nB (nLp (fun s => m_page_l39 v33 s) (zi 0)) fun e39 =>
  nB (mS 0 (v33 + (zi 120)) (zi 0)) fun _ =>
  nB (mS 0 (v33 + (zi 202)) (zi 0)) fun _ =>
  nB (m_keeps (v33 + (zi 42))) fun _ =>
  nB (mA 0 (zi 1)) fun v95 =>
  nB (mS 0 (zi 1) (v95 + (zi 1))) fun _ =>
  nB (mA 0 (zi 1)) fun v104 =>
  nP (v104 - (zi 1))))
def m_signOf (a0 : Int32) : mN Int32 :=
  nB (m_isLetter a0) fun v1 =>
  if v1 = 0 then (nB (m_isDigit a0) fun v15 =>
  if v15 = 0 then (nP (zi (-1))) else (nP (((zi 26) + a0) - (zi 48)))) else (nP (a0 - (zi 97)))
noncomputable def m_named_l4 (f1 : Int32) (s2 : Int32) (s3 : Int32) : mN ((Int32 × Int32) ⊕ (Int32)) :=
  nB (mF 2) fun v6 =>
  if v6 ≤ s3 then (nP (Sum.inr s2)) else (if 0 ≤ s2 then (nP (Sum.inr s2)) else (nB (m_byteAt s3) fun v18 =>
  nB (m_signOf v18) fun v21 =>
  if 0 ≤ v21 then (nE (s3 + zi 1) fun n29 =>
  nP (Sum.inl (s2, n29))) else (nE (s3 + zi 1) fun n29 =>
  nP (Sum.inl (s3, n29)))))
noncomputable def m_named_j146 : mN Int32 :=
  nB (mA 0 (zi 7)) fun v152 =>
  if v152 = 0 then (nP (zi 1)) else (nP (zi 0))
noncomputable def m_named_j69 (t0 : Int32) (t1 : Int32) : mN Int32 :=
  nB (mS 0 t1 t0) fun _ =>
  m_named_j146
noncomputable def m_named_j46 (b2 : Int32) : mN Int32 :=
  nB (mS 0 (zi 7) (zi 1)) fun _ =>
  if 0 ≤ b2 then (m_named_j69 b2 (zi 8)) else (m_named_j69 (zi 0) (zi 8))
noncomputable def m_named_l114 (f1 : Int32) (s3 : Int32) : mN ((Int32) ⊕ (Unit)) :=
  nB (mF 2) fun v116 =>
  if v116 ≤ s3 then (nP (Sum.inr ())) else (nB (m_byteAt s3) fun v133 =>
  nB (m_signOf v133) fun v136 =>
  nB (mS 0 ((f1 + (zi 1)) + s3) v136) fun _ =>
  nE (s3 + zi 1) fun n140 =>
  nP (Sum.inl n140))
noncomputable def m_named (a1 : Int32) : mN Int32 :=
  nB (nLp (fun s => m_named_l4 a1 s.1 s.2) ((zi (-1)), (zi 0))) fun e4 =>
  if 0 ≤ e4 then (m_named_j46 e4) else (nB (mF 2) fun v40 =>
  if v40 = 0 then (m_named_j46 e4) else (nB (mF 2) fun v74 =>
  if v74 ≤ (zi 12) then (nB (mF 2) fun v108 =>
  nB (mS 0 a1 v108) fun _ =>
  nB (nLp (fun s => m_named_l114 a1 s) (zi 0)) fun e114 =>
  m_named_j146) else (nB (mS 0 (zi 7) (zi 2)) fun _ =>
  nB (mS 0 (zi 8) (zi 12)) fun _ =>
  m_named_j146)))
noncomputable def m_house : mN Int32 :=
  nB (m_begins) fun _ =>
  nB (mA 0 (zi 0)) fun v9 =>
  if v9 = (zi 5) then (nP (zi (-2))) else (nB (mA 0 (zi 0)) fun v23 =>
  nB (m_houseAt v23) fun v24 =>
  nB (m_named v24) fun v27 =>
  if v27 = 0 then (nP (zi (-1))) else (nB (mA 0 (zi 0)) fun v44 =>
  nB (m_houseAt v44) fun v45 =>
  nB (mS 0 (v45 + (zi 13)) (zi 0)) fun _ =>
  nB (mA 0 (zi 0)) fun v62 =>
  nB (m_houseAt v62) fun v63 =>
  nB (mS 0 (v63 + (zi 159)) (zi 0)) fun _ =>
  nB (mA 0 (zi 0)) fun v78 =>
  nB (mS 0 (zi 0) (v78 + (zi 1))) fun _ =>
  nB (mA 0 (zi 0)) fun v87 =>
  nP (v87 - (zi 1))))
def m_isPage (a1 : Int32) : mN Int32 :=
  nB (mA 0 (zi 1)) fun v7 =>
  nB (m_isIn a1 (zi 0) (v7 - (zi 1))) fun v10 =>
  nC (v10 = 0 ∨ v10 = 1) (nP v10)
noncomputable def m_name (a1 : Int32) : mN Int32 :=
  nB (m_begins) fun _ =>
  nB (m_isPage a1) fun v6 =>
  if v6 = 0 then (nP (zi 0)) else (nB (m_pageAt a1) fun v14 =>
  nB (m_named v14) fun v17 =>
  if v17 = 0 then (nP (zi 0)) else (nP (zi 1)))
def m_fault (a1 : Int32) : mN Int32 :=
  if a1 = 0 then (nB (mA 0 (zi 7)) fun v10 =>
  nP v10) else (if a1 = (zi 1) then (nB (mA 0 (zi 8)) fun v25 =>
  nP v25) else (nP (zi (-1))))
def m_alike (a1 : Int32) (a2 : Int32) (a3 : Int32) : mN Int32 :=
  nB (m_signOf a1) fun v1 =>
  if v1 < 0 then (nP (zi 0)) else (nB (m_signOf a2) fun v8 =>
  if v8 < 0 then (nP (zi 0)) else (if a1 = a2 then (nP (zi 0)) else (nB (m_isIn a3 (zi 1) (zi 6)) fun v23 =>
  if v23 = 0 then (nP (zi 0)) else (nB (m_signOf a1) fun v41 =>
  nB (m_signOf a2) fun v47 =>
  nB (mS 0 (((zi 570) + ((zi 36) * v41)) + v47) a3) fun _ =>
  nB (m_signOf a2) fun v63 =>
  nB (m_signOf a1) fun v69 =>
  nB (mS 0 (((zi 570) + ((zi 36) * v63)) + v69) a3) fun _ =>
  nP (zi 1)))))
def m_lesser (a0 : Int32) (a1 : Int32) : mN Int32 :=
  if a1 ≤ a0 then (nP a1) else (nP a0)
def m_priceOf (a1 : Int32) (a2 : Int32) : mN Int32 :=
  nB (mA 0 (((zi 570) + ((zi 36) * a1)) + a2)) fun v14 =>
  if a1 = a2 then (nP (zi 0)) else (if v14 = 0 then (nP (zi 6)) else (nP v14))
noncomputable def m_spells_l15_j233 (b1 : Int32) (b2 : Int32) (b3 : Int32) (b4 : Int32) (b5 : Int32) : mN ((Int32) ⊕ (Unit)) :=
  nB (mS 14 (((zi 13) * b3) + b4) b5) fun _ =>
  nE (b4 + zi 1) fun n247 =>
  nP (Sum.inl n247)
noncomputable def m_spells_l15_j153 (b1 : Int32) (b2 : Int32) (b3 : Int32) (b4 : Int32) (b5 : Int32) : mN ((Int32) ⊕ (Unit)) :=
  if b3 ≤ (zi 1) then (m_spells_l15_j233 b1 b2 b3 b4 b5) else (if b4 ≤ (zi 1) then (m_spells_l15_j233 b1 b2 b3 b4 b5) else (nB (mA 0 (b1 + b3)) fun v171 =>
  nB (mA 0 ((b2 + b4) - (zi 1))) fun v182 =>
  if v171 = v182 then (nB (mA 0 ((b1 + b3) - (zi 1))) fun v195 =>
  nB (mA 0 (b2 + b4)) fun v204 =>
  if v195 = v204 then (nB (mA 14 ((((zi 13) * (b3 - (zi 2))) + b4) - (zi 2))) fun v225 =>
  nB (m_lesser b5 (v225 + (zi 3))) fun v228 =>
  m_spells_l15_j233 b1 b2 b3 b4 v228) else (m_spells_l15_j233 b1 b2 b3 b4 b5)) else (m_spells_l15_j233 b1 b2 b3 b4 b5)))
noncomputable def m_spells_l15_j99 (b1 : Int32) (b2 : Int32) (b3 : Int32) (b4 : Int32) (b5 : Int32) : mN ((Int32) ⊕ (Unit)) :=
  if b3 ≤ 0 then (m_spells_l15_j153 b1 b2 b3 b4 b5) else (if b4 ≤ 0 then (m_spells_l15_j153 b1 b2 b3 b4 b5) else (nB (mA 14 ((((zi 13) * (b3 - (zi 1))) + b4) - (zi 1))) fun v125 =>
  nB (mA 0 (b1 + b3)) fun v134 =>
  nB (mA 0 (b2 + b4)) fun v143 =>
  nB (m_priceOf v134 v143) fun v144 =>
  nB (m_lesser b5 (v125 + v144)) fun v148 =>
  m_spells_l15_j153 b1 b2 b3 b4 v148))
noncomputable def m_spells_l15_j71 (b1 : Int32) (b2 : Int32) (b3 : Int32) (b4 : Int32) (b5 : Int32) : mN ((Int32) ⊕ (Unit)) :=
  if b4 ≤ 0 then (m_spells_l15_j99 b1 b2 b3 b4 b5) else (nB (mA 14 ((((zi 13) * b3) + b4) - (zi 1))) fun v91 =>
  nB (m_lesser b5 (v91 + (zi 4))) fun v94 =>
  m_spells_l15_j99 b1 b2 b3 b4 v94)
noncomputable def m_spells_l15_j42 (b1 : Int32) (b2 : Int32) (b3 : Int32) (b4 : Int32) (t0 : Int32) : mN ((Int32) ⊕ (Unit)) :=
  if b3 ≤ 0 then (m_spells_l15_j71 b1 b2 b3 b4 t0) else (nB (mA 14 (((zi 13) * (b3 - (zi 1))) + b4)) fun v63 =>
  nB (m_lesser t0 (v63 + (zi 4))) fun v66 =>
  m_spells_l15_j71 b1 b2 b3 b4 v66)
noncomputable def m_spells_l15_j39 (b1 : Int32) (b2 : Int32) (b3 : Int32) (b4 : Int32) : mN ((Int32) ⊕ (Unit)) :=
  m_spells_l15_j42 b1 b2 b3 b4 (zi 10000)
noncomputable def m_spells_l15 (f1 : Int32) (f2 : Int32) (f3 : Int32) (s4 : Int32) : mN ((Int32) ⊕ (Unit)) :=
  nB (mA 0 f2) fun v22 =>
  if v22 < s4 then (nP (Sum.inr ())) else (if f3 = 0 then (if s4 = 0 then (m_spells_l15_j42 f1 f2 f3 s4 (zi 0)) else (m_spells_l15_j39 f1 f2 f3 s4)) else (m_spells_l15_j39 f1 f2 f3 s4))
noncomputable def m_spells_l2 (f1 : Int32) (f2 : Int32) (s3 : Int32) : mN ((Int32) ⊕ (Unit)) :=
  nB (mA 0 f1) fun v8 =>
  if v8 < s3 then (nP (Sum.inr ())) else (nB (nLp (fun s => m_spells_l15 f1 f2 s3 s) (zi 0)) fun e15 =>
  nE (s3 + zi 1) fun n253 =>
  nP (Sum.inl n253))
noncomputable def m_spells (a1 : Int32) (a2 : Int32) : mN Int32 :=
  nB (nLp (fun s => m_spells_l2 a1 a2 s) (zi 0)) fun e2 =>
  nB (mA 0 a1) fun v270 =>
  nB (mA 0 a2) fun v277 =>
  nB (mA 14 (((zi 13) * v270) + v277)) fun v279 =>
  nP v279
noncomputable def m_spell (a1 : Int32) (a2 : Int32) : mN Int32 :=
  nB (m_isPage a1) fun v2 =>
  if v2 = 0 then (nP (zi (-1))) else (nB (m_isHouse a2) fun v10 =>
  if v10 = 0 then (nP (zi (-1))) else (nB (m_pageAt a1) fun v21 =>
  nB (mA 0 v21) fun v24 =>
  if v24 = 0 then (nP (zi (-1))) else (nB (m_pageAt a1) fun v32 =>
  nB (m_houseAt a2) fun v36 =>
  nB (m_spells v32 v36) fun v39 =>
  nP v39)))
def m_stands (a1 : Int32) (a2 : Int32) (a3 : Int32) : mN Int32 :=
  nB (m_isPage a1) fun v2 =>
  if v2 = 0 then (nP (zi 0)) else (nB (m_isIn a2 (zi 0) (zi 99)) fun v12 =>
  if v12 = 0 then (nP (zi 0)) else (nB (m_isIn a3 (zi 0) (1048575 : Int32)) fun v22 =>
  if v22 = 0 then (nP (zi 0)) else (nB (m_pageAt a1) fun v35 =>
  nB (mS 0 (v35 + (zi 13)) a2) fun _ =>
  nB (m_pageAt a1) fun v48 =>
  nB (mS 0 (v48 + (zi 14)) a3) fun _ =>
  nP (zi 1))))
def m_worth (a1 : Int32) (a2 : Int32) : mN Int32 :=
  nB (m_isIn a1 (zi 0) (zi 7)) fun v4 =>
  if v4 = 0 then (nP (zi 0)) else (nB (m_isIn a2 (zi 0) (zi 99)) fun v14 =>
  if v14 = 0 then (nP (zi 0)) else (nB (mS 0 ((zi 10) + a1) a2) fun _ =>
  nP (zi 1)))
def m_isPerson (a0 : Int32) (a1 : Int32) : mN Int32 :=
  nB (m_isIn a0 (zi 0) (zi 3)) fun v3 =>
  if v3 = 0 then (nP (zi 0)) else (nB (m_isIn a1 (zi 0) (zi 99)) fun v13 =>
  if v13 = 0 then (nP (zi 0)) else (nP (zi 1)))
def m_treeOf (a0 : Int32) : mN Int32 :=
  nB (m_pageAt a0) fun v1 =>
  nP (v1 + (zi 42))
def m_boxOf (a1 : Int32) (a2 : Int32) : mN Int32 :=
  nB (mF 15) fun v5 =>
  nB (mA 0 (((v5 + (zi 1)) + ((zi 5) * a1)) + a2)) fun v16 =>
  nP v16
noncomputable def m_takes_l7 (f1 : Int32) (s2 : Int32) : mN ((Int32) ⊕ (Unit)) :=
  nB (mA 0 f1) fun v13 =>
  if v13 ≤ s2 then (nP (Sum.inr ())) else (nB (mZ 16 s2 (zi 0)) fun _ =>
  nB (m_boxOf s2 (zi 1)) fun v32 =>
  nB (mS 17 s2 v32) fun _ =>
  nE (s2 + zi 1) fun n36 =>
  nP (Sum.inl n36))
noncomputable def m_takes (a1 : Int32) : mN Unit :=
  nB (mW 15 a1) fun _ =>
  nB (nLp (fun s => m_takes_l7 a1 s) (zi 0)) fun e7 =>
  nP ()
def m_closes (a1 : Int32) (a2 : Int32) : mN Unit :=
  nB (mA 22 a1) fun v9 =>
  nE (((zi 16) * a1) + v9) fun n11 =>
  nB (m_boxOf a2 (zi 0)) fun v20 =>
  nB (mS 23 n11 v20) fun _ =>
  nB (mA 17 a2) fun v34 =>
  nB (mS 24 n11 v34) fun _ =>
  nB (mA 21 a2) fun v46 =>
  nB (mS 25 n11 v46) fun _ =>
  nB (mA 22 a1) fun v54 =>
  nB (mS 22 a1 (v54 + (zi 1))) fun _ =>
  nP ()
noncomputable def m_opens_l188 (f1 : Int32) (f2 : Int32) (f3 : Int32) (f5 : Int32) (s4 : Int32) : mN ((Int32) ⊕ (Int32)) :=
  if s4 ≤ 0 then (nP (Sum.inr s4)) else (nB (mA 20 (s4 - (zi 1))) fun v201 =>
  nB (mA 19 f5) fun v208 =>
  if v201 = v208 then (nP (Sum.inr s4)) else (nE (s4 + zi (-1)) fun n212 =>
  nB (mA 20 n212) fun v223 =>
  nB (m_closes f1 v223) fun _ =>
  nP (Sum.inl n212)))
noncomputable def m_opens_l23_j164 (b1 : Int32) (b2 : Int32) (b3 : Int32) (b4 : Int32) (b5 : Int32) (t0 : Int32) (t1 : Int32) : mN ((Int32 × Int32) ⊕ (Int32)) :=
  nB (mS 19 t1 t0) fun _ =>
  nB (mA 18 b5) fun v171 =>
  if v171 = 0 then (nE (b5 + zi 1) fun n289 =>
  nP (Sum.inl (b4, n289))) else (nB (mA 16 b5) fun v181 =>
  if v181 = 0 then (nB (nLp (fun s => m_opens_l188 b1 b2 b3 b5 s) b4) fun e188 =>
  nB (mA 22 b1) fun v241 =>
  nB (mS 21 b5 v241) fun _ =>
  nB (mS 20 e188 b5) fun _ =>
  nE (e188 + zi 1) fun n252 =>
  nB (mF 26) fun v257 =>
  nB (mW 26 (v257 + (zi 1))) fun _ =>
  nB (mF 27) fun v267 =>
  nB (m_boxOf b5 (zi 0)) fun v280 =>
  nB (mA 0 ((zi 10) + v280)) fun v284 =>
  nB (mW 27 (v267 + v284)) fun _ =>
  nE (b5 + zi 1) fun n289 =>
  nP (Sum.inl (n252, n289))) else (nE (b5 + zi 1) fun n289 =>
  nP (Sum.inl (b4, n289))))
noncomputable def m_opens_l23_j126 (b1 : Int32) (b2 : Int32) (b3 : Int32) (b4 : Int32) (b5 : Int32) (b6 : Int32) (t0 : Int32) (t1 : Int32) : mN ((Int32 × Int32) ⊕ (Int32)) :=
  nB (mZ 18 t1 t0) fun _ =>
  if 0 ≤ b6 then (nB (mA 16 b6) fun v148 =>
  if v148 = 0 then (m_opens_l23_j164 b1 b2 b3 b4 b5 b6 b5) else (nB (mA 19 b6) fun v158 =>
  m_opens_l23_j164 b1 b2 b3 b4 b5 v158 b5)) else (m_opens_l23_j164 b1 b2 b3 b4 b5 (zi (-1)) b5)
noncomputable def m_opens_l23_j125 (b1 : Int32) (b2 : Int32) (b3 : Int32) (b4 : Int32) (b5 : Int32) (b6 : Int32) (t0 : Int32) : mN ((Int32 × Int32) ⊕ (Int32)) :=
  m_opens_l23_j126 b1 b2 b3 b4 b5 b6 (zi 0) t0
noncomputable def m_opens_l23_j121 (b1 : Int32) (b2 : Int32) (b3 : Int32) (b4 : Int32) (b5 : Int32) (b6 : Int32) (t0 : Int32) : mN ((Int32 × Int32) ⊕ (Int32)) :=
  m_opens_l23_j126 b1 b2 b3 b4 b5 b6 (zi 1) t0
noncomputable def m_opens_l23_j110 (b1 : Int32) (b2 : Int32) (b3 : Int32) (b4 : Int32) (b5 : Int32) (b6 : Int32) (t0 : Int32) : mN ((Int32 × Int32) ⊕ (Int32)) :=
  nB (m_boxOf b5 (zi 4)) fun v114 =>
  if b3 < v114 then (m_opens_l23_j125 b1 b2 b3 b4 b5 b6 t0) else (m_opens_l23_j121 b1 b2 b3 b4 b5 b6 t0)
noncomputable def m_opens_l23_j66 (b1 : Int32) (b2 : Int32) (b3 : Int32) (b4 : Int32) (b5 : Int32) (b6 : Int32) (t0 : Int32) : mN ((Int32 × Int32) ⊕ (Int32)) :=
  if t0 = 0 then (m_opens_l23_j125 b1 b2 b3 b4 b5 b6 b5) else (nB (mA 16 b5) fun v85 =>
  if v85 = 0 then (nB (m_boxOf b5 (zi 3)) fun v93 =>
  if v93 < 0 then (m_opens_l23_j110 b1 b2 b3 b4 b5 b6 b5) else (nB (m_boxOf b5 (zi 3)) fun v103 =>
  if v103 = b2 then (m_opens_l23_j110 b1 b2 b3 b4 b5 b6 b5) else (m_opens_l23_j125 b1 b2 b3 b4 b5 b6 b5))) else (m_opens_l23_j121 b1 b2 b3 b4 b5 b6 b5))
noncomputable def m_opens_l23_j61 (b1 : Int32) (b2 : Int32) (b3 : Int32) (b4 : Int32) (b5 : Int32) (b6 : Int32) : mN ((Int32 × Int32) ⊕ (Int32)) :=
  m_opens_l23_j66 b1 b2 b3 b4 b5 b6 (zi 1)
noncomputable def m_opens_l23 (f1 : Int32) (f2 : Int32) (f3 : Int32) (s4 : Int32) (s5 : Int32) : mN ((Int32 × Int32) ⊕ (Int32)) :=
  nB (mF 15) fun v30 =>
  nB (mA 0 v30) fun v33 =>
  if v33 ≤ s5 then (nP (Sum.inr s4)) else (nB (m_boxOf s5 (zi 2)) fun v41 =>
  if v41 < 0 then (m_opens_l23_j61 f1 f2 f3 s4 s5 v41) else (nB (mA 18 v41) fun v57 =>
  if v57 = 0 then (m_opens_l23_j66 f1 f2 f3 s4 s5 v41 (zi 0)) else (m_opens_l23_j61 f1 f2 f3 s4 s5 v41)))
noncomputable def m_opens_l295 (f1 : Int32) (s4 : Int32) : mN ((Int32) ⊕ (Unit)) :=
  if s4 ≤ 0 then (nP (Sum.inr ())) else (nE (s4 + zi (-1)) fun n300 =>
  nB (mA 20 n300) fun v311 =>
  nB (m_closes f1 v311) fun _ =>
  nP (Sum.inl n300))
noncomputable def m_opens (a1 : Int32) (a2 : Int32) (a3 : Int32) : mN Unit :=
  nB (mS 22 a1 (zi 0)) fun _ =>
  nB (mW 26 (zi 0)) fun _ =>
  nB (mW 27 (zi 0)) fun _ =>
  nB (nLp (fun s => m_opens_l23 a1 a2 a3 s.1 s.2) ((zi 0), (zi 0))) fun e23 =>
  nB (nLp (fun s => m_opens_l295 a1 s) e23) fun e295 =>
  nB (mA 22 a1) fun v331 =>
  nB (mS 23 (((zi 16) * a1) + v331) (zi (-1))) fun _ =>
  nB (mA 22 a1) fun v348 =>
  nB (mS 24 (((zi 16) * a1) + v348) (zi 0)) fun _ =>
  nB (mA 22 a1) fun v365 =>
  nB (mS 25 (((zi 16) * a1) + v365) (zi 0)) fun _ =>
  nB (mA 22 a1) fun v375 =>
  nB (mS 22 a1 (v375 + (zi 1))) fun _ =>
  nP ()
noncomputable def m_boxes (a1 : Int32) (a2 : Int32) (a3 : Int32) : mN Int32 :=
  nB (m_isPage a1) fun v2 =>
  if v2 = 0 then (nP (zi (-1))) else (nB (m_isPerson a2 a3) fun v10 =>
  if v10 = 0 then (nP (zi (-1))) else (nB (m_treeOf a1) fun v20 =>
  nB (m_takes v20) fun _ =>
  nB (m_opens (zi 0) a2 a3) fun _ =>
  nB (mF 26) fun v34 =>
  nP v34))
def m_box (a1 : Int32) (a2 : Int32) (a3 : Int32) : mN Int32 :=
  nB (m_isPage a1) fun v2 =>
  if v2 = 0 then (nP (zi (-2))) else (nB (m_treeOf a1) fun v15 =>
  nB (mA 0 v15) fun v18 =>
  nB (m_isIn a2 (zi 0) (v18 - (zi 1))) fun v21 =>
  if v21 = 0 then (nP (zi (-2))) else (nB (m_isIn a3 (zi 0) (zi 4)) fun v30 =>
  if v30 = 0 then (nP (zi (-2))) else (nB (m_treeOf a1) fun v41 =>
  nB (mA 0 (((v41 + (zi 1)) + ((zi 5) * a2)) + a3)) fun v52 =>
  nP v52)))
noncomputable def m_isLast_l7_j50 (b1 : Int32) (b2 : Int32) (b4 : Int32) (t0 : Int32) : mN ((Int32 × Int32) ⊕ (Int32)) :=
  nE (b4 + zi 1) fun n51 =>
  nP (Sum.inl (t0, n51))
noncomputable def m_isLast_l7 (f1 : Int32) (f2 : Int32) (s3 : Int32) (s4 : Int32) : mN ((Int32 × Int32) ⊕ (Int32)) :=
  nB (mA 22 (f1 / (zi 16))) fun v17 =>
  if v17 ≤ s4 then (nP (Sum.inr s3)) else (if s3 = 0 then (nP (Sum.inr s3)) else (nB (mA 25 (f1 + s4)) fun v33 =>
  nB (mA 25 (f1 + f2)) fun v41 =>
  if v33 = v41 then (m_isLast_l7_j50 f1 f2 s4 (zi 0)) else (m_isLast_l7_j50 f1 f2 s4 (zi 1))))
noncomputable def m_isLast (a1 : Int32) (a2 : Int32) : mN Int32 :=
  nE (a2 + (zi 1)) fun n5 =>
  nB (nLp (fun s => m_isLast_l7 a1 a2 s.1 s.2) ((zi 1), n5)) fun e7 =>
  nC (e7 = 0 ∨ e7 = 1) (nP e7)
def m_without (a1 : Int32) : mN Int32 :=
  nB (mA 23 a1) fun v5 =>
  if 0 ≤ v5 then (nP (zi 2)) else (nP (zi 1000))
def m_changed_j21 (b1 : Int32) (b2 : Int32) : mN Int32 :=
  nB (mA 23 b1) fun v26 =>
  nB (mA 23 ((zi 16) + b2)) fun v35 =>
  if v26 = v35 then (nP (zi 0)) else (nP (zi 1000))
def m_changed_j93 (t0 : Int32) (t1 : Int32) : mN Int32 :=
  nP (t1 + t0)
def m_changed_j70 (b1 : Int32) (b2 : Int32) (t0 : Int32) : mN Int32 :=
  nB (mA 24 b1) fun v75 =>
  nB (mA 24 ((zi 16) + b2)) fun v84 =>
  if v75 = v84 then (m_changed_j93 (zi 0) t0) else (m_changed_j93 (zi 1) t0)
def m_changed (a1 : Int32) (a2 : Int32) : mN Int32 :=
  nB (mA 23 a1) fun v5 =>
  if v5 < 0 then (m_changed_j21 a1 a2) else (nB (mA 23 ((zi 16) + a2)) fun v17 =>
  if 0 ≤ v17 then (nB (mA 23 a1) fun v52 =>
  nB (mA 23 ((zi 16) + a2)) fun v61 =>
  if v52 = v61 then (m_changed_j70 a1 a2 (zi 0)) else (m_changed_j70 a1 a2 (zi 3))) else (m_changed_j21 a1 a2))
noncomputable def m_lays_l34 (f1 : Int32) (f2 : Int32) (f3 : Int32) (f4 : Int32) (s5 : Int32) : mN ((Int32) ⊕ (Unit)) :=
  if f1 < s5 then (nP (Sum.inr ())) else (nB (mA 29 (((zi 17) * s5) + f4)) fun v66 =>
  nB (m_without s5) fun v70 =>
  nB (mS 29 (((zi 17) * (s5 + (zi 1))) + f4) (v66 + v70)) fun _ =>
  nE (s5 + zi 1) fun n75 =>
  nP (Sum.inl n75))
noncomputable def m_lays_l85 (f1 : Int32) (f2 : Int32) (f3 : Int32) (f4 : Int32) (s5 : Int32) : mN ((Int32) ⊕ (Unit)) :=
  if f2 < s5 then (nP (Sum.inr ())) else (nB (mA 29 (((zi 17) * f3) + s5)) fun v115 =>
  nB (m_without ((zi 16) + s5)) fun v122 =>
  nB (mS 29 ((((zi 17) * f3) + s5) + (zi 1)) (v115 + v122)) fun _ =>
  nE (s5 + zi 1) fun n127 =>
  nP (Sum.inl n127))
noncomputable def m_lays_l146_j309 (b1 : Int32) (b2 : Int32) (b3 : Int32) (b4 : Int32) (b5 : Int32) (b6 : Int32) (b8 : Int32) (t0 : Int32) (t1 : Int32) : mN ((Int32) ⊕ (Unit)) :=
  nB (m_lesser t1 t0) fun v309 =>
  nB (mS 29 ((((zi 17) * (b5 + (zi 1))) + b6) + (zi 1)) v309) fun _ =>
  if b8 = 0 then (nE (b6 + zi 1) fun n353 =>
  nP (Sum.inl n353)) else (nB (mS 28 (((zi 16) * b5) + b6) v309) fun _ =>
  nE (b6 + zi 1) fun n353 =>
  nP (Sum.inl n353))
noncomputable def m_lays_l146_j235 (b1 : Int32) (b2 : Int32) (b3 : Int32) (b4 : Int32) (b5 : Int32) (b6 : Int32) (b7 : Int32) (t0 : Int32) : mN ((Int32) ⊕ (Unit)) :=
  if t0 = 0 then (nB (mA 25 b5) fun v281 =>
  nB (mA 25 ((zi 16) + b6)) fun v292 =>
  nB (mA 29 (((zi 17) * v281) + v292)) fun v294 =>
  nB (mA 28 (((zi 16) * b5) + b6)) fun v307 =>
  m_lays_l146_j309 b1 b2 b3 b4 b5 b6 t0 (v294 + v307) b7) else (nB (mA 29 (((zi 17) * b5) + b6)) fun v256 =>
  nB (m_changed b5 b6) fun v262 =>
  m_lays_l146_j309 b1 b2 b3 b4 b5 b6 t0 (v256 + v262) b7)
noncomputable def m_lays_l146_j234 (b1 : Int32) (b2 : Int32) (b3 : Int32) (b4 : Int32) (b5 : Int32) (b6 : Int32) (b7 : Int32) : mN ((Int32) ⊕ (Unit)) :=
  m_lays_l146_j235 b1 b2 b3 b4 b5 b6 b7 (zi 0)
noncomputable def m_lays_l146 (f1 : Int32) (f2 : Int32) (f3 : Int32) (f4 : Int32) (f5 : Int32) (s6 : Int32) : mN ((Int32) ⊕ (Unit)) :=
  if f2 < s6 then (nP (Sum.inr ())) else (nB (mA 29 ((((zi 17) * f5) + s6) + (zi 1))) fun v166 =>
  nB (m_without f5) fun v170 =>
  nB (mA 29 (((zi 17) * (f5 + (zi 1))) + s6)) fun v188 =>
  nB (m_without ((zi 16) + s6)) fun v195 =>
  nB (m_lesser (v166 + v170) (v188 + v195)) fun v199 =>
  nB (mA 25 f5) fun v210 =>
  if v210 = f3 then (nB (mA 25 ((zi 16) + s6)) fun v224 =>
  if v224 = f4 then (m_lays_l146_j235 f1 f2 f3 f4 f5 s6 v199 (zi 1)) else (m_lays_l146_j234 f1 f2 f3 f4 f5 s6 v199)) else (m_lays_l146_j234 f1 f2 f3 f4 f5 s6 v199))
noncomputable def m_lays_l136 (f1 : Int32) (f2 : Int32) (f3 : Int32) (f4 : Int32) (s5 : Int32) : mN ((Int32) ⊕ (Unit)) :=
  if f1 < s5 then (nP (Sum.inr ())) else (nB (nLp (fun s => m_lays_l146 f1 f2 f3 f4 s5 s) f4) fun e146 =>
  nE (s5 + zi 1) fun n359 =>
  nP (Sum.inl n359))
noncomputable def m_lays (a1 : Int32) (a2 : Int32) : mN Unit :=
  nB (mA 25 a1) fun v5 =>
  nB (mA 25 ((zi 16) + a2)) fun v15 =>
  nB (mS 29 (((zi 17) * v5) + v15) (zi 0)) fun _ =>
  nB (nLp (fun s => m_lays_l34 a1 a2 v5 v15 s) v5) fun e34 =>
  nB (nLp (fun s => m_lays_l85 a1 a2 v5 v15 s) v15) fun e85 =>
  nB (nLp (fun s => m_lays_l136 a1 a2 v5 v15 s) v5) fun e136 =>
  nP ()
noncomputable def m_farNow_l14 (f1 : Int32) (s2 : Int32) : mN ((Int32) ⊕ (Unit)) :=
  nB (mA 22 (zi 1)) fun v20 =>
  if v20 ≤ s2 then (nP (Sum.inr ())) else (nB (m_isLast (zi 0) f1) fun v27 =>
  if v27 = 0 then (nE (s2 + zi 1) fun n49 =>
  nP (Sum.inl n49)) else (nB (m_isLast (zi 16) s2) fun v37 =>
  if v37 = 0 then (nE (s2 + zi 1) fun n49 =>
  nP (Sum.inl n49)) else (nB (m_lays f1 s2) fun _ =>
  nE (s2 + zi 1) fun n49 =>
  nP (Sum.inl n49))))
noncomputable def m_farNow_l2 (s1 : Int32) : mN ((Int32) ⊕ (Unit)) :=
  nB (mA 22 (zi 0)) fun v8 =>
  if v8 ≤ s1 then (nP (Sum.inr ())) else (nB (nLp (fun s => m_farNow_l14 s1 s) (zi 0)) fun e14 =>
  nE (s1 + zi 1) fun n55 =>
  nP (Sum.inl n55))
noncomputable def m_farNow : mN Int32 :=
  nB (nLp (fun s => m_farNow_l2 s) (zi 0)) fun e2 =>
  nB (mA 22 (zi 0)) fun v72 =>
  nB (mA 22 (zi 1)) fun v81 =>
  nB (mA 28 ((((zi 16) * (v72 - (zi 1))) + v81) - (zi 1))) fun v85 =>
  nP v85
noncomputable def m_farOf (a1 : Int32) (a2 : Int32) (a3 : Int32) (a4 : Int32) (a5 : Int32) (a6 : Int32) : mN Int32 :=
  nB (m_takes a1) fun _ =>
  nB (m_opens (zi 0) a2 a3) fun _ =>
  nB (m_takes a4) fun _ =>
  nB (m_opens (zi 1) a5 a6) fun _ =>
  nB (m_farNow) fun v28 =>
  nP v28
noncomputable def m_far (a1 : Int32) (a2 : Int32) (a3 : Int32) (a4 : Int32) : mN Int32 :=
  nB (m_isPage a1) fun v2 =>
  if v2 = 0 then (nP (zi (-1))) else (nB (m_isPage a2) fun v10 =>
  if v10 = 0 then (nP (zi (-1))) else (nB (m_isPerson a3 a4) fun v19 =>
  if v19 = 0 then (nP (zi (-1))) else (nB (m_treeOf a1) fun v27 =>
  nB (m_treeOf a2) fun v34 =>
  nB (m_farOf v27 a3 a4 v34 a3 a4) fun v40 =>
  nP v40)))
noncomputable def m_shows (a1 : Int32) (a2 : Int32) (a3 : Int32) : mN Unit :=
  nB (m_treeOf a1) fun v2 =>
  nB (m_takes v2) fun _ =>
  nB (m_opens (zi 0) a2 a3) fun _ =>
  nP ()
noncomputable def m_lookAt_l8 (f1 : Int32) (f2 : Int32) (f3 : Int32) (s4 : Int32) (s5 : Int32) : mN ((Int32 × Int32) ⊕ (Int32)) :=
  nB (m_houseAt f1) fun v15 =>
  nB (mA 0 (v15 + (zi 13))) fun v21 =>
  if v21 ≤ s5 then (nP (Sum.inr s4)) else (nB (m_ownTree f1 s5) fun v29 =>
  nB (m_takes v29) fun _ =>
  nB (m_opens (zi 1) f2 f3) fun _ =>
  nB (m_farNow) fun v45 =>
  nB (m_lesser s4 v45) fun v48 =>
  nE (s5 + zi 1) fun n53 =>
  nP (Sum.inl (v48, n53)))
noncomputable def m_lookAt (a1 : Int32) (a2 : Int32) (a3 : Int32) : mN Int32 :=
  nB (nLp (fun s => m_lookAt_l8 a1 a2 a3 s.1 s.2) ((zi 999), (zi 0))) fun e8 =>
  nP e8
noncomputable def m_look (a1 : Int32) (a2 : Int32) (a3 : Int32) (a4 : Int32) : mN Int32 :=
  nB (m_isPage a1) fun v2 =>
  if v2 = 0 then (nP (zi (-1))) else (nB (m_isHouse a2) fun v10 =>
  if v10 = 0 then (nP (zi (-1))) else (nB (m_isPerson a3 a4) fun v19 =>
  if v19 = 0 then (nP (zi (-1))) else (nB (m_shows a1 a3 a4) fun _ =>
  nB (m_lookAt a2 a3 a4) fun v40 =>
  nP v40)))
noncomputable def m_likeNow_l10_j47 (b1 : Int32) (b2 : Int32) (b4 : Int32) (b5 : Int32) : mN ((Int32 × Int32) ⊕ (Int32)) :=
  nB (mW 30 b5) fun _ =>
  nE (b4 + zi 1) fun n56 =>
  nP (Sum.inl (b4, n56))
noncomputable def m_likeNow_l10 (f1 : Int32) (f2 : Int32) (s3 : Int32) (s4 : Int32) : mN ((Int32 × Int32) ⊕ (Int32)) :=
  nB (mA 0 (zi 0)) fun v17 =>
  if v17 ≤ s4 then (nP (Sum.inr s3)) else (nB (m_lookAt s4 f1 f2) fun v26 =>
  if s3 < 0 then (m_likeNow_l10_j47 f1 f2 s4 v26) else (nB (mF 30) fun v38 =>
  if v26 < v38 then (m_likeNow_l10_j47 f1 f2 s4 v26) else (nE (s4 + zi 1) fun n56 =>
  nP (Sum.inl (s3, n56)))))
noncomputable def m_likeNow (a1 : Int32) (a2 : Int32) : mN Int32 :=
  nB (mW 30 (zi 0)) fun _ =>
  nB (nLp (fun s => m_likeNow_l10 a1 a2 s.1 s.2) ((zi (-1)), (zi 0))) fun e10 =>
  nP e10
noncomputable def m_like (a1 : Int32) (a2 : Int32) (a3 : Int32) : mN Int32 :=
  nB (m_isPage a1) fun v2 =>
  if v2 = 0 then (nP (zi (-1))) else (nB (m_isPerson a2 a3) fun v10 =>
  if v10 = 0 then (nP (zi (-1))) else (nB (m_shows a1 a2 a3) fun _ =>
  nB (m_likeNow a2 a3) fun v28 =>
  nP v28))
noncomputable def m_asks (a1 : Int32) (a2 : Int32) (a3 : Int32) : mN Int32 :=
  nB (m_isPage a1) fun v2 =>
  if v2 = 0 then (nP (zi (-1))) else (nB (m_isPerson a2 a3) fun v10 =>
  if v10 = 0 then (nP (zi (-1))) else (nB (m_shows a1 a2 a3) fun _ =>
  nB (mF 27) fun v26 =>
  nP v26))
noncomputable def m_strange_l44_j93 (b2 : Int32) (b3 : Int32) (b4 : Int32) (b5 : Int32) (b6 : Int32) : mN ((Int32 × Int32) ⊕ (Int32)) :=
  nE (b5 + zi 1) fun n96 =>
  nP (Sum.inl (b6, n96))
noncomputable def m_strange_l44 (f2 : Int32) (f3 : Int32) (f4 : Int32) (s1 : Int32) (s5 : Int32) : mN ((Int32 × Int32) ⊕ (Int32)) :=
  nB (m_houseAt f3) fun v51 =>
  nB (mA 0 (v51 + (zi 13))) fun v57 =>
  if v57 ≤ s5 then (nP (Sum.inr s1)) else (nB (m_ownTree f2 f4) fun v65 =>
  nB (m_ownTree f3 s5) fun v73 =>
  nB (m_farOf v65 (zi 0) (zi 0) v73 (zi 0) (zi 0)) fun v78 =>
  if s1 < 0 then (m_strange_l44_j93 f2 f3 f4 s5 v78) else (if s1 ≤ v78 then (nE (s5 + zi 1) fun n96 =>
  nP (Sum.inl (s1, n96))) else (m_strange_l44_j93 f2 f3 f4 s5 v78)))
noncomputable def m_strange_l24 (f2 : Int32) (f3 : Int32) (s1 : Int32) (s4 : Int32) : mN ((Int32 × Int32) ⊕ (Int32)) :=
  nB (m_houseAt f2) fun v31 =>
  nB (mA 0 (v31 + (zi 13))) fun v37 =>
  if v37 ≤ s4 then (nP (Sum.inr s1)) else (nB (nLp (fun s => m_strange_l44 f2 f3 s4 s.1 s.2) (s1, (zi 0))) fun e44 =>
  nE (s4 + zi 1) fun n102 =>
  nP (Sum.inl (e44, n102)))
noncomputable def m_strange_l16 (f2 : Int32) (s1 : Int32) (s3 : Int32) : mN ((Int32 × Int32) ⊕ (Int32)) :=
  if f2 ≤ s3 then (nP (Sum.inr s1)) else (nB (nLp (fun s => m_strange_l24 f2 s3 s.1 s.2) (s1, (zi 0))) fun e24 =>
  nE (s3 + zi 1) fun n108 =>
  nP (Sum.inl (e24, n108)))
noncomputable def m_strange_l4 (s1 : Int32) (s2 : Int32) : mN ((Int32 × Int32) ⊕ (Int32)) :=
  nB (mA 0 (zi 0)) fun v10 =>
  if v10 ≤ s2 then (nP (Sum.inr s1)) else (nB (nLp (fun s => m_strange_l16 s2 s.1 s.2) (s1, (zi 0))) fun e16 =>
  nE (s2 + zi 1) fun n114 =>
  nP (Sum.inl (e16, n114)))
noncomputable def m_strange : mN Int32 :=
  nB (nLp (fun s => m_strange_l4 s.1 s.2) ((zi (-1)), (zi 0))) fun e4 =>
  nP e4
def m_marks (a1 : Int32) (a2 : Int32) (a3 : Int32) : mN Int32 :=
  nB (m_isIn a1 (zi 0) (zi 60)) fun v4 =>
  if v4 = 0 then (nP (zi 0)) else (nB (m_isIn a2 (zi 0) (zi 200)) fun v15 =>
  if v15 = 0 then (nP (zi 0)) else (nB (m_isIn a3 (zi 0) (zi 99)) fun v25 =>
  if v25 = 0 then (nP (zi 0)) else (nB (mS 0 (zi 3) a1) fun _ =>
  nB (mS 0 (zi 4) a2) fun _ =>
  nB (mS 0 (zi 5) a3) fun _ =>
  nP (zi 1))))
noncomputable def m_isNameOf_l30_j80 (b1 : Int32) (b2 : Int32) (b4 : Int32) (t0 : Int32) : mN ((Int32 × Int32) ⊕ (Int32)) :=
  nE (b4 + zi 1) fun n81 =>
  nP (Sum.inl (t0, n81))
noncomputable def m_isNameOf_l30_j79 (b1 : Int32) (b2 : Int32) (b4 : Int32) : mN ((Int32 × Int32) ⊕ (Int32)) :=
  m_isNameOf_l30_j80 b1 b2 b4 (zi 0)
noncomputable def m_isNameOf_l30 (f1 : Int32) (f2 : Int32) (s3 : Int32) (s4 : Int32) : mN ((Int32 × Int32) ⊕ (Int32)) :=
  nB (m_houseAt f2) fun v37 =>
  nB (mA 0 v37) fun v40 =>
  if v40 < s4 then (nP (Sum.inr s3)) else (if s3 = 0 then (m_isNameOf_l30_j79 f1 f2 s4) else (nB (m_pageAt f1) fun v53 =>
  nB (mA 0 (v53 + s4)) fun v59 =>
  nB (m_houseAt f2) fun v65 =>
  nB (mA 0 (v65 + s4)) fun v71 =>
  if v59 = v71 then (m_isNameOf_l30_j80 f1 f2 s4 (zi 1)) else (m_isNameOf_l30_j79 f1 f2 s4)))
noncomputable def m_isNameOf_j26 (b1 : Int32) (b2 : Int32) (t0 : Int32) : mN Int32 :=
  nB (nLp (fun s => m_isNameOf_l30 b1 b2 s.1 s.2) (t0, (zi 1))) fun e30 =>
  nC (e30 = 0 ∨ e30 = 1) (nP e30)
noncomputable def m_isNameOf (a1 : Int32) (a2 : Int32) : mN Int32 :=
  nB (m_pageAt a1) fun v5 =>
  nB (mA 0 v5) fun v8 =>
  nB (m_houseAt a2) fun v14 =>
  nB (mA 0 v14) fun v17 =>
  if v8 = v17 then (m_isNameOf_j26 a1 a2 (zi 1)) else (m_isNameOf_j26 a1 a2 (zi 0))
noncomputable def m_judges_j51 (t0 : Int32) : mN Unit :=
  nB (mV 34 t0) fun _ =>
  nP ()
noncomputable def m_judges_j50 : mN Unit :=
  m_judges_j51 (zi 0)
noncomputable def m_judges (a1 : Int32) (a2 : Int32) (a3 : Int32) : mN Unit :=
  nB (mF 27) fun v2 =>
  nB (mW 33 v2) fun _ =>
  nB (m_likeNow a2 a3) fun v12 =>
  nB (mW 31 v12) fun _ =>
  nB (mF 30) fun v20 =>
  nB (mW 32 v20) fun _ =>
  nB (mF 31) fun v28 =>
  if v28 < 0 then (m_judges_j50) else (nB (mF 31) fun v37 =>
  nB (m_isNameOf a1 v37) fun v40 =>
  if v40 = 0 then (m_judges_j51 (zi 1)) else (m_judges_j50))
def m_ageOf (a1 : Int32) (a2 : Int32) : mN Int32 :=
  nB (m_pageAt a1) fun v6 =>
  nB (mA 0 (v6 + (zi 13))) fun v12 =>
  if v12 ≤ a2 then (nB (m_pageAt a1) fun v26 =>
  nB (mA 0 (v26 + (zi 13))) fun v32 =>
  nP (a2 - v32)) else (nP (zi 0))
def m_signsBy_j43 (b1 : Int32) (b2 : Int32) : mN Int32 :=
  nB (mF 34) fun v44 =>
  if v44 = 0 then (nP b2) else (nB (mA 0 (zi 5)) fun v56 =>
  if v56 < b1 then (nP b2) else (nE (b2 ||| (zi 4)) fun n63 =>
  nP n63))
def m_signsBy_j25 (b1 : Int32) (t0 : Int32) : mN Int32 :=
  nB (mF 33) fun v27 =>
  nB (mA 0 (zi 4)) fun v35 =>
  if v27 < v35 then (m_signsBy_j43 b1 t0) else (nE (t0 ||| (zi 2)) fun n42 =>
  m_signsBy_j43 b1 n42)
def m_signsBy_j24 (b1 : Int32) : mN Int32 :=
  m_signsBy_j25 b1 (zi 0)
def m_signsBy (a1 : Int32) : mN Int32 :=
  nB (mF 31) fun v1 =>
  if v1 < 0 then (m_signsBy_j24 a1) else (nB (mF 32) fun v8 =>
  nB (mA 0 (zi 3)) fun v16 =>
  if v16 < v8 then (m_signsBy_j24 a1) else (m_signsBy_j25 a1 (zi 1)))
noncomputable def m_signsOf (a1 : Int32) (a2 : Int32) (a3 : Int32) : mN Int32 :=
  nB (m_shows a1 a2 a3) fun _ =>
  nB (m_judges a1 a2 a3) fun _ =>
  nB (m_ageOf a1 a3) fun v18 =>
  nB (m_signsBy v18) fun v21 =>
  nP v21
noncomputable def m_signs (a1 : Int32) (a2 : Int32) (a3 : Int32) : mN Int32 :=
  nB (m_isPage a1) fun v2 =>
  if v2 = 0 then (nP (zi (-1))) else (nB (m_isPerson a2 a3) fun v10 =>
  if v10 = 0 then (nP (zi (-1))) else (nB (m_signsOf a1 a2 a3) fun v20 =>
  nP v20))
noncomputable def m_ones_l4 (s1 : Int32) (s2 : Int32) : mN ((Int32 × Int32) ⊕ (Int32)) :=
  if s2 = 0 then (nP (Sum.inr s1)) else (nE (s1 + zi 1) fun n8 =>
  nE (s2 &&& (s2 - (zi 1))) fun n16 =>
  nP (Sum.inl (n8, n16)))
noncomputable def m_ones (a0 : Int32) : mN Int32 :=
  nB (nLp (fun s => m_ones_l4 s.1 s.2) ((zi 0), a0)) fun e4 =>
  nP e4
noncomputable def m_sayOf (a0 : Int32) : mN Int32 :=
  if a0 = (zi 7) then (nP (zi 2)) else (nB (m_ones a0) fun v11 =>
  if v11 = (zi 2) then (nP (zi 1)) else (nP (zi 0)))
noncomputable def m_say (a1 : Int32) (a2 : Int32) (a3 : Int32) : mN Int32 :=
  nB (m_isPage a1) fun v2 =>
  if v2 = 0 then (nP (zi (-1))) else (nB (m_isPerson a2 a3) fun v10 =>
  if v10 = 0 then (nP (zi (-1))) else (nB (m_signsOf a1 a2 a3) fun v20 =>
  nB (m_sayOf v20) fun v23 =>
  nP v23))
noncomputable def m_differs (a1 : Int32) (a2 : Int32) (a3 : Int32) (a4 : Int32) (a5 : Int32) : mN Int32 :=
  nB (m_isPage a1) fun v2 =>
  if v2 = 0 then (nP (zi (-1))) else (nB (m_isPerson a2 a3) fun v10 =>
  if v10 = 0 then (nP (zi (-1))) else (nB (m_isPerson a4 a5) fun v20 =>
  if v20 = 0 then (nP (zi (-1))) else (nB (m_treeOf a1) fun v30 =>
  nB (m_treeOf a1) fun v36 =>
  nB (m_farOf v30 a2 a3 v36 a4 a5) fun v43 =>
  nP v43)))
noncomputable def m_hides_l34_j73 (b1 : Int32) (b2 : Int32) (b4 : Int32) (b5 : Int32) (t0 : Int32) : mN ((Int32 × Int32) ⊕ (Int32)) :=
  nE (b5 + zi 1) fun n74 =>
  nP (Sum.inl (t0, n74))
noncomputable def m_hides_l34 (f1 : Int32) (f2 : Int32) (f4 : Int32) (s3 : Int32) (s5 : Int32) : mN ((Int32 × Int32) ⊕ (Int32)) :=
  if f4 ≤ s5 then (nP (Sum.inr s3)) else (nB (m_treeOf f1) fun v43 =>
  nB (m_treeOf f1) fun v50 =>
  nB (m_farOf v43 f4 f2 v50 s5 f2) fun v56 =>
  if v56 ≤ s3 then (m_hides_l34_j73 f1 f2 f4 s5 s3) else (m_hides_l34_j73 f1 f2 f4 s5 v56))
noncomputable def m_hides_l25 (f1 : Int32) (f2 : Int32) (s3 : Int32) (s4 : Int32) : mN ((Int32 × Int32) ⊕ (Int32)) :=
  if (zi 4) ≤ s4 then (nP (Sum.inr s3)) else (nB (nLp (fun s => m_hides_l34 f1 f2 s4 s.1 s.2) (s3, (zi 0))) fun e34 =>
  nE (s4 + zi 1) fun n80 =>
  nP (Sum.inl (e34, n80)))
noncomputable def m_hides (a1 : Int32) (a2 : Int32) : mN Int32 :=
  nB (m_isPage a1) fun v2 =>
  if v2 = 0 then (nP (zi (-1))) else (nB (m_isIn a2 (zi 0) (zi 99)) fun v12 =>
  if v12 = 0 then (nP (zi (-1))) else (nB (nLp (fun s => m_hides_l25 a1 a2 s.1 s.2) ((zi 0), (zi 0))) fun e25 =>
  nP e25))
noncomputable def m_late_l34 (f1 : Int32) (f2 : Int32) (f3 : Int32) (s4 : Int32) : mN ((Int32) ⊕ (Int32 ⊕ (Unit))) :=
  if (zi 100) ≤ s4 then (nP (Sum.inr (Sum.inr ()))) else (nB (m_shows f1 f2 s4) fun _ =>
  nB (mF 26) fun v50 =>
  if v50 = f3 then (nE (s4 + zi 1) fun n60 =>
  nP (Sum.inl n60)) else (nP (Sum.inr (Sum.inl s4))))
noncomputable def m_late (a1 : Int32) (a2 : Int32) : mN Int32 :=
  nB (m_isPage a1) fun v2 =>
  if v2 = 0 then (nP (zi (-1))) else (nB (m_isIn a2 (zi 0) (zi 3)) fun v11 =>
  if v11 = 0 then (nP (zi (-1))) else (nB (m_shows a1 a2 (zi 0)) fun _ =>
  nB (mF 26) fun v27 =>
  nB (nLp (fun s => m_late_l34 a1 a2 v27 s) (zi 1)) (nD (fun e34 => nP e34)
  (fun e34 => nP (zi (-1))))))
def m_keep_j79 (t0 : Int32) (t1 : Int32) : mN Int32 :=
  nB (mS 0 t1 t0) fun _ =>
  nB (mA 0 (zi 2)) fun v86 =>
  nB (mS 0 (zi 2) (v86 + (zi 1))) fun _ =>
  nB (mA 0 (zi 2)) fun v95 =>
  nP (v95 - (zi 1))
def m_keep (a1 : Int32) (a2 : Int32) (a3 : Int32) : mN Int32 :=
  nB (mA 0 (zi 2)) fun v5 =>
  if v5 = (zi 16) then (nP (zi (-1))) else (nB (m_isPage a1) fun v13 =>
  if v13 = 0 then (nP (zi (-1))) else (nB (m_isIn a2 (zi 0) (zi 99)) fun v23 =>
  if v23 = 0 then (nP (zi (-1))) else (nB (mA 0 (zi 2)) fun v39 =>
  nE ((zi 20) + ((zi 3) * v39)) fun n42 =>
  nB (mS 0 n42 a1) fun _ =>
  nB (mS 0 (n42 + (zi 1)) a2) fun _ =>
  if a3 = 0 then (m_keep_j79 (zi 0) (n42 + (zi 2))) else (m_keep_j79 (zi 1) (n42 + (zi 2))))))
noncomputable def m_weighs_l2_j126 (b1 : Int32) (t0 : Int32) (t1 : Int32) : mN ((Int32) ⊕ (Unit)) :=
  nB (mS 37 t1 t0) fun _ =>
  nE (b1 + zi 1) fun n127 =>
  nP (Sum.inl n127)
noncomputable def m_weighs_l2_j79 (b1 : Int32) (b2 : Int32) (t0 : Int32) (t1 : Int32) : mN ((Int32) ⊕ (Unit)) :=
  nB (mS 35 t1 t0) fun _ =>
  nB (mF 33) fun v86 =>
  nB (mS 36 b1 v86) fun _ =>
  nB (mF 34) fun v96 =>
  if v96 = 0 then (m_weighs_l2_j126 b1 (zi 999) b1) else (nB (mA 0 b2) fun v108 =>
  nB (mA 0 (b2 + (zi 1))) fun v116 =>
  nB (m_ageOf v108 v116) fun v117 =>
  m_weighs_l2_j126 b1 v117 b1)
noncomputable def m_weighs_l2 (s1 : Int32) : mN ((Int32) ⊕ (Unit)) :=
  nB (mA 0 (zi 2)) fun v8 =>
  if v8 ≤ s1 then (nP (Sum.inr ())) else (nE ((zi 20) + ((zi 3) * s1)) fun n18 =>
  nB (mA 0 n18) fun v25 =>
  nB (mA 0 (n18 + (zi 1))) fun v34 =>
  nB (m_shows v25 (zi 0) v34) fun _ =>
  nB (mA 0 n18) fun v44 =>
  nB (mA 0 (n18 + (zi 1))) fun v53 =>
  nB (m_judges v44 (zi 0) v53) fun _ =>
  nB (mF 31) fun v63 =>
  if 0 ≤ v63 then (nB (mF 32) fun v76 =>
  m_weighs_l2_j79 s1 n18 v76 s1) else (m_weighs_l2_j79 s1 n18 (zi 999) s1))
noncomputable def m_weighs : mN Unit :=
  nB (nLp (fun s => m_weighs_l2 s) (zi 0)) fun e2 =>
  nP ()
def m_tells_j74 (t0 : Int32) (t1 : Int32) : mN Int32 :=
  if t0 < t1 then (nP (zi 0)) else (nP (zi 1))
def m_tells_j43 (b1 : Int32) (t0 : Int32) : mN Int32 :=
  nB (mS 38 b1 t0) fun _ =>
  if b1 = 0 then (m_tells_j74 (zi 60) t0) else (if b1 = (zi 1) then (m_tells_j74 (zi 200) t0) else (m_tells_j74 (zi 99) t0))
def m_tells (a1 : Int32) (a2 : Int32) : mN Int32 :=
  if 0 ≤ a2 then (if a1 = 0 then (nB (mA 35 a2) fun v17 =>
  m_tells_j43 a1 v17) else (if a1 = (zi 1) then (nB (mA 36 a2) fun v31 =>
  m_tells_j43 a1 (v31 + (zi 1))) else (nB (mA 37 a2) fun v42 =>
  m_tells_j43 a1 v42))) else (m_tells_j43 a1 (zi 0))
noncomputable def m_missed_l4_j128 (b1 : Int32) (b3 : Int32) (t0 : Int32) (t1 : Int32) : mN ((Int32 × Int32) ⊕ (Int32)) :=
  nE (t1 + t0) fun n129 =>
  nE (b3 + zi 1) fun n130 =>
  nP (Sum.inl (n129, n130))
noncomputable def m_missed_l4_j127 (b1 : Int32) (b3 : Int32) (t0 : Int32) : mN ((Int32 × Int32) ⊕ (Int32)) :=
  m_missed_l4_j128 b1 b3 (zi 0) t0
noncomputable def m_missed_l4_j109 (b1 : Int32) (b3 : Int32) (t0 : Int32) : mN ((Int32 × Int32) ⊕ (Int32)) :=
  m_missed_l4_j128 b1 b3 (zi 0) t0
noncomputable def m_missed_l4_j88 (b1 : Int32) (b2 : Int32) (b3 : Int32) (b4 : Int32) (t0 : Int32) : mN ((Int32 × Int32) ⊕ (Int32)) :=
  if b1 = 0 then (if t0 = 0 then (m_missed_l4_j127 b1 b3 b2) else (if b4 = 0 then (m_missed_l4_j128 b1 b3 (zi 1) b2) else (m_missed_l4_j127 b1 b3 b2))) else (if t0 = 0 then (if b4 = 0 then (m_missed_l4_j109 b1 b3 b2) else (m_missed_l4_j128 b1 b3 (zi 1) b2)) else (m_missed_l4_j109 b1 b3 b2))
noncomputable def m_missed_l4_j64 (b1 : Int32) (b2 : Int32) (b3 : Int32) (t0 : Int32) : mN ((Int32 × Int32) ⊕ (Int32)) :=
  nB (mA 0 (((zi 20) + ((zi 3) * b3)) + (zi 2))) fun v78 =>
  if v78 = (zi 1) then (m_missed_l4_j88 b1 b2 b3 t0 (zi 1)) else (m_missed_l4_j88 b1 b2 b3 t0 (zi 0))
noncomputable def m_missed_l4_j63 (b1 : Int32) (b2 : Int32) (b3 : Int32) : mN ((Int32 × Int32) ⊕ (Int32)) :=
  m_missed_l4_j64 b1 b2 b3 (zi 0)
noncomputable def m_missed_l4 (f1 : Int32) (s2 : Int32) (s3 : Int32) : mN ((Int32 × Int32) ⊕ (Int32)) :=
  nB (mA 0 (zi 2)) fun v10 =>
  if v10 ≤ s3 then (nP (Sum.inr s2)) else (nB (mA 35 s3) fun v19 =>
  nB (mA 38 (zi 0)) fun v25 =>
  if v25 < v19 then (m_missed_l4_j63 f1 s2 s3) else (nB (mA 36 s3) fun v34 =>
  nB (mA 38 (zi 1)) fun v40 =>
  if v34 < v40 then (m_missed_l4_j63 f1 s2 s3) else (nB (mA 37 s3) fun v49 =>
  nB (mA 38 (zi 2)) fun v55 =>
  if v55 < v49 then (m_missed_l4_j63 f1 s2 s3) else (m_missed_l4_j64 f1 s2 s3 (zi 1)))))
noncomputable def m_missed (a1 : Int32) : mN Int32 :=
  nB (nLp (fun s => m_missed_l4 a1 s.1 s.2) ((zi 0), (zi 0))) fun e4 =>
  nP e4
def m_isAhead_j19 (b1 : Int32) : mN Int32 :=
  nB (mA 39 (zi 0)) fun v24 =>
  if v24 < 0 then (nP (zi 1)) else (nB (mA 39 (zi 3)) fun v34 =>
  if v34 ≤ b1 then (nP (zi 0)) else (nP (zi 1)))
def m_isAhead (a1 : Int32) (a2 : Int32) : mN Int32 :=
  nB (mA 39 (zi 0)) fun v5 =>
  if v5 < 0 then (m_isAhead_j19 a1) else (nB (mA 39 (zi 3)) fun v15 =>
  if a1 = v15 then (nB (mA 39 (zi 4)) fun v50 =>
  if a2 = v50 then (nB (mA 38 (zi 0)) fun v75 =>
  nB (mA 39 (zi 0)) fun v81 =>
  if v75 = v81 then (nB (mA 38 (zi 1)) fun v111 =>
  nB (mA 39 (zi 1)) fun v117 =>
  if v111 = v117 then (nB (mA 38 (zi 2)) fun v149 =>
  nB (mA 39 (zi 2)) fun v155 =>
  if v155 ≤ v149 then (nP (zi 0)) else (nP (zi 1))) else (nB (mA 38 (zi 1)) fun v126 =>
  nB (mA 39 (zi 1)) fun v132 =>
  if v132 ≤ v126 then (nP (zi 0)) else (nP (zi 1)))) else (nB (mA 38 (zi 0)) fun v90 =>
  nB (mA 39 (zi 0)) fun v96 =>
  if v96 ≤ v90 then (nP (zi 0)) else (nP (zi 1)))) else (nB (mA 39 (zi 4)) fun v60 =>
  if v60 ≤ a2 then (nP (zi 0)) else (nP (zi 1)))) else (m_isAhead_j19 a1))
noncomputable def m_fits_l123 (f1 : Int32) (f2 : Int32) (f3 : Int32) (f4 : Int32) (f5 : Int32) (f6 : Int32) (s7 : Int32) : mN ((Int32) ⊕ (Unit)) :=
  if (zi 3) ≤ s7 then (nP (Sum.inr ())) else (nB (mA 38 s7) fun v141 =>
  nB (mS 39 s7 v141) fun _ =>
  nE (s7 + zi 1) fun n143 =>
  nP (Sum.inl n143))
noncomputable def m_fits_l62 (f1 : Int32) (f2 : Int32) (f3 : Int32) (s4 : Int32) : mN ((Int32) ⊕ (Unit)) :=
  nB (mA 0 (zi 2)) fun v69 =>
  if v69 ≤ s4 then (nP (Sum.inr ())) else (nB (m_tells (zi 2) s4) fun v77 =>
  if v77 = 0 then (nE (s4 + zi 1) fun n165 =>
  nP (Sum.inl n165)) else (nB (m_missed (zi 1)) fun v88 =>
  nB (m_missed (zi 0)) fun v95 =>
  if f1 < v88 then (nE (s4 + zi 1) fun n165 =>
  nP (Sum.inl n165)) else (nB (m_isAhead v95 v88) fun v111 =>
  if v111 = 0 then (nE (s4 + zi 1) fun n165 =>
  nP (Sum.inl n165)) else (nB (nLp (fun s => m_fits_l123 f1 f2 f3 s4 v88 v95 s) (zi 0)) fun e123 =>
  nB (mS 39 (zi 3) v95) fun _ =>
  nB (mS 39 (zi 4) v88) fun _ =>
  nE (s4 + zi 1) fun n165 =>
  nP (Sum.inl n165)))))
noncomputable def m_fits_l37 (f1 : Int32) (f2 : Int32) (s3 : Int32) : mN ((Int32) ⊕ (Unit)) :=
  nB (mA 0 (zi 2)) fun v43 =>
  if v43 ≤ s3 then (nP (Sum.inr ())) else (nB (m_tells (zi 1) s3) fun v50 =>
  if v50 = 0 then (nE (s3 + zi 1) fun n171 =>
  nP (Sum.inl n171)) else (nB (nLp (fun s => m_fits_l62 f1 f2 s3 s) (zi (-1))) fun e62 =>
  nE (s3 + zi 1) fun n171 =>
  nP (Sum.inl n171)))
noncomputable def m_fits_l13 (f1 : Int32) (s2 : Int32) : mN ((Int32) ⊕ (Unit)) :=
  nB (mA 0 (zi 2)) fun v19 =>
  if v19 ≤ s2 then (nP (Sum.inr ())) else (nB (m_tells (zi 0) s2) fun v26 =>
  if v26 = 0 then (nE (s2 + zi 1) fun n177 =>
  nP (Sum.inl n177)) else (nB (nLp (fun s => m_fits_l37 f1 s2 s) (zi (-1))) fun e37 =>
  nE (s2 + zi 1) fun n177 =>
  nP (Sum.inl n177)))
noncomputable def m_fits (a1 : Int32) : mN Unit :=
  nB (m_weighs) fun _ =>
  nB (mS 39 (zi 0) (zi (-1))) fun _ =>
  nB (nLp (fun s => m_fits_l13 a1 s) (zi (-1))) fun e13 =>
  nP ()
noncomputable def m_fit (a1 : Int32) (a2 : Int32) : mN Int32 :=
  nB (m_isIn a1 (zi 0) (zi 16)) fun v4 =>
  if v4 = 0 then (nP (zi (-1))) else (nB (m_isIn a2 (zi 0) (zi 4)) fun v13 =>
  if v13 = 0 then (nP (zi (-1))) else (nB (m_fits a1) fun _ =>
  nB (mA 39 (zi 0)) fun v31 =>
  if 0 ≤ v31 then (nB (mA 39 a2) fun v44 =>
  nP v44) else (nP (zi (-1)))))
def m_change_j180 (b5 : Int32) (b6 : Int32) (b8 : Int32) (t0 : Int32) (t1 : Int32) : mN Int32 :=
  nB (mS 0 t1 t0) fun _ =>
  nB (mS 0 (b8 + (zi 3)) b5) fun _ =>
  nE (b6 + (zi 15)) fun n201 =>
  nB (mA 0 n201) fun v202 =>
  nB (mS 0 n201 (v202 + (zi 1))) fun _ =>
  nB (mA 0 (b6 + (zi 15))) fun v215 =>
  nP (v215 - (zi 1))
def m_change_j161 (b2 : Int32) (b4 : Int32) (b5 : Int32) (b6 : Int32) (b8 : Int32) (t0 : Int32) (t1 : Int32) : mN Int32 :=
  nB (mS 0 t1 t0) fun _ =>
  if b2 = 0 then (m_change_j180 b5 b6 b8 (zi 0) (b8 + (zi 2))) else (m_change_j180 b5 b6 b8 b4 (b8 + (zi 2)))
def m_change_j91 (b2 : Int32) (b3 : Int32) (b4 : Int32) (b5 : Int32) (b6 : Int32) (t0 : Int32) : mN Int32 :=
  nB (mA 0 (b6 + (zi 15))) fun v102 =>
  if v102 = (zi 6) then (nP (zi (-1))) else (if t0 = 0 then (nP (zi (-1))) else (nB (mA 0 (b6 + (zi 15))) fun v130 =>
  nE ((b6 + (zi 16)) + ((zi 4) * v130)) fun n133 =>
  nB (mS 0 n133 b2) fun _ =>
  if b2 = (zi 2) then (m_change_j161 b2 b4 b5 b6 n133 (zi 0) (n133 + (zi 1))) else (m_change_j161 b2 b4 b5 b6 n133 b3 (n133 + (zi 1)))))
def m_change_j90 (b2 : Int32) (b3 : Int32) (b4 : Int32) (b5 : Int32) (b6 : Int32) : mN Int32 :=
  m_change_j91 b2 b3 b4 b5 b6 (zi 0)
def m_change_j86 (b2 : Int32) (b3 : Int32) (b4 : Int32) (b5 : Int32) (b6 : Int32) : mN Int32 :=
  m_change_j91 b2 b3 b4 b5 b6 (zi 1)
def m_change (a1 : Int32) (a2 : Int32) (a3 : Int32) (a4 : Int32) (a5 : Int32) : mN Int32 :=
  nB (m_isPage a1) fun v2 =>
  if v2 = 0 then (nP (zi (-1))) else (nB (m_isIn a5 (zi 1) (zi 99)) fun v13 =>
  if v13 = 0 then (nP (zi (-1))) else (nB (m_isIn a2 (zi 0) (zi 2)) fun v22 =>
  if v22 = 0 then (nP (zi (-1))) else (nB (m_pageAt a1) fun v31 =>
  if a2 = (zi 2) then (nB (m_isIn a4 (zi 0) (zi 99)) fun v46 =>
  m_change_j91 a2 a3 a4 a5 v31 v46) else (nB (m_treeOf a1) fun v59 =>
  nB (mA 0 v59) fun v62 =>
  nB (m_isIn a3 (zi 0) (v62 - (zi 1))) fun v65 =>
  if v65 = 0 then (m_change_j90 a2 a3 a4 a5 v31) else (if a2 = 0 then (m_change_j86 a2 a3 a4 a5 v31) else (nB (m_isIn a4 (zi 0) (zi 9)) fun v80 =>
  if v80 = 0 then (m_change_j90 a2 a3 a4 a5 v31) else (m_change_j86 a2 a3 a4 a5 v31)))))))
def m_isForger (a1 : Int32) (a2 : Int32) (a3 : Int32) (a4 : Int32) : mN Int32 :=
  nB (m_isPage a1) fun v2 =>
  if v2 = 0 then (nP (zi 0)) else (nB (m_isIn a2 (zi 0) (zi 99)) fun v12 =>
  if v12 = 0 then (nP (zi 0)) else (nB (m_isIn a3 (zi 0) (zi 99)) fun v22 =>
  if v22 = 0 then (nP (zi 0)) else (nB (m_isIn a4 (zi 0) (zi 999)) fun v34 =>
  if v34 = 0 then (nP (zi 0)) else (nP (zi 1)))))
noncomputable def m_forges_l21 (f1 : Int32) (f2 : Int32) (f3 : Int32) (s4 : Int32) : mN ((Int32) ⊕ (Unit)) :=
  nB (m_pageAt f1) fun v28 =>
  nB (mA 0 (v28 + (zi 15))) fun v34 =>
  if v34 ≤ s4 then (nP (Sum.inr ())) else (nB (m_pageAt f1) fun v39 =>
  nE ((v39 + (zi 16)) + ((zi 4) * s4)) fun n50 =>
  if ((f3 >>> (s4 &&& 31)) &&& (zi 1)) = 0 then (nE (s4 + zi 1) fun n178 =>
  nP (Sum.inl n178)) else (nB (mF 41) fun v66 =>
  nB (mA 0 (n50 + (zi 3))) fun v77 =>
  nB (mW 41 (v66 + v77)) fun _ =>
  nB (mA 0 n50) fun v88 =>
  if v88 = zi 0 then (nB (mA 0 (n50 + (zi 1))) fun v128 =>
  nB (mZ 16 v128 (zi 1)) fun _ =>
  nE (s4 + zi 1) fun n178 =>
  nP (Sum.inl n178)) else (if v88 = zi 1 then (nB (mA 0 (n50 + (zi 1))) fun v146 =>
  nB (mA 0 (n50 + (zi 2))) fun v155 =>
  nB (mS 17 v146 v155) fun _ =>
  nE (s4 + zi 1) fun n178 =>
  nP (Sum.inl n178)) else (nB (mF 40) fun v162 =>
  nB (mA 0 (n50 + (zi 2))) fun v173 =>
  nB (mW 40 (v162 + v173)) fun _ =>
  nE (s4 + zi 1) fun n178 =>
  nP (Sum.inl n178)))))
noncomputable def m_forges (a1 : Int32) (a2 : Int32) (a3 : Int32) : mN Unit :=
  nB (m_treeOf a1) fun v2 =>
  nB (m_takes v2) fun _ =>
  nB (mW 40 (zi 0)) fun _ =>
  nB (mW 41 (zi 0)) fun _ =>
  nB (nLp (fun s => m_forges_l21 a1 a2 a3 s) (zi 0)) fun e21 =>
  nB (m_opens (zi 0) (zi 0) a2) fun _ =>
  nB (m_judges a1 (zi 0) a2) fun _ =>
  nP ()
def m_isForgery (a1 : Int32) (a2 : Int32) : mN Int32 :=
  nB (mF 31) fun v1 =>
  if v1 < 0 then (nP (zi 0)) else (nB (mF 32) fun v8 =>
  if a1 < v8 then (nP (zi 0)) else (nB (mF 33) fun v16 =>
  if v16 < a2 then (nP (zi 0)) else (nP (zi 1))))
noncomputable def m_pass_l36_j141 (b1 : Int32) (b2 : Int32) (b3 : Int32) (b4 : Int32) (b5 : Int32) (b9 : Int32) (b10 : Int32) : mN ((Int32 × Int32 × Int32 × Int32) ⊕ (Int32 × Int32 × Int32)) :=
  nB (mF 41) fun v146 =>
  nE (b9 + zi 1) fun n155 =>
  nP (Sum.inl (b9, v146, b10, n155))
noncomputable def m_pass_l36 (f1 : Int32) (f2 : Int32) (f3 : Int32) (f4 : Int32) (f5 : Int32) (s6 : Int32) (s7 : Int32) (s8 : Int32) (s9 : Int32) : mN ((Int32 × Int32 × Int32 × Int32) ⊕ (Int32 × Int32 × Int32)) :=
  nB (m_pageAt f1) fun v44 =>
  nB (mA 0 (v44 + (zi 15))) fun v50 =>
  if ((zi 1) <<< (v50 &&& 31)) ≤ s9 then (nP (Sum.inr (s6, s7, s8))) else (nB (m_forges f1 f2 s9) fun _ =>
  nB (m_ageOf f1 f2) fun v67 =>
  nB (mF 40) fun v71 =>
  nB (m_signsBy (v67 + v71)) fun v75 =>
  nB (m_sayOf v75) fun v78 =>
  if v78 = (zi 2) then (nE (s9 + zi 1) fun n155 =>
  nP (Sum.inl (s6, s7, s8, n155))) else (nB (m_isForgery f3 f4) fun v93 =>
  if v93 = 0 then (nE (s9 + zi 1) fun n155 =>
  nP (Sum.inl (s6, s7, s8, n155))) else (if s6 < 0 then (m_pass_l36_j141 f1 f2 f3 f4 f5 s9 v78) else (nB (mF 41) fun v108 =>
  if s7 < v108 then (nE (s9 + zi 1) fun n155 =>
  nP (Sum.inl (s6, s7, s8, n155))) else (nB (mF 41) fun v117 =>
  if v117 = s7 then (nB (m_ones s9) fun v127 =>
  nB (m_ones s6) fun v132 =>
  if v127 < v132 then (m_pass_l36_j141 f1 f2 f3 f4 f5 s9 v78) else (nE (s9 + zi 1) fun n155 =>
  nP (Sum.inl (s6, s7, s8, n155)))) else (m_pass_l36_j141 f1 f2 f3 f4 f5 s9 v78))))))
noncomputable def m_pass (a1 : Int32) (a2 : Int32) (a3 : Int32) (a4 : Int32) (a5 : Int32) : mN Int32 :=
  nB (m_isForger a1 a2 a3 a4) fun v6 =>
  if v6 = 0 then (nP (zi (-1))) else (nB (m_isIn a5 (zi 0) (zi 2)) fun v16 =>
  if v16 = 0 then (nP (zi (-1))) else (nB (nLp (fun s => m_pass_l36 a1 a2 a3 a4 a5 s.1 s.2.1 s.2.2.1 s.2.2.2) ((zi (-1)), (zi 0), (zi 0), (zi 0))) fun e36 =>
  if 0 ≤ e36.1 then (if a5 = 0 then (nP e36.2.1) else (if a5 = (zi 1) then (nP e36.1) else (nP e36.2.2))) else (nP (zi (-1)))))
noncomputable def m_met_l23_j125 (b1 : Int32) (b2 : Int32) (b3 : Int32) (b4 : Int32) (b5 : Int32) (b7 : Int32) (t0 : Int32) : mN ((Int32 × Int32 × Int32) ⊕ (Int32 × Int32)) :=
  nB (mF 32) fun v128 =>
  if v128 ≤ b5 then (nE (b7 + zi 1) fun n142 =>
  nP (Sum.inl (b5, t0, n142))) else (nB (mF 32) fun v137 =>
  nE (b7 + zi 1) fun n142 =>
  nP (Sum.inl (v137, t0, n142)))
noncomputable def m_met_l23_j120 (b1 : Int32) (b2 : Int32) (b3 : Int32) (b4 : Int32) (b5 : Int32) (b7 : Int32) : mN ((Int32 × Int32 × Int32) ⊕ (Int32 × Int32)) :=
  m_met_l23_j125 b1 b2 b3 b4 b5 b7 (zi 1)
noncomputable def m_met_l23_j108 (b1 : Int32) (b2 : Int32) (b3 : Int32) (b4 : Int32) (b5 : Int32) (b6 : Int32) (b7 : Int32) (t0 : Int32) : mN ((Int32 × Int32 × Int32) ⊕ (Int32 × Int32)) :=
  if b6 = 0 then (if t0 = 0 then (m_met_l23_j120 b1 b2 b3 b4 b5 b7) else (m_met_l23_j125 b1 b2 b3 b4 b5 b7 (zi 0))) else (m_met_l23_j120 b1 b2 b3 b4 b5 b7)
noncomputable def m_met_l23_j107 (b1 : Int32) (b2 : Int32) (b3 : Int32) (b4 : Int32) (b5 : Int32) (b6 : Int32) (b7 : Int32) : mN ((Int32 × Int32 × Int32) ⊕ (Int32 × Int32)) :=
  m_met_l23_j108 b1 b2 b3 b4 b5 b6 b7 (zi 0)
noncomputable def m_met_l23 (f1 : Int32) (f2 : Int32) (f3 : Int32) (f4 : Int32) (s5 : Int32) (s6 : Int32) (s7 : Int32) : mN ((Int32 × Int32 × Int32) ⊕ (Int32 × Int32)) :=
  nB (m_pageAt f1) fun v31 =>
  nB (mA 0 (v31 + (zi 15))) fun v37 =>
  if ((zi 1) <<< (v37 &&& 31)) ≤ s7 then (nP (Sum.inr (s5, s6))) else (nB (m_forges f1 f2 s7) fun _ =>
  nB (m_isForgery f3 f4) fun v54 =>
  if v54 = 0 then (nE (s7 + zi 1) fun n142 =>
  nP (Sum.inl (s5, s6, n142))) else (nB (mF 33) fun v64 =>
  nB (mA 0 (zi 4)) fun v72 =>
  if v64 < v72 then (m_met_l23_j107 f1 f2 f3 f4 s5 s6 s7) else (nB (mF 34) fun v77 =>
  if v77 = 0 then (m_met_l23_j107 f1 f2 f3 f4 s5 s6 s7) else (nB (m_ageOf f1 f2) fun v86 =>
  nB (mF 40) fun v90 =>
  nB (mA 0 (zi 5)) fun v99 =>
  if v99 < (v86 + v90) then (m_met_l23_j107 f1 f2 f3 f4 s5 s6 s7) else (m_met_l23_j108 f1 f2 f3 f4 s5 s6 s7 (zi 1))))))
noncomputable def m_met (a1 : Int32) (a2 : Int32) (a3 : Int32) (a4 : Int32) : mN Int32 :=
  nB (m_isForger a1 a2 a3 a4) fun v6 =>
  if v6 = 0 then (nP (zi (-1))) else (nB (nLp (fun s => m_met_l23 a1 a2 a3 a4 s.1 s.2.1 s.2.2) ((zi 0), (zi 0), (zi 0))) fun e23 =>
  if e23.2 = 0 then (if e23.1 ≤ (zi 60) then (nP e23.1) else (nP (zi (-1)))) else (nP (zi (-1))))
def m_pieces (a1 : Int32) : mN Int32 :=
  nB (m_pageAt a1) fun v5 =>
  nB (mA 0 (v5 + (zi 14))) fun v11 =>
  nP v11
noncomputable def m_choose_l16 (f0 : Int32) (f1 : Int32) (s2 : Int64) (s4 : Int32) : mN ((Int64 × Int32) ⊕ (Int64)) :=
  if f1 < s4 then (nP (Sum.inr s2)) else (nC (¬ (s4).toInt64 = 0) (nE ((s2 * ((((f0 - f1) + s4)).toInt64)) / ((s4).toInt64)) fun n35 =>
  nE (s4 + zi 1) fun n36 =>
  nP (Sum.inl (n35, n36))))
noncomputable def m_choose (a0 : Int32) (a1 : Int32) : mN Int32 :=
  if a1 < 0 then (nP (zi 0)) else (if a1 ≤ a0 then (nB (nLp (fun s => m_choose_l16 a0 a1 s.1 s.2) ((1 : Int64), (zi 1))) fun e16 =>
  nP ((e16).toInt32)) else (nP (zi 0)))
noncomputable def m_oddsOf_l38 (f3 : Int32) (f4 : Int32) (s5 : Int32) (s6 : Int32) : mN ((Int32 × Int32) ⊕ (Int32)) :=
  if f4 < s6 then (nP (Sum.inr s5)) else (nB (m_choose f3 s6) fun v50 =>
  nB (m_choose ((zi 20) - f3) (f4 - s6)) fun v62 =>
  nE (s5 + (v50 * v62)) fun n67 =>
  nE (s6 + zi 1) fun n69 =>
  nP (Sum.inl (n67, n69)))
noncomputable def m_oddsOf (a1 : Int32) (a2 : Int32) : mN Int32 :=
  nB (m_pieces a1) fun v2 =>
  nB (m_ones v2) fun v5 =>
  nB (m_pieces a2) fun v11 =>
  nB (m_ones v11) fun v14 =>
  nB (m_pieces a1) fun v24 =>
  nB (m_pieces a2) fun v29 =>
  nB (m_ones (v24 &&& v29)) fun v33 =>
  nB (nLp (fun s => m_oddsOf_l38 v5 v14 s.1 s.2) ((zi 0), v33)) fun e38 =>
  nP e38
noncomputable def m_odds (a1 : Int32) (a2 : Int32) (a3 : Int32) : mN Int32 :=
  nB (m_isPage a1) fun v2 =>
  if v2 = 0 then (nP (zi (-1))) else (nB (m_isPage a2) fun v10 =>
  if v10 = 0 then (nP (zi (-1))) else (if a1 = a2 then (nP (zi (-1))) else (nB (m_isIn a3 (zi 0) (zi 1)) fun v24 =>
  if v24 = 0 then (nP (zi (-1))) else (if a3 = 0 then (nB (m_oddsOf a1 a2) fun v39 =>
  nP v39) else (nB (m_pieces a2) fun v49 =>
  nB (m_ones v49) fun v52 =>
  nB (m_choose (zi 20) v52) fun v55 =>
  nP v55)))))
noncomputable def m_isOneHand_j53 (b1 : Int32) (b2 : Int32) (t0 : Int32) : mN Int32 :=
  if t0 = 0 then (nP (zi 0)) else (nB (m_pieces b1) fun v62 =>
  nB (m_pieces b2) fun v67 =>
  if (v62 &&& v67) = 0 then (nP (zi 0)) else (nP (zi 1)))
noncomputable def m_isOneHand_j52 (b1 : Int32) (b2 : Int32) : mN Int32 :=
  m_isOneHand_j53 b1 b2 (zi 0)
noncomputable def m_isOneHand (a1 : Int32) (a2 : Int32) (a3 : Int32) : mN Int32 :=
  nB (m_oddsOf a1 a2) fun v3 =>
  nB (m_pieces a2) fun v12 =>
  nB (m_ones v12) fun v15 =>
  nB (m_choose (zi 20) v15) fun v18 =>
  if v18 < (v3 * a3) then (m_isOneHand_j52 a1 a2) else (nB (m_oddsOf a2 a1) fun v27 =>
  nB (m_pieces a1) fun v36 =>
  nB (m_ones v36) fun v39 =>
  nB (m_choose (zi 20) v39) fun v42 =>
  if v42 < (v27 * a3) then (m_isOneHand_j52 a1 a2) else (m_isOneHand_j53 a1 a2 (zi 1)))
noncomputable def m_ring_l54 (f2 : Int32) (f4 : Int32) (f5 : Int32) (s3 : Int32) (s6 : Int32) : mN ((Int32 × Int32) ⊕ (Int32)) :=
  nB (mA 0 (zi 1)) fun v61 =>
  if v61 ≤ s6 then (nP (Sum.inr s3)) else (if ((f4 >>> (f5 &&& 31)) &&& (zi 1)) = (zi 1) then (if f5 = s6 then (nE (s6 + zi 1) fun n102 =>
  nP (Sum.inl (s3, n102))) else (nB (m_isOneHand f5 s6 f2) fun v89 =>
  if v89 = 0 then (nE (s6 + zi 1) fun n102 =>
  nP (Sum.inl (s3, n102))) else (nE (s3 ||| ((zi 1) <<< (s6 &&& 31))) fun n101 =>
  nE (s6 + zi 1) fun n102 =>
  nP (Sum.inl (n101, n102))))) else (nE (s6 + zi 1) fun n102 =>
  nP (Sum.inl (s3, n102))))
noncomputable def m_ring_l40 (f2 : Int32) (f4 : Int32) (s3 : Int32) (s5 : Int32) : mN ((Int32 × Int32) ⊕ (Int32)) :=
  nB (mA 0 (zi 1)) fun v47 =>
  if v47 ≤ s5 then (nP (Sum.inr s3)) else (nB (nLp (fun s => m_ring_l54 f2 f4 s5 s.1 s.2) (s3, (zi 0))) fun e54 =>
  nE (s5 + zi 1) fun n108 =>
  nP (Sum.inl (e54, n108)))
noncomputable def m_ring_l28 (f2 : Int32) (s3 : Int32) (s4 : Int32) : mN ((Int32 × Int32) ⊕ (Int32)) :=
  if s3 = s4 then (nP (Sum.inr s3)) else (nB (nLp (fun s => m_ring_l40 f2 s3 s.1 s.2) (s3, (zi 0))) fun e40 =>
  nP (Sum.inl (e40, s3)))
noncomputable def m_ring (a1 : Int32) (a2 : Int32) : mN Int32 :=
  nB (m_isPage a1) fun v2 =>
  if v2 = 0 then (nP (zi (-1))) else (nB (m_isIn a2 (zi 1) (zi 9999)) fun v13 =>
  if v13 = 0 then (nP (zi (-1))) else (nE ((zi 1) <<< (a1 &&& 31)) fun n24 =>
  nB (nLp (fun s => m_ring_l28 a2 s.1 s.2) (n24, (zi 0))) fun e28 =>
  nP e28))
noncomputable def m_sketchOf_l12 (f2 : Int32) (f4 : Int32) (s3 : Int32) (s5 : Int32) : mN ((Int32 × Int32) ⊕ (Int32)) :=
  nB (mA 0 f4) fun v20 =>
  if v20 ≤ s5 then (nP (Sum.inr s3)) else (nB (mA 0 ((f4 + (zi 1)) + ((zi 5) * s5))) fun v43 =>
  nB (mA 0 ((f4 + (zi 2)) + ((zi 5) * s5))) fun v59 =>
  nE ((((s3 * (zi 31)) + ((zi 10) * v43)) + v59) &&& (65535 : Int32)) fun n65 =>
  nE (s5 + zi 1) fun n66 =>
  nP (Sum.inl (n65, n66)))
noncomputable def m_sketchOf (a1 : Int32) (a2 : Int32) : mN Int32 :=
  nB (m_treeOf a1) fun v4 =>
  nB (nLp (fun s => m_sketchOf_l12 a2 v4 s.1 s.2) ((zi 7), (zi 0))) fun e12 =>
  nP (e12 &&& (((zi 1) <<< (a2 &&& 31)) - (zi 1)))
noncomputable def m_sketch (a1 : Int32) (a2 : Int32) : mN Int32 :=
  nB (m_isPage a1) fun v2 =>
  if v2 = 0 then (nP (zi (-1))) else (nB (m_isIn a2 (zi 0) (zi 16)) fun v12 =>
  if v12 = 0 then (nP (zi (-1))) else (nB (m_sketchOf a1 a2) fun v21 =>
  nP v21))
noncomputable def m_leaves_l33_j67 (b1 : Int32) (b2 : Int32) (b3 : Int32) (b5 : Int32) (t0 : Int32) (t1 : Int32) : mN ((Int32 × Int32) ⊕ (Int32)) :=
  nE (t1 + t0) fun n68 =>
  nE (b5 + zi 1) fun n70 =>
  nP (Sum.inl (n68, n70))
noncomputable def m_leaves_l33 (f1 : Int32) (f2 : Int32) (f3 : Int32) (s4 : Int32) (s5 : Int32) : mN ((Int32 × Int32) ⊕ (Int32)) :=
  nB (mA 0 (zi 1)) fun v40 =>
  if v40 ≤ s5 then (nP (Sum.inr s4)) else (nB (m_sketchOf s5 f3) fun v50 =>
  nB (m_sketchOf f1 f3) fun v56 =>
  if v50 = v56 then (m_leaves_l33_j67 f1 f2 f3 s5 (zi 1) s4) else (m_leaves_l33_j67 f1 f2 f3 s5 (zi 0) s4))
noncomputable def m_leaves_l23 (f1 : Int32) (f2 : Int32) (s3 : Int32) : mN ((Int32) ⊕ (Int32 ⊕ (Unit))) :=
  if s3 < 0 then (nP (Sum.inr (Sum.inr ()))) else (nB (nLp (fun s => m_leaves_l33 f1 f2 s3 s.1 s.2) ((zi 0), (zi 0))) fun e33 =>
  if e33 < f2 then (nE (s3 + zi (-1)) fun n84 =>
  nP (Sum.inl n84)) else (nP (Sum.inr (Sum.inl s3))))
noncomputable def m_leaves (a1 : Int32) (a2 : Int32) : mN Int32 :=
  nB (m_isPage a1) fun v2 =>
  if v2 = 0 then (nP (zi (-1))) else (nB (m_isIn a2 (zi 1) (zi 10)) fun v12 =>
  if v12 = 0 then (nP (zi (-1))) else (nB (nLp (fun s => m_leaves_l23 a1 a2 s) (zi 16)) (nD (fun e23 => nP e23)
  (fun e23 => nP (zi (-1))))))
noncomputable def m_warn_l24_j55 (b1 : Int32) (b2 : Int32) (b3 : Int32) (b4 : Int32) (b5 : Int32) (t0 : Int32) : mN ((Int32 × Int32) ⊕ (Int32)) :=
  if t0 = 0 then (nE (b5 + zi 1) fun n79 =>
  nP (Sum.inl (b4, n79))) else (nB (mF 31) fun v63 =>
  if v63 = b1 then (nE (b4 ||| ((zi 1) <<< (b5 &&& 31))) fun n77 =>
  nE (b5 + zi 1) fun n79 =>
  nP (Sum.inl (n77, n79))) else (nE (b5 + zi 1) fun n79 =>
  nP (Sum.inl (b4, n79))))
noncomputable def m_warn_l24 (f1 : Int32) (f2 : Int32) (f3 : Int32) (s4 : Int32) (s5 : Int32) : mN ((Int32 × Int32) ⊕ (Int32)) :=
  nB (mA 0 (zi 1)) fun v31 =>
  if v31 ≤ s5 then (nP (Sum.inr s4)) else (nB (m_signsOf s5 f2 f3) fun v40 =>
  nB (m_sayOf v40) fun v43 =>
  if v43 = (zi 2) then (m_warn_l24_j55 f1 f2 f3 s4 s5 (zi 1)) else (m_warn_l24_j55 f1 f2 f3 s4 s5 (zi 0)))
noncomputable def m_warn (a1 : Int32) (a2 : Int32) (a3 : Int32) : mN Int32 :=
  nB (m_isHouse a1) fun v2 =>
  if v2 = 0 then (nP (zi (-1))) else (nB (m_isPerson a2 a3) fun v10 =>
  if v10 = 0 then (nP (zi (-1))) else (nB (nLp (fun s => m_warn_l24 a1 a2 a3 s.1 s.2) ((zi 0), (zi 0))) fun e24 =>
  nP e24))
def m_puts (a1 : Int32) (a2 : Int32) : mN Unit :=
  nB (mF 42) fun v1 =>
  if (zi 20) ≤ v1 then (nP ()) else (nB (mF 42) fun v15 =>
  nB (mS 43 (((zi 4) * v15) + a1) a2) fun _ =>
  nP ())
noncomputable def m_must (a1 : Int32) : mN Unit :=
  nB (m_isWord a1) fun v2 =>
  if v2 = 0 then (nB (m_ends) fun _ =>
  nP ()) else (nB (m_advance) fun _ =>
  nP ())
noncomputable def m_oneTo (a1 : Int32) (a2 : Int32) : mN Unit :=
  nB (m_numbered a1) fun v4 =>
  nB (m_puts (zi 1) v4) fun _ =>
  nB (m_must (zi 11)) fun _ =>
  nB (m_numbered a2) fun v20 =>
  nB (m_puts (zi 2) v20) fun _ =>
  nP ()
noncomputable def m_aLine_j43 : mN Unit :=
  nB (m_ends) fun _ =>
  nP ()
noncomputable def m_aLine_j144 : mN Unit :=
  nB (m_ends) fun _ =>
  nP ()
noncomputable def m_aLine_j305 : mN Unit :=
  nB (mF 42) fun v307 =>
  nB (mW 42 (v307 + (zi 1))) fun _ =>
  nP ()
noncomputable def m_aLine_j285 : mN Unit :=
  nB (m_isSign (zi 59)) fun v288 =>
  if v288 = 0 then (nB (m_ends) fun _ =>
  m_aLine_j305) else (nB (m_advance) fun _ =>
  m_aLine_j305)
noncomputable def m_aLine_j240 : mN Unit :=
  nB (m_numbered (zi 99)) fun v245 =>
  nB (m_puts (zi 2) v245) fun _ =>
  nB (m_must (zi 16)) fun _ =>
  nB (m_numbered (zi 20)) fun v262 =>
  nB (m_puts (zi 3) v262) fun _ =>
  m_aLine_j285
noncomputable def m_aLine_j66 (b1 : Int32) : mN Unit :=
  nB (m_advance) fun _ =>
  nB (m_puts (zi 0) b1) fun _ =>
  if b1 = zi 10 then (nB (mF 9) fun v121 =>
  if v121 = 0 then (nB (mF 5) fun v128 =>
  if v128 = (zi 3) then (nB (mF 8) fun v136 =>
  if v136 ≤ (zi 7) then (nB (mF 8) fun v152 =>
  nB (m_puts (zi 1) v152) fun _ =>
  nB (m_advance) fun _ =>
  nB (m_must (zi 11)) fun _ =>
  nB (m_numbered (zi 5)) fun v172 =>
  nB (m_puts (zi 2) v172) fun _ =>
  m_aLine_j285) else (m_aLine_j144)) else (m_aLine_j144)) else (m_aLine_j144)) else (if b1 = zi 11 then (m_aLine_j285) else (if b1 = zi 12 then (nB (m_oneTo (zi 5) (zi 5)) fun _ =>
  m_aLine_j285) else (if b1 = zi 13 then (nB (m_oneTo (zi 99) (zi 5)) fun _ =>
  m_aLine_j285) else (if b1 = zi 14 then (nB (m_oneTo (zi 5) (zi 9)) fun _ =>
  m_aLine_j285) else (if b1 = zi 15 then (nB (m_numbered (zi 5)) fun v214 =>
  nB (m_puts (zi 1) v214) fun _ =>
  nB (m_isSign (zi 60)) fun v223 =>
  if v223 = 0 then (nB (m_ends) fun _ =>
  m_aLine_j240) else (nB (m_advance) fun _ =>
  m_aLine_j240)) else (if b1 = zi 16 then (nB (m_numbered (zi 20)) fun v276 =>
  nB (m_puts (zi 3) v276) fun _ =>
  m_aLine_j285) else (m_aLine_j285)))))))
noncomputable def m_aLine : mN Unit :=
  nB (mF 8) fun v1 =>
  nB (mF 9) fun v6 =>
  if v6 = 0 then (nB (mF 5) fun v13 =>
  if v13 = (zi 3) then (nB (mF 8) fun v21 =>
  nB (m_isIn v21 (zi 10) (zi 17)) fun v28 =>
  if v28 = 0 then (m_aLine_j43) else (nB (mF 8) fun v35 =>
  if v35 = (zi 11) then (m_aLine_j43) else (nB (mF 42) fun v49 =>
  if v49 = (zi 20) then (nB (mF 4) fun v60 =>
  nB (m_also (zi 3) v60) fun _ =>
  m_aLine_j66 v1) else (m_aLine_j66 v1)))) else (m_aLine_j43)) else (m_aLine_j43)
noncomputable def m_program_l24 (f1 : Int32) : mN ((Unit) ⊕ (Unit)) :=
  nB (mF 9) fun v25 =>
  if v25 = 0 then (nB (mF 5) fun v32 =>
  if v32 = 0 then (nP (Sum.inr ())) else (nB (m_aLine) fun _ =>
  nP (Sum.inl ()))) else (nP (Sum.inr ()))
noncomputable def m_program_l75 (f1 : Int32) (s2 : Int32) : mN ((Int32) ⊕ (Unit)) :=
  if (zi 80) ≤ s2 then (nP (Sum.inr ())) else (nB (m_pageAt f1) fun v86 =>
  nB (mA 43 s2) fun v99 =>
  nB (mS 0 ((v86 + (zi 121)) + s2) v99) fun _ =>
  nE (s2 + zi 1) fun n101 =>
  nP (Sum.inl n101))
noncomputable def m_program (a1 : Int32) : mN Int32 :=
  nB (m_begins) fun _ =>
  nB (m_isPage a1) fun v6 =>
  if v6 = 0 then (nP (zi (-2))) else (nB (mW 42 (zi 0)) fun _ =>
  nB (m_advance) fun _ =>
  nB (nLp (fun s => m_program_l24 a1) ()) fun e24 =>
  nB (mA 0 (zi 7)) fun v51 =>
  if v51 = 0 then (nB (m_pageAt a1) fun v62 =>
  nB (mF 42) fun v69 =>
  nB (mS 0 (v62 + (zi 120)) v69) fun _ =>
  nB (nLp (fun s => m_program_l75 a1 s) (zi 0)) fun e75 =>
  nB (mF 42) fun v108 =>
  nP v108) else (nP (zi (-1))))
def m_isAddress (a0 : Int32) : mN Int32 :=
  nB (m_isIn a0 (zi 0) (zi 9)) fun v4 =>
  nC (v4 = 0 ∨ v4 = 1) (nP v4)
def m_relay_j19 (b1 : Int32) (b2 : Int32) : mN Int32 :=
  if b1 = b2 then (nP (zi 0)) else (nB (mS 0 ((zi 4770) + b1) (b2 + (zi 1))) fun _ =>
  nP (zi 1))
def m_relay (a1 : Int32) (a2 : Int32) : mN Int32 :=
  nB (m_isAddress a1) fun v1 =>
  if v1 = 0 then (nP (zi 0)) else (if a2 = (zi (-1)) then (m_relay_j19 a1 a2) else (nB (m_isAddress a2) fun v13 =>
  if v13 = 0 then (nP (zi 0)) else (m_relay_j19 a1 a2)))
def m_owner_j22 (b1 : Int32) (b2 : Int32) : mN Int32 :=
  nB (mS 0 ((zi 4780) + b1) (b2 + (zi 1))) fun _ =>
  nP (zi 1)
def m_owner (a1 : Int32) (a2 : Int32) : mN Int32 :=
  nB (m_isAddress a1) fun v1 =>
  if v1 = 0 then (nP (zi 0)) else (if a2 = (zi (-1)) then (m_owner_j22 a1 a2) else (nB (m_isHouse a2) fun v14 =>
  if v14 = 0 then (nP (zi 0)) else (m_owner_j22 a1 a2)))
noncomputable def m_endOf_l7 (s2 : Int32) : mN ((Int32) ⊕ (Unit ⊕ (Int32))) :=
  nB (mA 0 ((zi 4770) + s2)) fun v16 =>
  if v16 ≤ 0 then (nP (Sum.inr (Sum.inr s2))) else (nB (mA 0 ((zi 4770) + s2)) fun v29 =>
  nE (v29 - (zi 1)) fun n32 =>
  nB (mF 47) fun v35 =>
  nB (mW 47 (v35 + (zi 1))) fun _ =>
  nB (mF 47) fun v44 =>
  if v44 ≤ (zi 10) then (nP (Sum.inl n32)) else (nP (Sum.inr (Sum.inl ()))))
noncomputable def m_endOf (a1 : Int32) : mN Int32 :=
  nB (mW 47 (zi 0)) fun _ =>
  nB (nLp (fun s => m_endOf_l7 s) a1) (nD (fun e7 => nP (zi (-1)))
  (fun e7 => nP e7))
noncomputable def m_goes (a1 : Int32) (a2 : Int32) : mN Int32 :=
  nB (m_isAddress a1) fun v1 =>
  if v1 = 0 then (nP (zi (-1))) else (nB (m_endOf a1) fun v11 =>
  if 0 ≤ v11 then (if a2 = 0 then (nP v11) else (nB (mF 47) fun v28 =>
  nP v28)) else (nP (zi (-1))))
def m_isMade (a0 : Int32) : mN Int32 :=
  nB (m_isIn a0 (zi 0) (zi 999)) fun v5 =>
  nC (v5 = 0 ∨ v5 = 1) (nP v5)
noncomputable def m_does_l2 (f1 : Int32) (f2 : Int32) (s3 : Int32) : mN ((Int32) ⊕ (Unit)) :=
  if (zi 6) ≤ s3 then (nP (Sum.inr ())) else (nB (mS 44 s3 (zi 0)) fun _ =>
  nB (mS 45 s3 (zi 0)) fun _ =>
  nE (s3 + zi 1) fun n22 =>
  nP (Sum.inl n22))
noncomputable def m_does_l30 (f1 : Int32) (f2 : Int32) (s3 : Int32) : mN ((Int32) ⊕ (Unit)) :=
  if (zi 10) ≤ s3 then (nP (Sum.inr ())) else (nB (mS 46 s3 (zi 0)) fun _ =>
  nE (s3 + zi 1) fun n43 =>
  nP (Sum.inl n43))
noncomputable def m_does_l54_j327 (b1 : Int32) (b2 : Int32) (b3 : Int32) (b4 : Int32) : mN ((Int32 × Int32) ⊕ (Int32 ⊕ (Int32))) :=
  nP (Sum.inl (b3, b4))
noncomputable def m_does_l54 (f1 : Int32) (f2 : Int32) (s3 : Int32) (s4 : Int32) : mN ((Int32 × Int32) ⊕ (Int32 ⊕ (Int32))) :=
  nB (m_pageAt f1) fun v60 =>
  nB (mA 0 (v60 + (zi 120))) fun v66 =>
  if v66 ≤ s3 then (nP (Sum.inr (Sum.inr s4))) else (if (zi 200) ≤ s4 then (nP (Sum.inr (Sum.inr s4))) else (nB (m_pageAt f1) fun v79 =>
  nE ((v79 + (zi 121)) + ((zi 4) * s3)) fun n89 =>
  nB (mA 0 (n89 + (zi 1))) fun v99 =>
  nB (mA 0 (n89 + (zi 2))) fun v110 =>
  nE (s4 + zi 1) fun n113 =>
  nE (s3 + zi 1) fun n116 =>
  nB (mA 0 n89) fun v125 =>
  if v125 = zi 10 then (nB (mS 44 v110 (((f2 * (v99 + (zi 1))) + (zi 7)) - ((f2 * (v99 + (zi 1))) + (zi 7)) / (zi 100) * (zi 100))) fun _ =>
  nB (mS 45 v110 ((zi 1) <<< (v99 &&& 31))) fun _ =>
  m_does_l54_j327 f1 f2 n116 n113) else (if v125 = zi 11 then (nP (Sum.inr (Sum.inl n113))) else (if v125 = zi 12 then (nB (mA 44 v99) fun v213 =>
  nB (mA 44 v110) fun v220 =>
  nB (mS 44 v110 ((v213 + v220) - (v213 + v220) / (zi 100) * (zi 100))) fun _ =>
  nB (mA 45 v110) fun v233 =>
  nB (mA 45 v99) fun v240 =>
  nB (mS 45 v110 (v233 ||| v240)) fun _ =>
  m_does_l54_j327 f1 f2 n116 n113) else (if v125 = zi 13 then (nB (mS 44 v110 v99) fun _ =>
  nB (mS 45 v110 (zi 0)) fun _ =>
  m_does_l54_j327 f1 f2 n116 n113) else (if v125 = zi 14 then (nB (mA 46 v110) fun v273 =>
  nB (mA 45 v99) fun v280 =>
  nB (mS 46 v110 (v273 ||| v280)) fun _ =>
  m_does_l54_j327 f1 f2 n116 n113) else (if v125 = zi 15 then (nB (mA 44 v99) fun v292 =>
  if v110 ≤ v292 then (m_does_l54_j327 f1 f2 n116 n113) else (nB (mA 0 (n89 + (zi 3))) fun v306 =>
  m_does_l54_j327 f1 f2 v306 n113)) else (if v125 = zi 16 then (nB (mA 0 (n89 + (zi 3))) fun v319 =>
  m_does_l54_j327 f1 f2 v319 n113) else (nP (Sum.inr (Sum.inl n113)))))))))))
noncomputable def m_does (a1 : Int32) (a2 : Int32) : mN Int32 :=
  nB (nLp (fun s => m_does_l2 a1 a2 s) (zi 0)) fun e2 =>
  nB (nLp (fun s => m_does_l30 a1 a2 s) (zi 0)) fun e30 =>
  nB (nLp (fun s => m_does_l54 a1 a2 s.1 s.2) ((zi 0), (zi 0))) (nD (fun e54 => nP e54)
  (fun e54 => nP e54))
noncomputable def m_sent (a1 : Int32) (a2 : Int32) (a3 : Int32) : mN Int32 :=
  nB (m_isPage a1) fun v2 =>
  if v2 = 0 then (nP (zi (-1))) else (nB (m_isMade a2) fun v9 =>
  if v9 = 0 then (nP (zi (-1))) else (nB (m_isAddress a3) fun v16 =>
  if v16 = 0 then (nP (zi (-1))) else (nB (m_does a1 a2) fun v27 =>
  nB (mA 46 a3) fun v37 =>
  nP v37)))
noncomputable def m_steps (a1 : Int32) (a2 : Int32) : mN Int32 :=
  nB (m_isPage a1) fun v2 =>
  if v2 = 0 then (nP (zi (-1))) else (nB (m_isMade a2) fun v9 =>
  if v9 = 0 then (nP (zi (-1))) else (nB (m_does a1 a2) fun v18 =>
  nP v18))
noncomputable def m_takenWith_l14_j60 (b3 : Int32) (b5 : Int32) (b6 : Int32) (t0 : Int32) : mN ((Int32 × Int32) ⊕ (Int32)) :=
  if t0 = 0 then (nB (mA 46 b6) fun v75 =>
  nE (b5 ||| v75) fun n77 =>
  nE (b6 + zi 1) fun n79 =>
  nP (Sum.inl (n77, n79))) else (nE (b6 + zi 1) fun n79 =>
  nP (Sum.inl (b5, n79)))
noncomputable def m_takenWith_l14_j59 (b3 : Int32) (b5 : Int32) (b6 : Int32) : mN ((Int32 × Int32) ⊕ (Int32)) :=
  m_takenWith_l14_j60 b3 b5 b6 (zi 0)
noncomputable def m_takenWith_l14 (f3 : Int32) (s5 : Int32) (s6 : Int32) : mN ((Int32 × Int32) ⊕ (Int32)) :=
  if (zi 10) ≤ s6 then (nP (Sum.inr s5)) else (nB (m_endOf s6) fun v24 =>
  if v24 < 0 then (m_takenWith_l14_j59 f3 s5 s6) else (if f3 < 0 then (m_takenWith_l14_j59 f3 s5 s6) else (nB (mA 0 ((zi 4780) + v24)) fun v48 =>
  if v48 = (f3 + (zi 1)) then (m_takenWith_l14_j60 f3 s5 s6 (zi 1)) else (m_takenWith_l14_j59 f3 s5 s6))))
noncomputable def m_takenWith (a1 : Int32) (a2 : Int32) (a3 : Int32) : mN Int32 :=
  nB (m_does a1 a2) fun v3 =>
  nB (nLp (fun s => m_takenWith_l14 a3 s.1 s.2) ((zi 0), (zi 0))) fun e14 =>
  nP e14
noncomputable def m_taken_l55 (f1 : Int32) (f3 : Int32) (s4 : Int32) (s5 : Int32) : mN ((Int32 × Int32) ⊕ (Int32)) :=
  if (zi 100) ≤ s5 then (nP (Sum.inr s4)) else (nB (m_takenWith f1 s5 f3) fun v69 =>
  nE (s4 ||| v69) fun n73 =>
  nE (s5 + zi 1) fun n75 =>
  nP (Sum.inl (n73, n75)))
noncomputable def m_taken_j22 (b1 : Int32) (b2 : Int32) : mN Int32 :=
  nB (m_shows b1 (zi 0) (zi 0)) fun _ =>
  nB (m_likeNow (zi 0) (zi 0)) fun v32 =>
  if b2 = (zi (-1)) then (nB (nLp (fun s => m_taken_l55 b1 v32 s.1 s.2) ((zi 0), (zi 0))) fun e55 =>
  nP e55) else (nB (m_takenWith b1 b2 v32) fun v45 =>
  nP v45)
noncomputable def m_taken (a1 : Int32) (a2 : Int32) : mN Int32 :=
  nB (m_isPage a1) fun v2 =>
  if v2 = 0 then (nP (zi (-1))) else (if a2 = (zi (-1)) then (m_taken_j22 a1 a2) else (nB (m_isMade a2) fun v14 =>
  if v14 = 0 then (nP (zi (-1))) else (m_taken_j22 a1 a2)))
noncomputable def m_isSaid_l20_j59 (b1 : Int32) (b2 : Int32) (b3 : Int32) (b5 : Int32) (t0 : Int32) : mN ((Int32 × Int32) ⊕ (Int32)) :=
  nE (b5 + zi 1) fun n61 =>
  nP (Sum.inl (t0, n61))
noncomputable def m_isSaid_l20 (f1 : Int32) (f2 : Int32) (f3 : Int32) (s4 : Int32) (s5 : Int32) : mN ((Int32 × Int32) ⊕ (Int32)) :=
  if f3 ≤ s5 then (nP (Sum.inr s4)) else (if s4 = 0 then (nP (Sum.inr s4)) else (nB (mA 0 ((f1 + (zi 1)) + s5)) fun v41 =>
  nB (mA 0 (f2 + s5)) fun v50 =>
  if v41 = v50 then (m_isSaid_l20_j59 f1 f2 f3 s5 (zi 1)) else (m_isSaid_l20_j59 f1 f2 f3 s5 (zi 0))))
noncomputable def m_isSaid_j15 (b1 : Int32) (b2 : Int32) (b3 : Int32) (t0 : Int32) : mN Int32 :=
  nB (nLp (fun s => m_isSaid_l20 b1 b2 b3 s.1 s.2) (t0, (zi 0))) fun e20 =>
  nC (e20 = 0 ∨ e20 = 1) (nP e20)
noncomputable def m_isSaid (a1 : Int32) (a2 : Int32) (a3 : Int32) : mN Int32 :=
  nB (mA 0 a1) fun v5 =>
  if v5 = a3 then (m_isSaid_j15 a1 a2 a3 (zi 1)) else (m_isSaid_j15 a1 a2 a3 (zi 0))
noncomputable def m_wordAt_l2 (f1 : Int32) (f2 : Int32) (s3 : Int32) : mN ((Int32) ⊕ (Int32 ⊕ (Unit))) :=
  nB (mA 0 (zi 5006)) fun v10 =>
  if v10 ≤ s3 then (nP (Sum.inr (Sum.inr ()))) else (nB (m_isSaid ((zi 4790) + ((zi 10) * s3)) f1 f2) fun v25 =>
  if v25 = 0 then (nE (s3 + zi 1) fun n33 =>
  nP (Sum.inl n33)) else (nP (Sum.inr (Sum.inl s3))))
noncomputable def m_wordAt (a1 : Int32) (a2 : Int32) : mN Int32 :=
  nB (nLp (fun s => m_wordAt_l2 a1 a2 s) (zi 0)) (nD (fun e2 => nP e2)
  (fun e2 => nP (zi (-1))))
noncomputable def m_word_l21 (f1 : Int32) (s2 : Int32) (s3 : Int32) : mN ((Int32 × Int32) ⊕ (Int32)) :=
  nB (mF 2) fun v23 =>
  if v23 ≤ s3 then (nP (Sum.inr s2)) else (if 0 ≤ s2 then (nP (Sum.inr s2)) else (nB (m_byteAt s3) fun v35 =>
  nB (m_isLetter v35) fun v38 =>
  if v38 = 0 then (nE (s3 + zi 1) fun n46 =>
  nP (Sum.inl (s3, n46))) else (nE (s3 + zi 1) fun n46 =>
  nP (Sum.inl (s2, n46)))))
noncomputable def m_word_j86 (t0 : Int32) (t1 : Int32) : mN Int32 :=
  nB (mS 0 t1 t0) fun _ =>
  nP (zi (-1))
noncomputable def m_word_j63 (b2 : Int32) : mN Int32 :=
  nB (mS 0 (zi 7) (zi 1)) fun _ =>
  if 0 ≤ b2 then (m_word_j86 b2 (zi 8)) else (m_word_j86 (zi 0) (zi 8))
noncomputable def m_word_j232 (b1 : Int32) (b3 : Int32) : mN Int32 :=
  nB (mS 0 (((zi 4790) + ((zi 10) * b3)) + (zi 9)) b1) fun _ =>
  nP b3
noncomputable def m_word_l193 (f1 : Int32) (f3 : Int32) (s4 : Int32) : mN ((Int32) ⊕ (Unit)) :=
  nB (mF 2) fun v196 =>
  if v196 ≤ s4 then (nP (Sum.inr ())) else (nB (m_byteAt s4) fun v222 =>
  nB (mS 0 ((((zi 4790) + ((zi 10) * f3)) + (zi 1)) + s4) v222) fun _ =>
  nE (s4 + zi 1) fun n226 =>
  nP (Sum.inl n226))
noncomputable def m_word_j148 (b1 : Int32) (b3 : Int32) : mN Int32 :=
  if 0 ≤ b3 then (m_word_j232 b1 b3) else (nB (mA 0 (zi 5006)) fun v159 =>
  nB (mA 0 (zi 5006)) fun v169 =>
  nB (mS 0 (zi 5006) (v169 + (zi 1))) fun _ =>
  nB (mF 2) fun v186 =>
  nB (mS 0 ((zi 4790) + ((zi 10) * v159)) v186) fun _ =>
  nB (nLp (fun s => m_word_l193 b1 v159 s) (zi 0)) fun e193 =>
  m_word_j232 b1 v159)
noncomputable def m_word (a1 : Int32) : mN Int32 :=
  nB (m_begins) fun _ =>
  nB (m_isIn a1 (zi 0) (zi 7)) fun v8 =>
  if v8 = 0 then (nP (zi (-2))) else (nB (nLp (fun s => m_word_l21 a1 s.1 s.2) ((zi (-1)), (zi 0))) fun e21 =>
  if 0 ≤ e21 then (m_word_j63 e21) else (nB (mF 2) fun v57 =>
  if v57 = 0 then (m_word_j63 e21) else (nB (mF 2) fun v90 =>
  if v90 ≤ (zi 8) then (nB (mF 2) fun v121 =>
  nB (m_wordAt (zi 70) v121) fun v124 =>
  if 0 ≤ v124 then (m_word_j148 a1 v124) else (nB (mA 0 (zi 5006)) fun v139 =>
  if v139 = (zi 20) then (nP (zi (-2))) else (m_word_j148 a1 v124))) else (nB (mS 0 (zi 7) (zi 2)) fun _ =>
  nB (mS 0 (zi 8) (zi 8)) fun _ =>
  nP (zi (-1))))))
def m_pattern (a1 : Int32) (a2 : Int32) : mN Int32 :=
  nB (mA 0 (zi 5007)) fun v7 =>
  if v7 = (zi 8) then (nP (zi (-1))) else (nB (m_isIn a1 (zi 1) (zi 255)) fun v18 =>
  if v18 = 0 then (nP (zi (-1))) else (nB (m_isIn a2 (zi (-99)) (zi 99)) fun v29 =>
  if v29 = 0 then (nP (zi (-1))) else (nB (mA 0 (zi 5007)) fun v52 =>
  nB (mS 0 ((zi 4990) + ((zi 2) * v52)) a1) fun _ =>
  nB (mA 0 (zi 5007)) fun v72 =>
  nB (mS 0 (((zi 4990) + ((zi 2) * v72)) + (zi 1)) a2) fun _ =>
  nB (mA 0 (zi 5007)) fun v87 =>
  nB (mS 0 (zi 5007) (v87 + (zi 1))) fun _ =>
  nB (mA 0 (zi 5007)) fun v98 =>
  nP (v98 - (zi 1)))))
noncomputable def m_sentences_l15_j190 (b1 : Int32) (b2 : Int32) (b5 : Int32) : mN ((Int32 × Int32 × Int32 × Int32) ⊕ (Int32)) :=
  nE (b2 + zi 1) fun n190 =>
  nP (Sum.inl (n190, (zi 0), (zi 0), b5))
noncomputable def m_sentences_l74 (f1 : Int32) (f2 : Int32) (f3 : Int32) (f5 : Int32) (f6 : Int32) (s8 : Int32) : mN ((Int32) ⊕ (Int32)) :=
  nB (mA 0 (zi 5010)) fun v86 =>
  if v86 ≤ (f5 + s8) then (nP (Sum.inr s8)) else (nB (mA 0 (f6 + s8)) fun v99 =>
  nB (m_isLetter v99) fun v100 =>
  if v100 = 0 then (nP (Sum.inr s8)) else (nE (s8 + zi 1) fun n106 =>
  nP (Sum.inl n106)))
noncomputable def m_sentences_l15_j152 (b1 : Int32) (b2 : Int32) (b3 : Int32) (b4 : Int32) (b5 : Int32) (b8 : Int32) : mN ((Int32 × Int32 × Int32 × Int32) ⊕ (Int32)) :=
  nE (b5 + b8) fun n157 =>
  nP (Sum.inl (b2, b3, b4, n157))
noncomputable def m_sentences_l15_j61 (b1 : Int32) (b2 : Int32) (b3 : Int32) (b4 : Int32) (b5 : Int32) (b6 : Int32) (t0 : Int32) : mN ((Int32 × Int32 × Int32 × Int32) ⊕ (Int32)) :=
  nB (m_isLetter t0) fun v65 =>
  if v65 = 0 then (nE (b5 + zi 1) fun n162 =>
  if t0 = (zi 46) then (if b4 = 0 then (nP (Sum.inl (b2, b3, b4, n162))) else (if b2 = b1 then (nB (mW 48 b3) fun _ =>
  m_sentences_l15_j190 b1 b2 n162) else (m_sentences_l15_j190 b1 b2 n162))) else (nP (Sum.inl (b2, b3, b4, n162)))) else (nB (nLp (fun s => m_sentences_l74 b1 b2 b3 b5 b6 s) (zi 1)) fun e74 =>
  nB (m_wordAt b6 e74) fun v117 =>
  if v117 < 0 then (m_sentences_l15_j152 b1 b2 b3 (zi 1) b5 e74) else (nB (mA 0 (((zi 4790) + ((zi 10) * v117)) + (zi 9))) fun v148 =>
  nE (b3 ||| ((zi 1) <<< (v148 &&& 31))) fun n151 =>
  m_sentences_l15_j152 b1 b2 n151 (zi 1) b5 e74))
noncomputable def m_sentences_l15 (f1 : Int32) (s2 : Int32) (s3 : Int32) (s4 : Int32) (s5 : Int32) : mN ((Int32 × Int32 × Int32 × Int32) ⊕ (Int32)) :=
  nB (mA 0 (zi 5010)) fun v24 =>
  if v24 < s5 then (nP (Sum.inr s2)) else (nE ((zi 5011) + s5) fun n34 =>
  nB (mA 0 (zi 5010)) fun v45 =>
  if v45 ≤ s5 then (m_sentences_l15_j61 f1 s2 s3 s4 s5 n34 (zi 46)) else (nB (mA 0 n34) fun v55 =>
  m_sentences_l15_j61 f1 s2 s3 s4 s5 n34 v55))
noncomputable def m_sentences (a1 : Int32) : mN Int32 :=
  nB (mW 48 (zi (-1))) fun _ =>
  nB (nLp (fun s => m_sentences_l15 a1 s.1 s.2.1 s.2.2.1 s.2.2.2) ((zi 0), (zi 0), (zi 0), (zi 0))) fun e15 =>
  nP e15
noncomputable def m_letter_l6 (s1 : Int32) : mN ((Int32) ⊕ (Int32 ⊕ (Unit))) :=
  nB (mF 2) fun v8 =>
  if v8 ≤ s1 then (nP (Sum.inr (Sum.inr ()))) else (nB (m_byteAt s1) fun v16 =>
  nB (m_isLetter v16) fun v21 =>
  if v21 = 0 then (if v16 = (zi 46) then (nE (s1 + zi 1) fun n66 =>
  nP (Sum.inl n66)) else (if v16 = (zi 10) then (nE (s1 + zi 1) fun n66 =>
  nP (Sum.inl n66)) else (if v16 = (zi 32) then (nE (s1 + zi 1) fun n66 =>
  nP (Sum.inl n66)) else (nP (Sum.inr (Sum.inl s1)))))) else (nE (s1 + zi 1) fun n66 =>
  nP (Sum.inl n66)))
noncomputable def m_letter_l86 (s1 : Int32) : mN ((Int32) ⊕ (Unit)) :=
  nB (mF 2) fun v88 =>
  if v88 ≤ s1 then (nP (Sum.inr ())) else (nB (m_byteAt s1) fun v105 =>
  nB (mS 0 ((zi 5011) + s1) v105) fun _ =>
  nE (s1 + zi 1) fun n109 =>
  nP (Sum.inl n109))
noncomputable def m_letter : mN Int32 :=
  nB (m_begins) fun _ =>
  nB (nLp (fun s => m_letter_l6 s) (zi 0)) (nD (fun e6 => nB (mS 0 (zi 7) (zi 1)) fun _ =>
  nB (mS 0 (zi 8) e6) fun _ =>
  nP (zi (-1)))
  (fun e6 => nB (mF 2) fun v80 =>
  nB (mS 0 (zi 5010) v80) fun _ =>
  nB (nLp (fun s => m_letter_l86 s) (zi 0)) fun e86 =>
  nB (m_sentences (zi (-1))) fun v117 =>
  nP v117))
noncomputable def m_sentence (a1 : Int32) : mN Int32 :=
  nB (m_sentences a1) fun v2 =>
  nB (mF 48) fun v7 =>
  nP v7
noncomputable def m_firstOf_l8 (f1 : Int32) (f2 : Int32) (s3 : Int32) : mN ((Int32) ⊕ (Int32 ⊕ (Unit))) :=
  if f2 ≤ s3 then (nP (Sum.inr (Sum.inr ()))) else (nB (mA 0 ((zi 4990) + ((zi 2) * f1))) fun v24 =>
  nB (m_sentence s3) fun v27 =>
  if (v24 &&& (v27 ^^^ (zi (-1)))) = 0 then (nP (Sum.inr (Sum.inl s3))) else (nE (s3 + zi 1) fun n38 =>
  nP (Sum.inl n38)))
noncomputable def m_firstOf (a1 : Int32) : mN Int32 :=
  nB (m_sentences (zi (-1))) fun v2 =>
  nB (nLp (fun s => m_firstOf_l8 a1 v2 s) (zi 0)) (nD (fun e8 => nP e8)
  (fun e8 => nP (zi (-1))))
noncomputable def m_holds (a1 : Int32) : mN Int32 :=
  nB (mA 0 (zi 5007)) fun v9 =>
  nB (m_isIn a1 (zi 0) (v9 - (zi 1))) fun v12 =>
  if v12 = 0 then (nP (zi (-1))) else (nB (m_firstOf a1) fun v20 =>
  nP v20)
noncomputable def m_presses_l4_j43 (b2 : Int32) (t0 : Int32) (t1 : Int32) : mN ((Int32 × Int32) ⊕ (Int32)) :=
  nE (t1 + t0) fun n44 =>
  nE (b2 + zi 1) fun n45 =>
  nP (Sum.inl (n44, n45))
noncomputable def m_presses_l4 (s1 : Int32) (s2 : Int32) : mN ((Int32 × Int32) ⊕ (Int32)) :=
  nB (mA 0 (zi 5007)) fun v12 =>
  if v12 ≤ s2 then (nP (Sum.inr s1)) else (nB (m_firstOf s2) fun v19 =>
  if v19 < 0 then (m_presses_l4_j43 s2 (zi 0) s1) else (nB (mA 0 (((zi 4990) + ((zi 2) * s2)) + (zi 1))) fun v38 =>
  m_presses_l4_j43 s2 v38 s1))
noncomputable def m_presses : mN Int32 :=
  nB (nLp (fun s => m_presses_l4 s.1 s.2) ((zi 0), (zi 0))) fun e4 =>
  nP e4
def m_picture_j63 (b3 : Int32) (t0 : Int32) : mN Int32 :=
  nB (mS 0 t0 b3) fun _ =>
  nP (zi 1)
def m_picture_j23 (b1 : Int32) (b2 : Int32) (b3 : Int32) : mN Int32 :=
  nB (m_isIn b3 (zi 0) (33554431 : Int32)) fun v28 =>
  if v28 = 0 then (nP (zi 0)) else (if b1 = 0 then (nB (m_houseAt b2) fun v56 =>
  m_picture_j63 b3 (v56 + (zi 159))) else (nB (m_pageAt b2) fun v45 =>
  m_picture_j63 b3 (v45 + (zi 202))))
def m_picture (a1 : Int32) (a2 : Int32) (a3 : Int32) : mN Int32 :=
  if a1 = 0 then (nB (m_isHouse a2) fun v17 =>
  if v17 = 0 then (nP (zi 0)) else (m_picture_j23 a1 a2 a3)) else (nB (m_isPage a2) fun v6 =>
  if v6 = 0 then (nP (zi 0)) else (m_picture_j23 a1 a2 a3))
noncomputable def m_moved_l5 (f0 : Int32) (f1 : Int32) (f2 : Int32) (s3 : Int32) (s4 : Int32) : mN ((Int32 × Int32) ⊕ (Int32)) :=
  if (zi 25) ≤ s4 then (nP (Sum.inr s3)) else (nE ((s4 / (zi 5)) + f1) fun n18 =>
  nE ((s4 - s4 / (zi 5) * (zi 5)) + f2) fun n26 =>
  if ((f0 >>> (s4 &&& 31)) &&& (zi 1)) = (zi 1) then (nB (m_isIn n18 (zi 0) (zi 4)) fun v42 =>
  if v42 = 0 then (nE (s4 + zi 1) fun n70 =>
  nP (Sum.inl (s3, n70))) else (nB (m_isIn n26 (zi 0) (zi 4)) fun v52 =>
  if v52 = 0 then (nE (s4 + zi 1) fun n70 =>
  nP (Sum.inl (s3, n70))) else (nE (s3 ||| ((zi 1) <<< ((((zi 5) * n18) + n26) &&& 31))) fun n69 =>
  nE (s4 + zi 1) fun n70 =>
  nP (Sum.inl (n69, n70))))) else (nE (s4 + zi 1) fun n70 =>
  nP (Sum.inl (s3, n70))))
noncomputable def m_moved (a0 : Int32) (a1 : Int32) (a2 : Int32) : mN Int32 :=
  nB (nLp (fun s => m_moved_l5 a0 a1 a2 s.1 s.2) ((zi 0), (zi 0))) fun e5 =>
  nP e5
noncomputable def m_quarter_l4_j37 (b0 : Int32) (b2 : Int32) (t0 : Int32) (t1 : Int32) : mN ((Int32 × Int32) ⊕ (Int32)) :=
  nE (t1 ||| t0) fun n38 =>
  nE (b2 + zi 1) fun n39 =>
  nP (Sum.inl (n38, n39))
noncomputable def m_quarter_l4 (f0 : Int32) (s1 : Int32) (s2 : Int32) : mN ((Int32 × Int32) ⊕ (Int32)) :=
  if (zi 25) ≤ s2 then (nP (Sum.inr s1)) else (if ((f0 >>> (s2 &&& 31)) &&& (zi 1)) = (zi 1) then (m_quarter_l4_j37 f0 s2 ((zi 1) <<< (((((zi 5) * (s2 - s2 / (zi 5) * (zi 5))) + (zi 4)) - (s2 / (zi 5))) &&& 31)) s1) else (m_quarter_l4_j37 f0 s2 (zi 0) s1))
noncomputable def m_quarter (a0 : Int32) : mN Int32 :=
  nB (nLp (fun s => m_quarter_l4 a0 s.1 s.2) ((zi 0), (zi 0))) fun e4 =>
  nP e4
noncomputable def m_unlikeOf_l30 (f2 : Int32) (f4 : Int32) (f5 : Int32) (s3 : Int32) (s6 : Int32) : mN ((Int32 × Int32) ⊕ (Int32)) :=
  if (zi 9) ≤ s6 then (nP (Sum.inr s3)) else (nB (m_moved f4 ((s6 / (zi 3)) - (zi 1)) ((s6 - s6 / (zi 3) * (zi 3)) - (zi 1))) fun v52 =>
  nB (m_houseAt f2) fun v60 =>
  nB (mA 0 (v60 + (zi 159))) fun v67 =>
  nB (m_ones (v52 ^^^ v67)) fun v69 =>
  nB (m_lesser s3 v69) fun v72 =>
  nE (s6 + zi 1) fun n76 =>
  nP (Sum.inl (v72, n76)))
noncomputable def m_unlikeOf_l21 (f2 : Int32) (s3 : Int32) (s4 : Int32) (s5 : Int32) : mN ((Int32 × Int32 × Int32) ⊕ (Int32)) :=
  if (zi 4) ≤ s5 then (nP (Sum.inr s3)) else (nB (nLp (fun s => m_unlikeOf_l30 f2 s4 s5 s.1 s.2) (s3, (zi 0))) fun e30 =>
  nB (m_quarter s4) fun v84 =>
  nE (s5 + zi 1) fun n89 =>
  nP (Sum.inl (e30, v84, n89)))
noncomputable def m_unlikeOf (a1 : Int32) (a2 : Int32) : mN Int32 :=
  nB (m_pageAt a1) fun v8 =>
  nB (mA 0 (v8 + (zi 202))) fun v15 =>
  nB (nLp (fun s => m_unlikeOf_l21 a2 s.1 s.2.1 s.2.2) ((zi 25), v15, (zi 0))) fun e21 =>
  nP e21
noncomputable def m_unlike (a1 : Int32) (a2 : Int32) : mN Int32 :=
  nB (m_isPage a1) fun v2 =>
  if v2 = 0 then (nP (zi (-1))) else (nB (m_isHouse a2) fun v10 =>
  if v10 = 0 then (nP (zi (-1))) else (nB (m_unlikeOf a1 a2) fun v19 =>
  nP v19))
noncomputable def m_near_l14_j43 (b1 : Int32) (b3 : Int32) : mN ((Int32 × Int32) ⊕ (Int32)) :=
  nE (b3 + zi 1) fun n45 =>
  nP (Sum.inl (b3, n45))
noncomputable def m_near_l14 (f1 : Int32) (s2 : Int32) (s3 : Int32) : mN ((Int32 × Int32) ⊕ (Int32)) :=
  nB (mA 0 (zi 0)) fun v20 =>
  if v20 ≤ s3 then (nP (Sum.inr s2)) else (if s2 < 0 then (m_near_l14_j43 f1 s3) else (nB (m_unlikeOf f1 s3) fun v31 =>
  nB (m_unlikeOf f1 s2) fun v37 =>
  if v37 ≤ v31 then (nE (s3 + zi 1) fun n45 =>
  nP (Sum.inl (s2, n45))) else (m_near_l14_j43 f1 s3)))
noncomputable def m_near (a1 : Int32) : mN Int32 :=
  nB (m_isPage a1) fun v2 =>
  if v2 = 0 then (nP (zi (-1))) else (nB (nLp (fun s => m_near_l14 a1 s.1 s.2) ((zi (-1)), (zi 0))) fun e14 =>
  nP e14)
noncomputable def m_count (a1 : Int32) : mN Int32 :=
  nB (m_isIn a1 (zi 0) (zi 5)) fun v3 =>
  if v3 = 0 then (if a1 = (zi 6) then (nB (mA 0 (zi 5006)) fun v29 =>
  nP v29) else (if a1 = (zi 7) then (nB (mA 0 (zi 5007)) fun v44 =>
  nP v44) else (if a1 = (zi 8) then (nB (m_sentences (zi (-1))) fun v54 =>
  nP v54) else (nB (mA 0 (zi 1)) fun v68 =>
  nB (m_isIn a1 (zi 10) ((zi 9) + v68)) fun v70 =>
  if v70 = 0 then (nB (mA 0 (zi 0)) fun v102 =>
  nB (m_isIn a1 (zi 20) ((zi 19) + v102)) fun v104 =>
  if v104 = 0 then (nB (m_isIn a1 (zi 30) (zi 37)) fun v131 =>
  if v131 = 0 then (nP (zi (-2))) else (nB (mA 0 (((zi 10) + a1) - (zi 30))) fun v148 =>
  nP v148)) else (nB (m_houseAt (a1 - (zi 20))) fun v118 =>
  nB (mA 0 (v118 + (zi 13))) fun v124 =>
  nP v124)) else (nB (m_pageAt (a1 - (zi 10))) fun v84 =>
  nB (mA 0 (v84 + (zi 15))) fun v90 =>
  nP v90))))) else (nB (mA 0 a1) fun v14 =>
  nP v14)
noncomputable def m_image_l20 (f1 : Int32) (s2 : Int32) : mN ((Int32) ⊕ (Unit)) :=
  if (zi 5520) ≤ s2 then (nP (Sum.inr ())) else (nB (mA 0 s2) fun v45 =>
  nB (mS 0 (((zi 5520) * (f1 + (zi 1))) + s2) v45) fun _ =>
  nE (s2 + zi 1) fun n47 =>
  nP (Sum.inl n47))
noncomputable def m_image (a1 : Int32) : mN Int32 :=
  nB (m_isIn a1 (zi 0) (zi 2)) fun v3 =>
  if v3 = 0 then (nP (zi 0)) else (nB (mZ 1 a1 (zi 1)) fun _ =>
  nB (nLp (fun s => m_image_l20 a1 s) (zi 0)) fun e20 =>
  nP (zi 1))
noncomputable def m_again_l22 (f1 : Int32) (s2 : Int32) : mN ((Int32) ⊕ (Unit)) :=
  if (zi 5520) ≤ s2 then (nP (Sum.inr ())) else (nB (mA 0 (((zi 5520) * (f1 + (zi 1))) + s2)) fun v47 =>
  nB (mS 0 s2 v47) fun _ =>
  nE (s2 + zi 1) fun n49 =>
  nP (Sum.inl n49))
noncomputable def m_again (a1 : Int32) : mN Int32 :=
  nB (m_isIn a1 (zi 0) (zi 2)) fun v3 =>
  if v3 = 0 then (nP (zi 0)) else (nB (mA 1 a1) fun v14 =>
  if v14 = 0 then (nP (zi 0)) else (nB (nLp (fun s => m_again_l22 a1 s) (zi 0)) fun e22 =>
  nP (zi 1)))
