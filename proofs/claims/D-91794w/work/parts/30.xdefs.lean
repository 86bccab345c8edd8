set_option maxRecDepth 100000
/-! PretendDesk as functions (printed by genx.py) -/
def xJ0_isLatin1 (a0 : Nat) : xN Int32 :=
  if (zi 1) = 0 then (nP (zi 0)) else (nB (sC a0) fun v7 =>
  if v7 = 0 then (nP (zi 1)) else (nP (zi 0)))
def xJ1_charAt (a0 : Nat) (a1 : Int32) : xN Int32 :=
  nB (vN a0) fun v2 =>
  nB (xJ0_checkIndex a1 v2) fun _ =>
  nB (vB a0 a1) fun v8 =>
  nC ((((((v8 &&& (zi 255))).toUInt32 % 65536).toInt32).toUInt32 % 65536).toInt32 = (((v8 &&& (zi 255))).toUInt32 % 65536).toInt32) (nP ((((v8 &&& (zi 255))).toUInt32 % 65536).toInt32))
def xJ0_charAt (a0 : Nat) (a1 : Int32) : xN Int32 :=
  nS a0 (nB (xJ0_isLatin1 a0) fun v1 =>
  if v1 = 0 then (nB (sV a0) fun v17 =>
  nX) else (nB (sV a0) fun v8 =>
  nB (xJ1_charAt v8 a1) fun v12 =>
  nC (((v12).toUInt32 % 65536).toInt32 = v12) (nP v12)))
def xJ0_coder (a0 : Nat) : xN Int32 :=
  if (zi 1) = 0 then (nC (((zi 1)).toInt8.toInt32 = (zi 1)) (nP (zi 1))) else (nB (sC a0) fun v7 =>
  nC ((v7).toInt8.toInt32 = v7) (nP v7))
def xJ0_length (a0 : Nat) : xN Int32 :=
  nB (sV a0) fun v1 =>
  nB (vN v1) fun v4 =>
  nS a0 (nB (xJ0_coder a0) fun v6 =>
  nP (v4 >>> (v6 &&& 31)))
def x7_bitCount (a0 : Int32) : xN Int32 :=
  nE (a0 - ((((a0).toUInt32 >>> (((zi 1)).toUInt32 &&& Int32.toUInt32 31)).toInt32) &&& (1431655765 : Int32))) fun n9 =>
  nE ((n9 &&& (858993459 : Int32)) + ((((n9).toUInt32 >>> (((zi 2)).toUInt32 &&& Int32.toUInt32 31)).toInt32) &&& (858993459 : Int32))) fun n23 =>
  nE ((n23 + (((n23).toUInt32 >>> (((zi 4)).toUInt32 &&& Int32.toUInt32 31)).toInt32)) &&& (252645135 : Int32)) fun n33 =>
  nE (n33 + (((n33).toUInt32 >>> (((zi 8)).toUInt32 &&& Int32.toUInt32 31)).toInt32)) fun n40 =>
  nE (n40 + (((n40).toUInt32 >>> (((zi 16)).toUInt32 &&& Int32.toUInt32 31)).toInt32)) fun n47 =>
  nP (n47 &&& (zi 63))
def x0_in (a0 : Int32) (a1 : Int32) (a2 : Int32) : xN Int32 :=
  if a0 < a1 then (nP (zi 0)) else (if a2 < a0 then (nP (zi 0)) else (nP (zi 1)))
def x8_init_2 (a0 : Nat) (a1 : Nat) : xN Unit :=
  nB (nA 10 (zi 2)) fun v6 =>
  nB (pR 801 8 a0 (some v6)) fun _ =>
  nB (gR 800 8 a1) fun v14 =>
  nB (pR 800 8 a0 v14) fun _ =>
  nB (gI 803 8 a1) fun v22 =>
  nB (pI 803 8 a0 v22) fun _ =>
  nB (gI 802 8 a1) fun v30 =>
  nB (pI 802 8 a0 v30) fun _ =>
  nB (gR 801 8 a1) fun v37 =>
  nB (gR 801 8 a0) fun v42 =>
  nB (gI 802 8 a0) fun v47 =>
  nN v37 fun r50_4 =>
  nN v42 fun r50_2 =>
  nB (cR 10 11 r50_4 (zi 0) r50_2 (zi 0) v47) fun _ =>
  nP ()
def x15_init (a0 : Nat) : xN Unit :=
  nB (nA 1 (zi 20)) fun v7 =>
  nB (pR 1500 15 a0 (some v7)) fun _ =>
  nB (nA 1 (zi 20)) fun v15 =>
  nB (pR 1501 15 a0 (some v15)) fun _ =>
  nB (nA 1 (zi 20)) fun v23 =>
  nB (pR 1502 15 a0 (some v23)) fun _ =>
  nB (nA 1 (zi 20)) fun v31 =>
  nB (pR 1503 15 a0 (some v31)) fun _ =>
  nP ()
def x14_init_2 (a0 : Nat) (a1 : Nat) : xN Unit :=
  nB (nA 1 (zi 0)) fun v6 =>
  nB (pR 1401 14 a0 (some v6)) fun _ =>
  nB (nO (15 + 1) 5) fun v12 =>
  nB (x15_init v12) fun _ =>
  nB (pR 1402 14 a0 (some v12)) fun _ =>
  nB (nA 12 (zi 6)) fun v25 =>
  nB (pR 1407 14 a0 (some v25)) fun _ =>
  nB (gR 1400 14 a1) fun v33 =>
  nB (pR 1400 14 a0 v33) fun _ =>
  nB (gR 1401 14 a1) fun v41 =>
  nB (pR 1401 14 a0 v41) fun _ =>
  nB (gI 1403 14 a1) fun v49 =>
  nB (pI 1403 14 a0 v49) fun _ =>
  nB (gI 1404 14 a1) fun v57 =>
  nB (pI 1404 14 a0 v57) fun _ =>
  nB (gR 1402 14 a1) fun v65 =>
  nB (pR 1402 14 a0 v65) fun _ =>
  nB (gI 1406 14 a1) fun v73 =>
  nB (pI 1406 14 a0 v73) fun _ =>
  nB (gI 1405 14 a1) fun v81 =>
  nB (pI 1405 14 a0 v81) fun _ =>
  nB (gR 1407 14 a1) fun v88 =>
  nB (gR 1407 14 a0) fun v93 =>
  nB (gI 1405 14 a0) fun v98 =>
  nN v88 fun r101_4 =>
  nN v93 fun r101_2 =>
  nB (cR 12 17 r101_4 (zi 0) r101_2 (zi 0) v98) fun _ =>
  nP ()
noncomputable def x3_init_2_l323 (f0 : Nat) (f1 : Nat) (s2 : Int32) : xN ((Int32) ⊕ (Unit)) :=
  nB (gI 304 3 f0) fun v325 =>
  if v325 ≤ s2 then (nP (Sum.inr ())) else (nB (gR 312 3 f0) fun v332 =>
  nB (nO (8 + 1) 4) fun v336 =>
  nB (gR 312 3 f1) fun v341 =>
  nN v341 fun r345_1 =>
  nB (aR 5 r345_1 s2) fun v345 =>
  nN v345 fun r346_0 =>
  nB (x8_init_2 v336 r346_0) fun _ =>
  nN v332 fun r349_2 =>
  nB (sR 5 8 r349_2 s2 v336) fun _ =>
  nE (s2 + zi 1) fun n350 =>
  nP (Sum.inl n350))
noncomputable def x3_init_2_l358 (f0 : Nat) (f1 : Nat) (s2 : Int32) : xN ((Int32) ⊕ (Unit)) :=
  nB (gI 305 3 f0) fun v360 =>
  if v360 ≤ s2 then (nP (Sum.inr ())) else (nB (gR 313 3 f0) fun v367 =>
  nB (nO (14 + 1) 8) fun v371 =>
  nB (gR 313 3 f1) fun v376 =>
  nN v376 fun r380_1 =>
  nB (aR 6 r380_1 s2) fun v380 =>
  nN v380 fun r381_0 =>
  nB (x14_init_2 v371 r381_0) fun _ =>
  nN v367 fun r384_2 =>
  nB (sR 6 14 r384_2 s2 v371) fun _ =>
  nE (s2 + zi 1) fun n385 =>
  nP (Sum.inl n385))
noncomputable def x3_init_2 (a0 : Nat) (a1 : Nat) : xN Unit :=
  nB (nA 1 (zi 500)) fun v8 =>
  nB (pR 300 3 a0 (some v8)) fun _ =>
  nB (pI 303 3 a0 (zi (-1))) fun _ =>
  nB (pI 307 3 a0 (zi 10)) fun _ =>
  nB (pI 308 3 a0 (zi 40)) fun _ =>
  nB (pI 309 3 a0 (zi 30)) fun _ =>
  nB (nA 5 (zi 5)) fun v38 =>
  nB (pR 312 3 a0 (some v38)) fun _ =>
  nB (nA 6 (zi 10)) fun v47 =>
  nB (pR 313 3 a0 (some v47)) fun _ =>
  nB (nA 7 (zi 16)) fun v56 =>
  nB (pR 314 3 a0 (some v56)) fun _ =>
  nB (nA 0 (zi 8)) fun v65 =>
  nB (pR 315 3 a0 (some v65)) fun _ =>
  nB (nA 0 (zi 10)) fun v73 =>
  nB (pR 316 3 a0 (some v73)) fun _ =>
  nB (nA 0 (zi 10)) fun v81 =>
  nB (pR 317 3 a0 (some v81)) fun _ =>
  nB (nA 3 (zi 20)) fun v89 =>
  nB (pR 318 3 a0 (some v89)) fun _ =>
  nB (nA 1 (zi 20)) fun v97 =>
  nB (pR 319 3 a0 (some v97)) fun _ =>
  nB (nA 8 (zi 8)) fun v105 =>
  nB (pR 320 3 a0 (some v105)) fun _ =>
  nB (nA 1 (zi 0)) fun v113 =>
  nB (pR 321 3 a0 (some v113)) fun _ =>
  nB (nA 1 (zi 1296)) fun v122 =>
  nB (pR 322 3 a0 (some v122)) fun _ =>
  nB (gR 300 3 a1) fun v128 =>
  nB (gR 300 3 a0) fun v133 =>
  nB (gI 301 3 a1) fun v138 =>
  nN v128 fun r141_4 =>
  nN v133 fun r141_2 =>
  nB (cI 1 r141_4 (zi 0) r141_2 (zi 0) v138) fun _ =>
  nB (gI 301 3 a1) fun v146 =>
  nB (pI 301 3 a0 v146) fun _ =>
  nB (gI 302 3 a1) fun v154 =>
  nB (pI 302 3 a0 v154) fun _ =>
  nB (gI 303 3 a1) fun v162 =>
  nB (pI 303 3 a0 v162) fun _ =>
  nB (gI 304 3 a1) fun v170 =>
  nB (pI 304 3 a0 v170) fun _ =>
  nB (gI 305 3 a1) fun v178 =>
  nB (pI 305 3 a0 v178) fun _ =>
  nB (gI 306 3 a1) fun v186 =>
  nB (pI 306 3 a0 v186) fun _ =>
  nB (gI 307 3 a1) fun v194 =>
  nB (pI 307 3 a0 v194) fun _ =>
  nB (gI 308 3 a1) fun v202 =>
  nB (pI 308 3 a0 v202) fun _ =>
  nB (gI 309 3 a1) fun v210 =>
  nB (pI 309 3 a0 v210) fun _ =>
  nB (gI 310 3 a1) fun v218 =>
  nB (pI 310 3 a0 v218) fun _ =>
  nB (gI 311 3 a1) fun v226 =>
  nB (pI 311 3 a0 v226) fun _ =>
  nB (gR 321 3 a1) fun v234 =>
  nB (pR 321 3 a0 v234) fun _ =>
  nB (gR 316 3 a1) fun v241 =>
  nB (gR 316 3 a0) fun v246 =>
  nN v241 fun r252_4 =>
  nN v246 fun r252_2 =>
  nB (cI 0 r252_4 (zi 0) r252_2 (zi 0) (zi 10)) fun _ =>
  nB (gR 317 3 a1) fun v256 =>
  nB (gR 317 3 a0) fun v261 =>
  nN v256 fun r267_4 =>
  nN v261 fun r267_2 =>
  nB (cI 0 r267_4 (zi 0) r267_2 (zi 0) (zi 10)) fun _ =>
  nB (gR 318 3 a1) fun v271 =>
  nB (gR 318 3 a0) fun v276 =>
  nB (gI 310 3 a0) fun v281 =>
  nN v271 fun r284_4 =>
  nN v276 fun r284_2 =>
  nB (cL r284_4 (zi 0) r284_2 (zi 0) v281) fun _ =>
  nB (gR 319 3 a1) fun v288 =>
  nB (gR 319 3 a0) fun v293 =>
  nB (gI 310 3 a0) fun v298 =>
  nN v288 fun r301_4 =>
  nN v293 fun r301_2 =>
  nB (cI 1 r301_4 (zi 0) r301_2 (zi 0) v298) fun _ =>
  nB (gR 320 3 a1) fun v305 =>
  nB (gR 320 3 a0) fun v310 =>
  nB (gI 311 3 a0) fun v315 =>
  nN v305 fun r318_4 =>
  nN v310 fun r318_2 =>
  nB (cR 8 19 r318_4 (zi 0) r318_2 (zi 0) v315) fun _ =>
  nB (nLp (fun s => x3_init_2_l323 a0 a1 s) (zi 0)) fun e323 =>
  nB (nLp (fun s => x3_init_2_l358 a0 a1 s) (zi 0)) fun e358 =>
  nB (gR 314 3 a1) fun v392 =>
  nB (gR 314 3 a0) fun v397 =>
  nB (gI 306 3 a0) fun v402 =>
  nN v392 fun r405_4 =>
  nN v397 fun r405_2 =>
  nB (cR 7 16 r405_4 (zi 0) r405_2 (zi 0) v402) fun _ =>
  nB (gR 315 3 a1) fun v409 =>
  nB (gR 315 3 a0) fun v414 =>
  nN v409 fun r420_4 =>
  nN v414 fun r420_2 =>
  nB (cI 0 r420_4 (zi 0) r420_2 (zi 0) (zi 8)) fun _ =>
  nB (gR 322 3 a1) fun v424 =>
  nB (gR 322 3 a0) fun v429 =>
  nN v424 fun r436_4 =>
  nN v429 fun r436_2 =>
  nB (cI 1 r436_4 (zi 0) r436_2 (zi 0) (zi 1296)) fun _ =>
  nP ()
noncomputable def x0_again (a0 : Nat) (a1 : Int32) : xN Int32 :=
  nB (x0_in a1 (zi 0) (zi 2)) fun v3 =>
  if v3 = 0 then (nP (zi 0)) else (nB (gR 5 0 a0) fun v10 =>
  nN v10 fun r14_1 =>
  nB (aR 9 r14_1 a1) fun v14 =>
  if v14 = none then (nP (zi 0)) else (nB (nO (3 + 1) 23) fun v21 =>
  nB (gR 5 0 a0) fun v26 =>
  nN v26 fun r30_1 =>
  nB (aR 9 r30_1 a1) fun v30 =>
  nN v30 fun r31_0 =>
  nB (x3_init_2 v21 r31_0) fun _ =>
  nB (pR 4 0 a0 (some v21)) fun _ =>
  nP (zi 1)))
def x0_sign (a0 : Int32) : xN Int32 :=
  nB (x0_in a0 (zi 97) (zi 122)) fun v5 =>
  if v5 = 0 then (nB (x0_in a0 (zi 48) (zi 57)) fun v23 =>
  if v23 = 0 then (nP (zi (-1))) else (nP ((a0 - (zi 48)) + (zi 26)))) else (nP (a0 - (zi 97)))
def x0_alike (a0 : Nat) (a1 : Int32) (a2 : Int32) (a3 : Int32) : xN Int32 :=
  nB (x0_sign a1) fun v1 =>
  nB (x0_sign a2) fun v7 =>
  if v1 = (zi (-1)) then (nP (zi 0)) else (if v7 = (zi (-1)) then (nP (zi 0)) else (if v1 = v7 then (nP (zi 0)) else (nB (x0_in a3 (zi 1) (zi 6)) fun v35 =>
  if v35 = 0 then (nP (zi 0)) else (nB (gR 4 0 a0) fun v44 =>
  nN v44 fun r47_0 =>
  nB (gR 322 3 r47_0) fun v47 =>
  nN v47 fun r60_2 =>
  nB (sB r60_2 (((zi 36) * v1) + v7) ((a3).toInt8.toInt32)) fun _ =>
  nB (gR 4 0 a0) fun v62 =>
  nN v62 fun r65_0 =>
  nB (gR 322 3 r65_0) fun v65 =>
  nN v65 fun r78_2 =>
  nB (sB r78_2 (((zi 36) * v7) + v1) ((a3).toInt8.toInt32)) fun _ =>
  nP (zi 1)))))
def x0_isPage (a0 : Nat) (a1 : Int32) : xN Int32 :=
  nB (gR 4 0 a0) fun v3 =>
  nN v3 fun r6_0 =>
  nB (gI 305 3 r6_0) fun v6 =>
  nB (x0_in a1 (zi 0) (v6 - (zi 1))) fun v11 =>
  nC (v11 = 0 ∨ v11 = 1) (nP v11)
def x0_isLand (a0 : Int32) : xN Int32 :=
  nB (x0_in a0 (zi 0) (zi 3)) fun v3 =>
  nC (v3 = 0 ∨ v3 = 1) (nP v3)
def x0_isDay (a0 : Int32) : xN Int32 :=
  nB (x0_in a0 (zi 0) (zi 99)) fun v4 =>
  nC (v4 = 0 ∨ v4 = 1) (nP v4)
def x0_isSeen (a0 : Nat) (a1 : Int32) (a2 : Int32) (a3 : Int32) : xN Int32 :=
  nK 0 a0 (nB (x0_isPage a0 a1) fun v2 =>
  if v2 = 0 then (nP (zi 0)) else (nB (x0_isLand a2) fun v9 =>
  if v9 = 0 then (nP (zi 0)) else (nB (x0_isDay a3) fun v16 =>
  if v16 = 0 then (nP (zi 0)) else (nP (zi 1)))))
def x13_isShown_j16 (b0 : Nat) (b2 : Int32) : xN Int32 :=
  nB (gI 1303 13 b0) fun v17 =>
  if b2 < v17 then (nP (zi 0)) else (nP (zi 1))
def x13_isShown (a0 : Nat) (a1 : Int32) (a2 : Int32) : xN Int32 :=
  nB (gI 1302 13 a0) fun v1 =>
  if v1 = (zi (-1)) then (x13_isShown_j16 a0 a2) else (nB (gI 1302 13 a0) fun v9 =>
  if v9 = a1 then (x13_isShown_j16 a0 a2) else (nP (zi 0)))
noncomputable def x2_put_s_l48 (F : Nat → Nat → Int32 → Int32 → Int32 → Int32 → Nat → xN Unit) (f0 : Nat) (f1 : Nat) (f2 : Int32) (f3 : Int32) (f4 : Int32) (f5 : Int32) (f6 : Nat) (f7 : Int32) (f8 : Int32) (s9 : Int32) : xN ((Int32) ⊕ (Unit)) :=
  nB (gI 1101 11 f1) fun v51 =>
  if v51 ≤ s9 then (nP (Sum.inr ())) else (nB (gR 1100 11 f1) fun v58 =>
  nN v58 fun r63_1 =>
  nB (aR 11 r63_1 s9) fun v63 =>
  nN v63 fun r64_0 =>
  nB (gI 1304 13 r64_0) fun v64 =>
  if v64 = f2 then (nK 2 f0 (nB (F f0 f1 s9 f3 f4 f5 f6) fun _ =>
  nE (s9 + zi 1) fun n85 =>
  nP (Sum.inl n85))) else (nE (s9 + zi 1) fun n85 =>
  nP (Sum.inl n85)))
noncomputable def x2_put_s_j147 (F : Nat → Nat → Int32 → Int32 → Int32 → Int32 → Nat → xN Unit) (b0 : Nat) (b8 : Int32) (t0 : Int32) (t1 : Int32) (t2 : Option Nat) : xN Unit :=
  nN t2 fun r147_2 =>
  nB (sI r147_2 t1 t0) fun _ =>
  nB (gR 202 2 b0) fun v149 =>
  nB (gI 203 2 b0) fun v153 =>
  nN v149 fun r158_2 =>
  nB (sI r158_2 v153 b8) fun _ =>
  nB (gI 203 2 b0) fun v161 =>
  nB (pI 203 2 b0 (v161 + (zi 1))) fun _ =>
  nP ()
noncomputable def x2_put_s_j37 (F : Nat → Nat → Int32 → Int32 → Int32 → Int32 → Nat → xN Unit) (b0 : Nat) (b1 : Nat) (b2 : Int32) (b3 : Int32) (b4 : Int32) (b5 : Int32) (b6 : Nat) (b7 : Int32) : xN Unit :=
  nB (gI 203 2 b0) fun v38 =>
  nE (b2 + (zi 1)) fun n46 =>
  nB (nLp (fun s => x2_put_s_l48 F b0 b1 b2 b3 b4 b5 b6 b7 v38 s) n46) fun e48 =>
  if b7 = 0 then (nB (gR 200 2 b0) fun v98 =>
  nB (gI 203 2 b0) fun v102 =>
  nB (gR 1100 11 b1) fun v106 =>
  nN v106 fun r110_1 =>
  nB (aR 11 r110_1 b2) fun v110 =>
  nN v110 fun r111_0 =>
  nB (gI 1300 13 r111_0) fun v111 =>
  nN v98 fun r114_2 =>
  nB (sI r114_2 v102 v111) fun _ =>
  nB (gR 201 2 b0) fun v116 =>
  nB (gI 203 2 b0) fun v120 =>
  nB (aI 0 b6 b2) fun v126 =>
  if v126 = (zi (-1)) then (nB (gR 1100 11 b1) fun v132 =>
  nN v132 fun r136_1 =>
  nB (aR 11 r136_1 b2) fun v136 =>
  nN v136 fun r137_0 =>
  nB (gI 1301 13 r137_0) fun v137 =>
  x2_put_s_j147 F b0 v38 v137 v120 v116) else (nB (aI 0 b6 b2) fun v146 =>
  x2_put_s_j147 F b0 v38 v146 v120 v116)) else (nP ())
noncomputable def x2_put_s_j14 (F : Nat → Nat → Int32 → Int32 → Int32 → Int32 → Nat → xN Unit) (b0 : Nat) (b1 : Nat) (b2 : Int32) (b3 : Int32) (b4 : Int32) (b5 : Int32) (b6 : Nat) (t0 : Int32) : xN Unit :=
  if t0 = 0 then (nB (gR 1100 11 b1) fun v22 =>
  nN v22 fun r26_1 =>
  nB (aR 11 r26_1 b2) fun v26 =>
  nN v26 fun r30_2 =>
  nK 13 r30_2 (nB (x13_isShown r30_2 b3 b4) fun v30 =>
  if v30 = 0 then (nP ()) else (x2_put_s_j37 F b0 b1 b2 b3 b4 b5 b6 t0))) else (x2_put_s_j37 F b0 b1 b2 b3 b4 b5 b6 t0)
noncomputable def x2_put_s (F : Nat → Nat → Int32 → Int32 → Int32 → Int32 → Nat → xN Unit) (a0 : Nat) (a1 : Nat) (a2 : Int32) (a3 : Int32) (a4 : Int32) (a5 : Int32) (a6 : Nat) : xN Unit :=
  if ((a5 >>> (a2 &&& 31)) &&& (zi 1)) = 0 then (x2_put_s_j14 F a0 a1 a2 a3 a4 a5 a6 (zi 0)) else (x2_put_s_j14 F a0 a1 a2 a3 a4 a5 a6 (zi 1))
noncomputable def x2_put_d : Nat → Nat → Nat → Int32 → Int32 → Int32 → Int32 → Nat → xN Unit
  | 0 => fun _ _ _ _ _ _ _ => nX
  | d + 1 => x2_put_s (x2_put_d d)
noncomputable def x2_put (a0 : Nat) (a1 : Nat) (a2 : Int32) (a3 : Int32) (a4 : Int32) (a5 : Int32) (a6 : Nat) : xN Unit := x2_put_d 9 a0 a1 a2 a3 a4 a5 a6
noncomputable def x2_open_l8 (f0 : Nat) (f1 : Nat) (f2 : Int32) (f3 : Int32) (f4 : Int32) (f5 : Nat) (s6 : Int32) : xN ((Int32) ⊕ (Unit)) :=
  nB (gI 1101 11 f1) fun v11 =>
  if v11 ≤ s6 then (nP (Sum.inr ())) else (nB (gR 1100 11 f1) fun v18 =>
  nN v18 fun r23_1 =>
  nB (aR 11 r23_1 s6) fun v23 =>
  nN v23 fun r24_0 =>
  nB (gI 1304 13 r24_0) fun v24 =>
  if v24 = (zi (-1)) then (nK 2 f0 (nB (x2_put f0 f1 s6 f2 f3 f4 f5) fun _ =>
  nE (s6 + zi 1) fun n44 =>
  nP (Sum.inl n44))) else (nE (s6 + zi 1) fun n44 =>
  nP (Sum.inl n44)))
noncomputable def x2_open (a0 : Nat) (a1 : Nat) (a2 : Int32) (a3 : Int32) (a4 : Int32) (a5 : Nat) : xN Nat :=
  nB (pI 203 2 a0 (zi 0)) fun _ =>
  nB (nLp (fun s => x2_open_l8 a0 a1 a2 a3 a4 a5 s) (zi 0)) fun e8 =>
  nB (gR 200 2 a0) fun v51 =>
  nB (gI 203 2 a0) fun v55 =>
  nN v51 fun r60_2 =>
  nB (sI r60_2 v55 (zi 99)) fun _ =>
  nB (gR 201 2 a0) fun v62 =>
  nB (gI 203 2 a0) fun v66 =>
  nN v62 fun r70_2 =>
  nB (sI r70_2 v66 (zi 0)) fun _ =>
  nB (gR 202 2 a0) fun v72 =>
  nB (gI 203 2 a0) fun v76 =>
  nN v72 fun r80_2 =>
  nB (sI r80_2 v76 (zi 0)) fun _ =>
  nP a0
noncomputable def x1_isCorner_l4 (f1 : Nat) (f2 : Int32) (s3 : Int32) : xN ((Int32) ⊕ (Unit ⊕ (Unit))) :=
  nB (gI 203 2 f1) fun v6 =>
  if v6 < s3 then (nP (Sum.inr (Sum.inr ()))) else (nB (gR 202 2 f1) fun v13 =>
  nN v13 fun r17_1 =>
  nB (aI 0 r17_1 s3) fun v17 =>
  nB (gR 202 2 f1) fun v19 =>
  nN v19 fun r23_1 =>
  nB (aI 0 r23_1 f2) fun v23 =>
  if v17 = v23 then (nP (Sum.inr (Sum.inl ()))) else (nE (s3 + zi 1) fun n29 =>
  nP (Sum.inl n29)))
noncomputable def x1_isCorner (a0 : Nat) (a1 : Nat) (a2 : Int32) : xN Int32 :=
  nE (a2 + (zi 1)) fun n3 =>
  nB (nLp (fun s => x1_isCorner_l4 a1 a2 s) n3) (nD (fun e4 => nP (zi 0))
  (fun e4 => nP (zi 1)))
def x1_turn_j28 (b0 : Nat) (b1 : Int32) (b2 : Int32) : xN Int32 :=
  nB (gR 102 1 b0) fun v29 =>
  nN v29 fun r32_0 =>
  nB (gR 200 2 r32_0) fun v32 =>
  nN v32 fun r36_1 =>
  nB (aI 0 r36_1 b1) fun v36 =>
  nB (gR 103 1 b0) fun v38 =>
  nN v38 fun r41_0 =>
  nB (gR 200 2 r41_0) fun v41 =>
  nN v41 fun r45_1 =>
  nB (aI 0 r45_1 b2) fun v45 =>
  if v36 = v45 then (nP (zi 0)) else (nP (100000 : Int32))
def x1_turn_j108 (t0 : Int32) (t1 : Int32) : xN Int32 :=
  nP (t1 + t0)
def x1_turn_j82 (b0 : Nat) (b1 : Int32) (b2 : Int32) (t0 : Int32) : xN Int32 :=
  nB (gR 102 1 b0) fun v83 =>
  nN v83 fun r86_0 =>
  nB (gR 201 2 r86_0) fun v86 =>
  nN v86 fun r90_1 =>
  nB (aI 0 r90_1 b1) fun v90 =>
  nB (gR 103 1 b0) fun v92 =>
  nN v92 fun r95_0 =>
  nB (gR 201 2 r95_0) fun v95 =>
  nN v95 fun r99_1 =>
  nB (aI 0 r99_1 b2) fun v99 =>
  if v90 = v99 then (x1_turn_j108 (zi 0) t0) else (x1_turn_j108 (zi 1) t0)
def x1_turn (a0 : Nat) (a1 : Int32) (a2 : Int32) : xN Int32 :=
  nB (gR 102 1 a0) fun v1 =>
  nN v1 fun r4_0 =>
  nB (gR 200 2 r4_0) fun v4 =>
  nN v4 fun r8_1 =>
  nB (aI 0 r8_1 a1) fun v8 =>
  if v8 = (zi 99) then (x1_turn_j28 a0 a1 a2) else (nB (gR 103 1 a0) fun v15 =>
  nN v15 fun r18_0 =>
  nB (gR 200 2 r18_0) fun v18 =>
  nN v18 fun r22_1 =>
  nB (aI 0 r22_1 a2) fun v22 =>
  if v22 = (zi 99) then (x1_turn_j28 a0 a1 a2) else (nB (gR 102 1 a0) fun v57 =>
  nN v57 fun r60_0 =>
  nB (gR 200 2 r60_0) fun v60 =>
  nN v60 fun r64_1 =>
  nB (aI 0 r64_1 a1) fun v64 =>
  nB (gR 103 1 a0) fun v66 =>
  nN v66 fun r69_0 =>
  nB (gR 200 2 r69_0) fun v69 =>
  nN v69 fun r73_1 =>
  nB (aI 0 r73_1 a2) fun v73 =>
  if v64 = v73 then (x1_turn_j82 a0 a1 a2 (zi 0)) else (x1_turn_j82 a0 a1 a2 (zi 3))))
noncomputable def x1_lay_l35 (f0 : Nat) (f1 : Int32) (f2 : Int32) (f3 : Int32) (f4 : Int32) (f5 : Int32) (s6 : Int32) : xN ((Int32) ⊕ (Unit)) :=
  if f1 < s6 then (nP (Sum.inr ())) else (nB (gR 101 1 f0) fun v42 =>
  nB (gR 101 1 f0) fun v55 =>
  nN v55 fun r65_1 =>
  nB (aI 0 r65_1 (f5 * (s6 - f3))) fun v65 =>
  nN v42 fun r68_2 =>
  nB (sI r68_2 (f5 * ((s6 - f3) + (zi 1))) (v65 + (zi 2))) fun _ =>
  nE (s6 + zi 1) fun n69 =>
  nP (Sum.inl n69))
noncomputable def x1_lay_l79 (f0 : Nat) (f1 : Int32) (f2 : Int32) (f3 : Int32) (f4 : Int32) (f5 : Int32) (s6 : Int32) : xN ((Int32) ⊕ (Unit)) :=
  if f2 < s6 then (nP (Sum.inr ())) else (nB (gR 101 1 f0) fun v86 =>
  nB (gR 101 1 f0) fun v97 =>
  nN v97 fun r105_1 =>
  nB (aI 0 r105_1 (s6 - f4)) fun v105 =>
  nN v86 fun r108_2 =>
  nB (sI r108_2 ((s6 - f4) + (zi 1)) (v105 + (zi 2))) fun _ =>
  nE (s6 + zi 1) fun n109 =>
  nP (Sum.inl n109))
noncomputable def x1_lay_l128_j306 (b0 : Nat) (b1 : Int32) (b2 : Int32) (b3 : Int32) (b4 : Int32) (b5 : Int32) (b6 : Int32) (b7 : Int32) (b8 : Int32) (b9 : Int32) (b10 : Int32) : xN ((Int32) ⊕ (Unit)) :=
  nB (gR 101 1 b0) fun v307 =>
  nN v307 fun r314_2 =>
  nB (sI r314_2 b8 b9) fun _ =>
  if b10 = 0 then (nE (b7 + zi 1) fun n335 =>
  nP (Sum.inl n335)) else (nB (gR 100 1 b0) fun v321 =>
  nN v321 fun r334_2 =>
  nB (sI r334_2 (((zi 15) * b6) + b7) b9) fun _ =>
  nE (b7 + zi 1) fun n335 =>
  nP (Sum.inl n335))
noncomputable def x1_lay_l128_j213 (b0 : Nat) (b1 : Int32) (b2 : Int32) (b3 : Int32) (b4 : Int32) (b5 : Int32) (b6 : Int32) (b7 : Int32) (b8 : Int32) (b9 : Int32) (t0 : Int32) : xN ((Int32) ⊕ (Unit)) :=
  if t0 = 0 then (nB (gR 101 1 b0) fun v254 =>
  nB (gR 102 1 b0) fun v260 =>
  nN v260 fun r263_0 =>
  nB (gR 202 2 r263_0) fun v263 =>
  nN v263 fun r268_1 =>
  nB (aI 0 r268_1 b6) fun v268 =>
  nB (gR 103 1 b0) fun v273 =>
  nN v273 fun r276_0 =>
  nB (gR 202 2 r276_0) fun v276 =>
  nN v276 fun r281_1 =>
  nB (aI 0 r281_1 b7) fun v281 =>
  nN v254 fun r286_1 =>
  nB (aI 0 r286_1 (((b5 * (v268 - b3)) + v281) - b4)) fun v286 =>
  nB (gR 100 1 b0) fun v288 =>
  nN v288 fun r299_1 =>
  nB (aI 0 r299_1 (((zi 15) * b6) + b7)) fun v299 =>
  nE (if (v286 + v299) < b9 then (v286 + v299) else b9) fun n301 =>
  x1_lay_l128_j306 b0 b1 b2 b3 b4 b5 b6 b7 b8 n301 t0) else (nB (gR 101 1 b0) fun v223 =>
  nN v223 fun r233_1 =>
  nB (aI 0 r233_1 ((b8 - b5) - (zi 1))) fun v233 =>
  nK 1 b0 (nB (x1_turn b0 b6 b7) fun v239 =>
  nE (if (v233 + v239) < b9 then (v233 + v239) else b9) fun n243 =>
  x1_lay_l128_j306 b0 b1 b2 b3 b4 b5 b6 b7 b8 n243 t0))
noncomputable def x1_lay_l128_j212 (b0 : Nat) (b1 : Int32) (b2 : Int32) (b3 : Int32) (b4 : Int32) (b5 : Int32) (b6 : Int32) (b7 : Int32) (b8 : Int32) (b9 : Int32) : xN ((Int32) ⊕ (Unit)) :=
  x1_lay_l128_j213 b0 b1 b2 b3 b4 b5 b6 b7 b8 b9 (zi 0)
noncomputable def x1_lay_l128 (f0 : Nat) (f1 : Int32) (f2 : Int32) (f3 : Int32) (f4 : Int32) (f5 : Int32) (f6 : Int32) (s7 : Int32) : xN ((Int32) ⊕ (Unit)) :=
  if f2 < s7 then (nP (Sum.inr ())) else (nE ((((f5 * ((f6 - f3) + (zi 1))) + s7) - f4) + (zi 1)) fun n151 =>
  nB (gR 101 1 f0) fun v154 =>
  nN v154 fun r162_1 =>
  nB (aI 0 r162_1 (n151 - f5)) fun v162 =>
  nB (gR 101 1 f0) fun v164 =>
  nN v164 fun r171_1 =>
  nB (aI 0 r171_1 (n151 - (zi 1))) fun v171 =>
  nE (if v171 < v162 then v171 else v162) fun n172 =>
  nE (n172 + (zi 2)) fun n177 =>
  nB (gR 102 1 f0) fun v180 =>
  nN v180 fun r183_0 =>
  nB (gR 202 2 r183_0) fun v183 =>
  nN v183 fun r188_1 =>
  nB (aI 0 r188_1 f6) fun v188 =>
  if v188 = f3 then (nB (gR 103 1 f0) fun v194 =>
  nN v194 fun r197_0 =>
  nB (gR 202 2 r197_0) fun v197 =>
  nN v197 fun r202_1 =>
  nB (aI 0 r202_1 s7) fun v202 =>
  if v202 = f4 then (x1_lay_l128_j213 f0 f1 f2 f3 f4 f5 f6 s7 n151 n177 (zi 1)) else (x1_lay_l128_j212 f0 f1 f2 f3 f4 f5 f6 s7 n151 n177)) else (x1_lay_l128_j212 f0 f1 f2 f3 f4 f5 f6 s7 n151 n177))
noncomputable def x1_lay_l118 (f0 : Nat) (f1 : Int32) (f2 : Int32) (f3 : Int32) (f4 : Int32) (f5 : Int32) (s6 : Int32) : xN ((Int32) ⊕ (Unit)) :=
  if f1 < s6 then (nP (Sum.inr ())) else (nB (nLp (fun s => x1_lay_l128 f0 f1 f2 f3 f4 f5 s6 s) f4) fun e128 =>
  nE (s6 + zi 1) fun n341 =>
  nP (Sum.inl n341))
noncomputable def x1_lay (a0 : Nat) (a1 : Int32) (a2 : Int32) : xN Unit :=
  nB (gR 102 1 a0) fun v1 =>
  nN v1 fun r4_0 =>
  nB (gR 202 2 r4_0) fun v4 =>
  nN v4 fun r8_1 =>
  nB (aI 0 r8_1 a1) fun v8 =>
  nB (gR 103 1 a0) fun v11 =>
  nN v11 fun r14_0 =>
  nB (gR 202 2 r14_0) fun v14 =>
  nN v14 fun r18_1 =>
  nB (aI 0 r18_1 a2) fun v18 =>
  nB (gR 101 1 a0) fun v26 =>
  nN v26 fun r31_2 =>
  nB (sI r31_2 (zi 0) (zi 0)) fun _ =>
  nB (nLp (fun s => x1_lay_l35 a0 a1 a2 v8 v18 (zi 16) s) v8) fun e35 =>
  nB (nLp (fun s => x1_lay_l79 a0 a1 a2 v8 v18 (zi 16) s) v18) fun e79 =>
  nB (nLp (fun s => x1_lay_l118 a0 a1 a2 v8 v18 (zi 16) s) v8) fun e118 =>
  nP ()
noncomputable def x1_far_l15 (f0 : Nat) (f1 : Int32) (s2 : Int32) : xN ((Int32) ⊕ (Unit)) :=
  nB (gR 103 1 f0) fun v17 =>
  nN v17 fun r20_0 =>
  nB (gI 203 2 r20_0) fun v20 =>
  if v20 < s2 then (nP (Sum.inr ())) else (nB (gR 102 1 f0) fun v28 =>
  nN v28 fun r32_1 =>
  nK 1 f0 (nB (x1_isCorner f0 r32_1 f1) fun v32 =>
  if v32 = 0 then (nE (s2 + zi 1) fun n56 =>
  nP (Sum.inl n56)) else (nB (gR 103 1 f0) fun v40 =>
  nN v40 fun r44_1 =>
  nK 1 f0 (nB (x1_isCorner f0 r44_1 s2) fun v44 =>
  if v44 = 0 then (nE (s2 + zi 1) fun n56 =>
  nP (Sum.inl n56)) else (nK 1 f0 (nB (x1_lay f0 f1 s2) fun _ =>
  nE (s2 + zi 1) fun n56 =>
  nP (Sum.inl n56)))))))
noncomputable def x1_far_l2 (f0 : Nat) (s1 : Int32) : xN ((Int32) ⊕ (Unit)) :=
  nB (gR 102 1 f0) fun v4 =>
  nN v4 fun r7_0 =>
  nB (gI 203 2 r7_0) fun v7 =>
  if v7 < s1 then (nP (Sum.inr ())) else (nB (nLp (fun s => x1_far_l15 f0 s1 s) (zi 0)) fun e15 =>
  nE (s1 + zi 1) fun n62 =>
  nP (Sum.inl n62))
noncomputable def x1_far (a0 : Nat) : xN Int32 :=
  nB (nLp (fun s => x1_far_l2 a0 s) (zi 0)) fun e2 =>
  nB (gR 100 1 a0) fun v69 =>
  nB (gR 102 1 a0) fun v75 =>
  nN v75 fun r78_0 =>
  nB (gI 203 2 r78_0) fun v78 =>
  nB (gR 103 1 a0) fun v83 =>
  nN v83 fun r86_0 =>
  nB (gI 203 2 r86_0) fun v86 =>
  nN v69 fun r90_1 =>
  nB (aI 0 r90_1 (((zi 15) * v78) + v86)) fun v90 =>
  nP v90
noncomputable def x0_lookAt_l8 (f0 : Nat) (f1 : Int32) (f2 : Int32) (f3 : Int32) (s4 : Int32) (s5 : Int32) : xN ((Int32 × Int32) ⊕ (Int32)) :=
  nB (gR 4 0 f0) fun v11 =>
  nN v11 fun r14_0 =>
  nB (gR 312 3 r14_0) fun v14 =>
  nN v14 fun r18_1 =>
  nB (aR 5 r18_1 f1) fun v18 =>
  nN v18 fun r19_0 =>
  nB (gI 802 8 r19_0) fun v19 =>
  if v19 ≤ s5 then (nP (Sum.inr s4)) else (nB (gR 0 0 f0) fun v26 =>
  nN v26 fun r29_0 =>
  nB (gR 103 1 r29_0) fun v29 =>
  nB (gR 4 0 f0) fun v33 =>
  nN v33 fun r36_0 =>
  nB (gR 312 3 r36_0) fun v36 =>
  nN v36 fun r40_1 =>
  nB (aR 5 r40_1 f1) fun v40 =>
  nN v40 fun r41_0 =>
  nB (gR 801 8 r41_0) fun v41 =>
  nN v41 fun r46_1 =>
  nB (aR 10 r46_1 s5) fun v46 =>
  nB (gR 1 0 f0) fun v51 =>
  nN v51 fun r54_0 =>
  nN v46 fun r54_4 =>
  nN v29 fun r54_5 =>
  nK 2 r54_5 (nB (x2_open r54_5 r54_4 f2 f3 (zi 0) r54_0) fun v54 =>
  nB (gR 0 0 f0) fun v61 =>
  nN v61 fun r64_0 =>
  nK 1 r64_0 (nB (x1_far r64_0) fun v64 =>
  nE (if v64 < s4 then v64 else s4) fun n67 =>
  nE (s5 + zi 1) fun n72 =>
  nP (Sum.inl (n67, n72)))))
noncomputable def x0_lookAt (a0 : Nat) (a1 : Int32) (a2 : Int32) (a3 : Int32) : xN Int32 :=
  nB (nLp (fun s => x0_lookAt_l8 a0 a1 a2 a3 s.1 s.2) ((zi 999), (zi 0))) fun e8 =>
  nP e8
noncomputable def x4_at_l42 (f0 : Nat) (f2 : Int32) (f3 : Int32) (f6 : Nat) (s7 : Int32) : xN ((Int32) ⊕ (Unit)) :=
  nB (gI 203 2 f6) fun v46 =>
  if v46 ≤ s7 then (nP (Sum.inr ())) else (nB (gI 402 4 f0) fun v54 =>
  nB (gR 403 4 f0) fun v58 =>
  nN v58 fun r61_0 =>
  nB (gR 4 0 r61_0) fun v61 =>
  nN v61 fun r64_0 =>
  nB (gR 315 3 r64_0) fun v64 =>
  nB (gR 200 2 f6) fun v69 =>
  nN v69 fun r74_1 =>
  nB (aI 0 r74_1 s7) fun v74 =>
  nN v64 fun r75_1 =>
  nB (aI 0 r75_1 v74) fun v75 =>
  nB (pI 402 4 f0 (v54 + v75)) fun _ =>
  nE (s7 + zi 1) fun n80 =>
  nP (Sum.inl n80))
noncomputable def x4_at_l89_j137 (b0 : Nat) (b2 : Int32) (b3 : Int32) (b7 : Int32) (b8 : Int32) : xN ((Int32) ⊕ (Unit)) :=
  nB (pI 400 4 b0 b7) fun _ =>
  nB (pI 401 4 b0 b8) fun _ =>
  nE (b7 + zi 1) fun n149 =>
  nP (Sum.inl n149)
noncomputable def x4_at_l89 (f0 : Nat) (f2 : Int32) (f3 : Int32) (s7 : Int32) : xN ((Int32) ⊕ (Unit)) :=
  nB (gR 403 4 f0) fun v92 =>
  nN v92 fun r95_0 =>
  nB (gR 4 0 r95_0) fun v95 =>
  nN v95 fun r98_0 =>
  nB (gI 304 3 r98_0) fun v98 =>
  if v98 ≤ s7 then (nP (Sum.inr ())) else (nB (gR 403 4 f0) fun v105 =>
  nN v105 fun r112_3 =>
  nK 0 r112_3 (nB (x0_lookAt r112_3 s7 f2 f3) fun v112 =>
  nB (gI 400 4 f0) fun v118 =>
  if v118 = (zi (-1)) then (x4_at_l89_j137 f0 f2 f3 s7 v112) else (nB (gI 401 4 f0) fun v128 =>
  if v112 < v128 then (x4_at_l89_j137 f0 f2 f3 s7 v112) else (nE (s7 + zi 1) fun n149 =>
  nP (Sum.inl n149)))))
noncomputable def x4_at (a0 : Nat) (a1 : Nat) (a2 : Int32) (a3 : Int32) (a4 : Int32) (a5 : Nat) : xN Nat :=
  nB (pI 400 4 a0 (zi (-1))) fun _ =>
  nB (pI 401 4 a0 (zi 999)) fun _ =>
  nB (pI 402 4 a0 (zi 0)) fun _ =>
  nB (gR 403 4 a0) fun v18 =>
  nN v18 fun r21_0 =>
  nB (gR 0 0 r21_0) fun v21 =>
  nN v21 fun r24_0 =>
  nB (gR 102 1 r24_0) fun v24 =>
  nN v24 fun r34_5 =>
  nK 2 r34_5 (nB (x2_open r34_5 a1 a2 a3 a4 a5) fun v34 =>
  nB (nLp (fun s => x4_at_l42 a0 a2 a3 v34 s) (zi 0)) fun e42 =>
  nB (nLp (fun s => x4_at_l89 a0 a2 a3 s) (zi 0)) fun e89 =>
  nP a0)
noncomputable def x0_lookOf (a0 : Nat) (a1 : Int32) (a2 : Int32) (a3 : Int32) : xN Nat :=
  nB (gR 7 0 a0) fun v1 =>
  nB (gR 4 0 a0) fun v5 =>
  nN v5 fun r8_0 =>
  nB (gR 313 3 r8_0) fun v8 =>
  nN v8 fun r12_1 =>
  nB (aR 6 r12_1 a1) fun v12 =>
  nN v12 fun r13_0 =>
  nB (gR 1400 14 r13_0) fun v13 =>
  nB (gR 1 0 a0) fun v20 =>
  nN v20 fun r23_0 =>
  nN v13 fun r23_4 =>
  nN v1 fun r23_5 =>
  nK 4 r23_5 (nB (x4_at r23_5 r23_4 a2 a3 (zi 0) r23_0) fun v23 =>
  nP v23)
noncomputable def x0_asks (a0 : Nat) (a1 : Int32) (a2 : Int32) (a3 : Int32) : xN Int32 :=
  nK 0 a0 (nB (x0_isSeen a0 a1 a2 a3) fun v4 =>
  if v4 = 0 then (nP (zi (-1))) else (nK 0 a0 (nB (x0_lookOf a0 a1 a2 a3) fun v14 =>
  nB (gI 402 4 v14) fun v17 =>
  nP v17)))
def x0_box (a0 : Nat) (a1 : Int32) (a2 : Int32) (a3 : Int32) : xN Int32 :=
  nK 0 a0 (nB (x0_isPage a0 a1) fun v2 =>
  if v2 = 0 then (nP (zi (-2))) else (nB (gR 4 0 a0) fun v11 =>
  nN v11 fun r14_0 =>
  nB (gR 313 3 r14_0) fun v14 =>
  nN v14 fun r18_1 =>
  nB (aR 6 r18_1 a1) fun v18 =>
  nN v18 fun r19_0 =>
  nB (gR 1400 14 r19_0) fun v19 =>
  nN v19 fun r22_0 =>
  nB (gI 1101 11 r22_0) fun v22 =>
  nB (x0_in a2 (zi 0) (v22 - (zi 1))) fun v27 =>
  if v27 = 0 then (nP (zi (-2))) else (nB (gR 4 0 a0) fun v37 =>
  nN v37 fun r40_0 =>
  nB (gR 313 3 r40_0) fun v40 =>
  nN v40 fun r44_1 =>
  nB (aR 6 r44_1 a1) fun v44 =>
  nN v44 fun r45_0 =>
  nB (gR 1400 14 r45_0) fun v45 =>
  nN v45 fun r48_0 =>
  nB (gR 1100 11 r48_0) fun v48 =>
  nN v48 fun r52_1 =>
  nB (aR 11 r52_1 a2) fun v52 =>
  if a3 = zi 0 then (nN v52 fun r94_0 =>
  nB (gI 1300 13 r94_0) fun v94 =>
  nP v94) else (if a3 = zi 1 then (nN v52 fun r100_0 =>
  nB (gI 1301 13 r100_0) fun v100 =>
  nP v100) else (if a3 = zi 2 then (nN v52 fun r106_0 =>
  nB (gI 1304 13 r106_0) fun v106 =>
  nP v106) else (if a3 = zi 3 then (nN v52 fun r112_0 =>
  nB (gI 1302 13 r112_0) fun v112 =>
  nP v112) else (if a3 = zi 4 then (nN v52 fun r118_0 =>
  nB (gI 1303 13 r118_0) fun v118 =>
  nP v118) else (nP (zi (-2))))))))))
noncomputable def x0_boxes (a0 : Nat) (a1 : Int32) (a2 : Int32) (a3 : Int32) : xN Int32 :=
  nK 0 a0 (nB (x0_isSeen a0 a1 a2 a3) fun v4 =>
  if v4 = 0 then (nP (zi (-1))) else (nB (gR 0 0 a0) fun v11 =>
  nN v11 fun r14_0 =>
  nB (gR 102 1 r14_0) fun v14 =>
  nB (gR 4 0 a0) fun v18 =>
  nN v18 fun r21_0 =>
  nB (gR 313 3 r21_0) fun v21 =>
  nN v21 fun r25_1 =>
  nB (aR 6 r25_1 a1) fun v25 =>
  nN v25 fun r26_0 =>
  nB (gR 1400 14 r26_0) fun v26 =>
  nB (gR 1 0 a0) fun v33 =>
  nN v33 fun r36_0 =>
  nN v26 fun r36_4 =>
  nN v14 fun r36_5 =>
  nK 2 r36_5 (nB (x2_open r36_5 r36_4 a2 a3 (zi 0) r36_0) fun v36 =>
  nB (gI 203 2 v36) fun v39 =>
  nP v39)))
def x17_init (a0 : Nat) (a1 : Int32) (a2 : Int32) (a3 : Int32) (a4 : Int32) : xN Unit :=
  nB (pI 1700 17 a0 a1) fun _ =>
  nB (pI 1701 17 a0 a2) fun _ =>
  nB (pI 1702 17 a0 a3) fun _ =>
  nB (pI 1703 17 a0 a4) fun _ =>
  nP ()
def x0_change_j112 (b2 : Int32) (b3 : Int32) (b4 : Int32) (b5 : Int32) (b6 : Option Nat) : xN Int32 :=
  nN b6 fun r114_0 =>
  nB (gR 1407 14 r114_0) fun v114 =>
  nB (gI 1405 14 r114_0) fun v119 =>
  nB (nO (17 + 1) 4) fun v122 =>
  nB (x17_init v122 b2 b3 b4 b5) fun _ =>
  nN v114 fun r135_2 =>
  nB (sR 12 17 r135_2 v119 v122) fun _ =>
  nB (gI 1405 14 r114_0) fun v139 =>
  nB (pI 1405 14 r114_0 (v139 + (zi 1))) fun _ =>
  nB (gI 1405 14 r114_0) fun v149 =>
  nP (v149 - (zi 1))
def x0_change_j97 (b2 : Int32) (b3 : Int32) (b4 : Int32) (b5 : Int32) (b6 : Option Nat) : xN Int32 :=
  if b2 = (zi 2) then (nB (x0_isDay b4) fun v104 =>
  if v104 = 0 then (nP (zi (-1))) else (x0_change_j112 b2 b3 b4 b5 b6)) else (x0_change_j112 b2 b3 b4 b5 b6)
def x0_change_j81 (b2 : Int32) (b3 : Int32) (b4 : Int32) (b5 : Int32) (b6 : Option Nat) : xN Int32 :=
  if b2 = (zi 1) then (nB (x0_in b4 (zi 0) (zi 9)) fun v91 =>
  if v91 = 0 then (nP (zi (-1))) else (x0_change_j97 b2 b3 b4 b5 b6)) else (x0_change_j97 b2 b3 b4 b5 b6)
def x0_change (a0 : Nat) (a1 : Int32) (a2 : Int32) (a3 : Int32) (a4 : Int32) (a5 : Int32) : xN Int32 :=
  nK 0 a0 (nB (x0_isPage a0 a1) fun v2 =>
  if v2 = 0 then (nP (zi (-1))) else (nB (gR 4 0 a0) fun v9 =>
  nN v9 fun r12_0 =>
  nB (gR 313 3 r12_0) fun v12 =>
  nN v12 fun r16_1 =>
  nB (aR 6 r16_1 a1) fun v16 =>
  nN v16 fun r17_0 =>
  nB (gI 1405 14 r17_0) fun v17 =>
  if v17 = (zi 6) then (nP (zi (-1))) else (nB (x0_in a2 (zi 0) (zi 2)) fun v28 =>
  if v28 = 0 then (nP (zi (-1))) else (nB (x0_in a5 (zi 1) (zi 99)) fun v39 =>
  if v39 = 0 then (nP (zi (-1))) else (nB (gR 4 0 a0) fun v48 =>
  nN v48 fun r51_0 =>
  nB (gR 313 3 r51_0) fun v51 =>
  nN v51 fun r55_1 =>
  nB (aR 6 r55_1 a1) fun v55 =>
  if (zi 2) ≤ a2 then (x0_change_j81 a2 a3 a4 a5 v55) else (nN v55 fun r67_0 =>
  nB (gR 1400 14 r67_0) fun v67 =>
  nN v67 fun r70_0 =>
  nB (gI 1101 11 r70_0) fun v70 =>
  nB (x0_in a3 (zi 0) (v70 - (zi 1))) fun v75 =>
  if v75 = 0 then (nP (zi (-1))) else (x0_change_j81 a2 a3 a4 a5 r67_0)))))))
noncomputable def x0_choose_l16 (f0 : Int32) (f1 : Int32) (s2 : Int64) (s4 : Int32) : xN ((Int64 × Int32) ⊕ (Int64)) :=
  if f1 < s4 then (nP (Sum.inr s2)) else (nC (¬ (s4).toInt64 = 0) (nE ((s2 * ((((f0 - f1) + s4)).toInt64)) / ((s4).toInt64)) fun n35 =>
  nE (s4 + zi 1) fun n36 =>
  nP (Sum.inl (n35, n36))))
noncomputable def x0_choose (a0 : Int32) (a1 : Int32) : xN Int32 :=
  if a1 < 0 then (nP (zi 0)) else (if a1 ≤ a0 then (nB (nLp (fun s => x0_choose_l16 a0 a1 s.1 s.2) ((1 : Int64), (zi 1))) fun e16 =>
  nP ((e16).toInt32)) else (nP (zi 0)))
def x0_isHouse (a0 : Nat) (a1 : Int32) : xN Int32 :=
  nB (gR 4 0 a0) fun v3 =>
  nN v3 fun r6_0 =>
  nB (gI 304 3 r6_0) fun v6 =>
  nB (x0_in a1 (zi 0) (v6 - (zi 1))) fun v11 =>
  nC (v11 = 0 ∨ v11 = 1) (nP v11)
noncomputable def x0_place_l2 (f0 : Nat) (f1 : Int64) (s3 : Int32) : xN ((Int32) ⊕ (Int32 ⊕ (Unit))) :=
  nB (gR 4 0 f0) fun v4 =>
  nN v4 fun r7_0 =>
  nB (gI 310 3 r7_0) fun v7 =>
  if v7 ≤ s3 then (nP (Sum.inr (Sum.inr ()))) else (nB (gR 4 0 f0) fun v14 =>
  nN v14 fun r17_0 =>
  nB (gR 318 3 r17_0) fun v17 =>
  nN v17 fun r21_1 =>
  nB (aL r21_1 s3) fun v21 =>
  if (lg_cmp v21 f1) = 0 then (nP (Sum.inr (Sum.inl s3))) else (nE (s3 + zi 1) fun n29 =>
  nP (Sum.inl n29)))
noncomputable def x0_place (a0 : Nat) (a1 : Int64) : xN Int32 :=
  nB (nLp (fun s => x0_place_l2 a0 a1 s) (zi 0)) (nD (fun e2 => nP e2)
  (fun e2 => nP (zi (-1))))
noncomputable def x0_sentences_l15_j135 (b0 : Nat) (b1 : Int32) (b4 : Int32) (b7 : Int32) (b8 : Int32) (t0 : Int32) (t1 : Int32) : xN ((Int32 × Int32 × Int32 × Int32 × Int64 × Int32) ⊕ (Int32)) :=
  nE (t1 ||| t0) fun n136 =>
  if b8 = (zi 46) then (if b4 = 0 then (nE (b7 + zi 1) fun n172 =>
  nP (Sum.inl (b1, n136, (zi 0), b4, (0 : Int64), n172))) else (nB (gR 16 0 b0) fun v158 =>
  nN v158 fun r163_2 =>
  nB (sI r163_2 b1 n136) fun _ =>
  nE (b1 + zi 1) fun n164 =>
  nE (b7 + zi 1) fun n172 =>
  nP (Sum.inl (n164, (zi 0), (zi 0), (zi 0), (0 : Int64), n172)))) else (nE (b7 + zi 1) fun n172 =>
  nP (Sum.inl (b1, n136, (zi 0), b4, (0 : Int64), n172)))
noncomputable def x0_sentences_l15_j110 (b0 : Nat) (b1 : Int32) (b2 : Int32) (b4 : Int32) (b7 : Int32) (b8 : Int32) (t0 : Int32) : xN ((Int32 × Int32 × Int32 × Int32 × Int64 × Int32) ⊕ (Int32)) :=
  if t0 = (zi (-1)) then (x0_sentences_l15_j135 b0 b1 b4 b7 b8 (zi 0) b2) else (nB (gR 4 0 b0) fun v125 =>
  nN v125 fun r128_0 =>
  nB (gR 319 3 r128_0) fun v128 =>
  nN v128 fun r133_1 =>
  nB (aI 1 r133_1 t0) fun v133 =>
  x0_sentences_l15_j135 b0 b1 b4 b7 b8 ((zi 1) <<< (v133 &&& 31)) b2)
noncomputable def x0_sentences_l15_j100 (b0 : Nat) (b1 : Int32) (b2 : Int32) (b4 : Int32) (b7 : Int32) (b8 : Int32) : xN ((Int32 × Int32 × Int32 × Int32 × Int64 × Int32) ⊕ (Int32)) :=
  x0_sentences_l15_j110 b0 b1 b2 b4 b7 b8 (zi (-1))
noncomputable def x0_sentences_l15_j56 (b0 : Nat) (b1 : Int32) (b2 : Int32) (b3 : Int32) (b4 : Int32) (b5 : Int64) (b7 : Int32) (t0 : Int32) : xN ((Int32 × Int32 × Int32 × Int32 × Int64 × Int32) ⊕ (Int32)) :=
  nB (x0_in t0 (zi 97) (zi 122)) fun v64 =>
  if v64 = 0 then (if b3 = 0 then (x0_sentences_l15_j100 b0 b1 b2 b4 b7 t0) else (if b3 ≤ (zi 8) then (nK 0 b0 (nB (x0_place b0 b5) fun v107 =>
  x0_sentences_l15_j110 b0 b1 b2 b4 b7 t0 v107)) else (x0_sentences_l15_j100 b0 b1 b2 b4 b7 t0))) else (nE ((b5 <<< (((zi 8)).toInt64 &&& 63)) ||| ((t0).toInt64)) fun n79 =>
  nE (b3 + zi 1) fun n81 =>
  nE (b7 + zi 1) fun n172 =>
  nP (Sum.inl (b1, b2, n81, (zi 1), n79, n172)))
noncomputable def x0_sentences_l15 (f0 : Nat) (s1 : Int32) (s2 : Int32) (s3 : Int32) (s4 : Int32) (s5 : Int64) (s7 : Int32) : xN ((Int32 × Int32 × Int32 × Int32 × Int64 × Int32) ⊕ (Int32)) :=
  nB (gR 4 0 f0) fun v18 =>
  nN v18 fun r21_0 =>
  nB (gR 321 3 r21_0) fun v21 =>
  nN v21 fun r24_0 =>
  nB (aN r24_0) fun v24 =>
  if v24 < s7 then (nP (Sum.inr s1)) else (nB (gR 4 0 f0) fun v31 =>
  nN v31 fun r34_0 =>
  nB (gR 321 3 r34_0) fun v34 =>
  nN v34 fun r37_0 =>
  nB (aN r37_0) fun v37 =>
  if v37 ≤ s7 then (x0_sentences_l15_j56 f0 s1 s2 s3 s4 s5 s7 (zi 46)) else (nB (gR 4 0 f0) fun v42 =>
  nN v42 fun r45_0 =>
  nB (gR 321 3 r45_0) fun v45 =>
  nN v45 fun r50_1 =>
  nB (aI 1 r50_1 s7) fun v50 =>
  x0_sentences_l15_j56 f0 s1 s2 s3 s4 s5 s7 v50))
noncomputable def x0_sentences (a0 : Nat) : xN Int32 :=
  nB (nLp (fun s => x0_sentences_l15 a0 s.1 s.2.1 s.2.2.1 s.2.2.2.1 s.2.2.2.2.1 s.2.2.2.2.2) ((zi 0), (zi 0), (zi 0), (zi 0), (0 : Int64), (zi 0))) fun e15 =>
  nP e15
noncomputable def x0_count (a0 : Nat) (a1 : Int32) : xN Int32 :=
  nK 0 a0 (nB (x0_isPage a0 (a1 - (zi 10))) fun v5 =>
  if v5 = 0 then (nK 0 a0 (nB (x0_isHouse a0 (a1 - (zi 20))) fun v32 =>
  if v32 = 0 then (nB (x0_in a1 (zi 30) (zi 37)) fun v59 =>
  if v59 = 0 then (if a1 = zi 0 then (nB (gR 4 0 a0) fun v129 =>
  nN v129 fun r132_0 =>
  nB (gI 304 3 r132_0) fun v132 =>
  nP v132) else (if a1 = zi 1 then (nB (gR 4 0 a0) fun v137 =>
  nN v137 fun r140_0 =>
  nB (gI 305 3 r140_0) fun v140 =>
  nP v140) else (if a1 = zi 2 then (nB (gR 4 0 a0) fun v145 =>
  nN v145 fun r148_0 =>
  nB (gI 306 3 r148_0) fun v148 =>
  nP v148) else (if a1 = zi 3 then (nB (gR 4 0 a0) fun v153 =>
  nN v153 fun r156_0 =>
  nB (gI 307 3 r156_0) fun v156 =>
  nP v156) else (if a1 = zi 4 then (nB (gR 4 0 a0) fun v161 =>
  nN v161 fun r164_0 =>
  nB (gI 308 3 r164_0) fun v164 =>
  nP v164) else (if a1 = zi 5 then (nB (gR 4 0 a0) fun v169 =>
  nN v169 fun r172_0 =>
  nB (gI 309 3 r172_0) fun v172 =>
  nP v172) else (if a1 = zi 6 then (nB (gR 4 0 a0) fun v177 =>
  nN v177 fun r180_0 =>
  nB (gI 310 3 r180_0) fun v180 =>
  nP v180) else (if a1 = zi 7 then (nB (gR 4 0 a0) fun v185 =>
  nN v185 fun r188_0 =>
  nB (gI 311 3 r188_0) fun v188 =>
  nP v188) else (if a1 = zi 8 then (nK 0 a0 (nB (x0_sentences a0) fun v193 =>
  nP v193)) else (nP (zi (-2)))))))))))) else (nB (gR 4 0 a0) fun v66 =>
  nN v66 fun r69_0 =>
  nB (gR 315 3 r69_0) fun v69 =>
  nN v69 fun r76_1 =>
  nB (aI 0 r76_1 (a1 - (zi 30))) fun v76 =>
  nP v76)) else (nB (gR 4 0 a0) fun v39 =>
  nN v39 fun r42_0 =>
  nB (gR 312 3 r42_0) fun v42 =>
  nN v42 fun r49_1 =>
  nB (aR 5 r49_1 (a1 - (zi 20))) fun v49 =>
  nN v49 fun r50_0 =>
  nB (gI 802 8 r50_0) fun v50 =>
  nP v50))) else (nB (gR 4 0 a0) fun v12 =>
  nN v12 fun r15_0 =>
  nB (gR 313 3 r15_0) fun v15 =>
  nN v15 fun r22_1 =>
  nB (aR 6 r22_1 (a1 - (zi 10))) fun v22 =>
  nN v22 fun r23_0 =>
  nB (gI 1405 14 r23_0) fun v23 =>
  nP v23))
noncomputable def x0_cried_l4_j82 (b0 : Nat) (b1 : Int32) (b3 : Int32) (t0 : Int32) (t1 : Int32) : xN ((Int32 × Int32) ⊕ (Int32)) :=
  nE (t1 + t0) fun n83 =>
  nE (b3 + zi 1) fun n84 =>
  nP (Sum.inl (n83, n84))
noncomputable def x0_cried_l4_j81 (b0 : Nat) (b1 : Int32) (b3 : Int32) (t0 : Int32) : xN ((Int32 × Int32) ⊕ (Int32)) :=
  x0_cried_l4_j82 b0 b1 b3 (zi 0) t0
noncomputable def x0_cried_l4 (f0 : Nat) (f1 : Int32) (s2 : Int32) (s3 : Int32) : xN ((Int32 × Int32) ⊕ (Int32)) :=
  nB (gR 4 0 f0) fun v6 =>
  nN v6 fun r9_0 =>
  nB (gI 306 3 r9_0) fun v9 =>
  if v9 ≤ s3 then (nP (Sum.inr s2)) else (nB (gR 4 0 f0) fun v17 =>
  nN v17 fun r20_0 =>
  nB (gR 314 3 r20_0) fun v20 =>
  nN v20 fun r24_1 =>
  nB (aR 7 r24_1 s3) fun v24 =>
  nN v24 fun r25_0 =>
  nB (gI 1602 16 r25_0) fun v25 =>
  if v25 = f1 then (nB (gR 8 0 f0) fun v33 =>
  nN v33 fun r37_1 =>
  nB (aI 0 r37_1 s3) fun v37 =>
  nB (gR 12 0 f0) fun v39 =>
  nN v39 fun r43_1 =>
  nB (aI 0 r43_1 (zi 0)) fun v43 =>
  if v43 < v37 then (x0_cried_l4_j81 f0 f1 s3 s2) else (nB (gR 9 0 f0) fun v48 =>
  nN v48 fun r52_1 =>
  nB (aI 0 r52_1 s3) fun v52 =>
  nB (gR 12 0 f0) fun v54 =>
  nN v54 fun r58_1 =>
  nB (aI 0 r58_1 (zi 1)) fun v58 =>
  if v52 < v58 then (x0_cried_l4_j81 f0 f1 s3 s2) else (nB (gR 10 0 f0) fun v63 =>
  nN v63 fun r67_1 =>
  nB (aI 0 r67_1 s3) fun v67 =>
  nB (gR 12 0 f0) fun v69 =>
  nN v69 fun r73_1 =>
  nB (aI 0 r73_1 (zi 2)) fun v73 =>
  if v73 < v67 then (x0_cried_l4_j81 f0 f1 s3 s2) else (x0_cried_l4_j82 f0 f1 s3 (zi 1) s2)))) else (x0_cried_l4_j81 f0 f1 s3 s2))
noncomputable def x0_cried (a0 : Nat) (a1 : Int32) : xN Int32 :=
  nB (nLp (fun s => x0_cried_l4 a0 a1 s.1 s.2) ((zi 0), (zi 0))) fun e4 =>
  nP e4
noncomputable def x0_dealsOf (a0 : Nat) (a1 : Int32) : xN Int32 :=
  nB (gR 4 0 a0) fun v3 =>
  nN v3 fun r6_0 =>
  nB (gR 313 3 r6_0) fun v6 =>
  nN v6 fun r10_1 =>
  nB (aR 6 r10_1 a1) fun v10 =>
  nN v10 fun r11_0 =>
  nB (gI 1404 14 r11_0) fun v11 =>
  nB (x7_bitCount v11) fun v14 =>
  nB (x0_choose (zi 20) v14) fun v17 =>
  nP v17
noncomputable def x0_differsOf (a0 : Nat) (a1 : Int32) (a2 : Int32) (a3 : Int32) (a4 : Int32) (a5 : Int32) : xN Int32 :=
  nB (gR 0 0 a0) fun v1 =>
  nN v1 fun r4_0 =>
  nB (gR 102 1 r4_0) fun v4 =>
  nB (gR 4 0 a0) fun v8 =>
  nN v8 fun r11_0 =>
  nB (gR 313 3 r11_0) fun v11 =>
  nN v11 fun r15_1 =>
  nB (aR 6 r15_1 a1) fun v15 =>
  nN v15 fun r16_0 =>
  nB (gR 1400 14 r16_0) fun v16 =>
  nB (gR 1 0 a0) fun v23 =>
  nN v23 fun r26_0 =>
  nN v16 fun r26_4 =>
  nN v4 fun r26_5 =>
  nK 2 r26_5 (nB (x2_open r26_5 r26_4 a2 a3 (zi 0) r26_0) fun v26 =>
  nB (gR 0 0 a0) fun v31 =>
  nN v31 fun r34_0 =>
  nB (gR 103 1 r34_0) fun v34 =>
  nB (gR 4 0 a0) fun v38 =>
  nN v38 fun r41_0 =>
  nB (gR 313 3 r41_0) fun v41 =>
  nN v41 fun r45_1 =>
  nB (aR 6 r45_1 a1) fun v45 =>
  nN v45 fun r46_0 =>
  nB (gR 1400 14 r46_0) fun v46 =>
  nB (gR 1 0 a0) fun v55 =>
  nN v55 fun r58_0 =>
  nN v46 fun r58_4 =>
  nN v34 fun r58_5 =>
  nK 2 r58_5 (nB (x2_open r58_5 r58_4 a4 a5 (zi 0) r58_0) fun v58 =>
  nB (gR 0 0 a0) fun v63 =>
  nN v63 fun r66_0 =>
  nK 1 r66_0 (nB (x1_far r66_0) fun v66 =>
  nP v66)))
noncomputable def x0_differs (a0 : Nat) (a1 : Int32) (a2 : Int32) (a3 : Int32) (a4 : Int32) (a5 : Int32) : xN Int32 :=
  nK 0 a0 (nB (x0_isSeen a0 a1 a2 a3) fun v4 =>
  if v4 = 0 then (nP (zi (-1))) else (nB (x0_isLand a4) fun v12 =>
  if v12 = 0 then (nP (zi (-1))) else (nB (x0_isDay a5) fun v20 =>
  if v20 = 0 then (nP (zi (-1))) else (nK 0 a0 (nB (x0_differsOf a0 a1 a2 a3 a4 a5) fun v34 =>
  nP v34)))))
def x0_end (a0 : Nat) (a1 : Int32) : xN Int32 :=
  nB (gR 4 0 a0) fun v3 =>
  nN v3 fun r6_0 =>
  nB (gI 301 3 r6_0) fun v6 =>
  nB (x0_in a1 (zi 0) v6) fun v9 =>
  if v9 = 0 then (nP (zi (-1))) else (nB (gR 4 0 a0) fun v18 =>
  nN v18 fun r22_1 =>
  nB (pI 301 3 r22_1 a1) fun _ =>
  nP a1)
noncomputable def x0_endOf_l7 (f0 : Nat) (s2 : Int32) : xN ((Int32) ⊕ (Unit ⊕ (Int32))) :=
  nB (gR 4 0 f0) fun v8 =>
  nN v8 fun r11_0 =>
  nB (gR 316 3 r11_0) fun v11 =>
  nN v11 fun r15_1 =>
  nB (aI 0 r15_1 s2) fun v15 =>
  if v15 = (zi (-1)) then (nP (Sum.inr (Sum.inr s2))) else (nB (gI 14 0 f0) fun v21 =>
  if v21 = (zi 10) then (nP (Sum.inr (Sum.inl ()))) else (nB (gR 4 0 f0) fun v32 =>
  nN v32 fun r35_0 =>
  nB (gR 316 3 r35_0) fun v35 =>
  nN v35 fun r39_1 =>
  nB (aI 0 r39_1 s2) fun v39 =>
  nB (gI 14 0 f0) fun v43 =>
  nB (pI 14 0 f0 (v43 + (zi 1))) fun _ =>
  nP (Sum.inl v39)))
noncomputable def x0_endOf (a0 : Nat) (a1 : Int32) : xN Int32 :=
  nB (pI 14 0 a0 (zi 0)) fun _ =>
  nB (nLp (fun s => x0_endOf_l7 a0 s) a1) (nD (fun e7 => nP (zi (-1)))
  (fun e7 => nP e7))
def x0_fails (a0 : Nat) (a1 : Int32) (a2 : Int32) : xN Int32 :=
  nB (gR 4 0 a0) fun v1 =>
  nN v1 fun r5_1 =>
  nB (pI 302 3 r5_1 a1) fun _ =>
  nB (gR 4 0 a0) fun v9 =>
  nN v9 fun r13_1 =>
  nB (pI 303 3 r13_1 a2) fun _ =>
  nP (zi (-1))
noncomputable def x0_far (a0 : Nat) (a1 : Int32) (a2 : Int32) (a3 : Int32) (a4 : Int32) : xN Int32 :=
  nK 0 a0 (nB (x0_isSeen a0 a1 a3 a4) fun v5 =>
  if v5 = 0 then (nP (zi (-1))) else (nK 0 a0 (nB (x0_isPage a0 a2) fun v13 =>
  if v13 = 0 then (nP (zi (-1))) else (nB (gR 0 0 a0) fun v22 =>
  nN v22 fun r25_0 =>
  nB (gR 102 1 r25_0) fun v25 =>
  nB (gR 4 0 a0) fun v29 =>
  nN v29 fun r32_0 =>
  nB (gR 313 3 r32_0) fun v32 =>
  nN v32 fun r36_1 =>
  nB (aR 6 r36_1 a1) fun v36 =>
  nN v36 fun r37_0 =>
  nB (gR 1400 14 r37_0) fun v37 =>
  nB (gR 1 0 a0) fun v45 =>
  nN v45 fun r48_0 =>
  nN v37 fun r48_4 =>
  nN v25 fun r48_5 =>
  nK 2 r48_5 (nB (x2_open r48_5 r48_4 a3 a4 (zi 0) r48_0) fun v48 =>
  nB (gR 0 0 a0) fun v53 =>
  nN v53 fun r56_0 =>
  nB (gR 103 1 r56_0) fun v56 =>
  nB (gR 4 0 a0) fun v60 =>
  nN v60 fun r63_0 =>
  nB (gR 313 3 r63_0) fun v63 =>
  nN v63 fun r67_1 =>
  nB (aR 6 r67_1 a2) fun v67 =>
  nN v67 fun r68_0 =>
  nB (gR 1400 14 r68_0) fun v68 =>
  nB (gR 1 0 a0) fun v76 =>
  nN v76 fun r79_0 =>
  nN v68 fun r79_4 =>
  nN v56 fun r79_5 =>
  nK 2 r79_5 (nB (x2_open r79_5 r79_4 a3 a4 (zi 0) r79_0) fun v79 =>
  nB (gR 0 0 a0) fun v84 =>
  nN v84 fun r87_0 =>
  nK 1 r87_0 (nB (x1_far r87_0) fun v87 =>
  nP v87)))))))
def x0_fault (a0 : Nat) (a1 : Int32) : xN Int32 :=
  if a1 = 0 then (nB (gR 4 0 a0) fun v5 =>
  nN v5 fun r8_0 =>
  nB (gI 302 3 r8_0) fun v8 =>
  nP v8) else (if a1 = (zi 1) then (nB (gR 4 0 a0) fun v20 =>
  nN v20 fun r23_0 =>
  nB (gI 303 3 r23_0) fun v23 =>
  nP v23) else (nP (zi (-1))))
noncomputable def x0_four_l3 (f0 : Nat) (f1 : Int32) (s2 : Int32) : xN ((Int32) ⊕ (Unit)) :=
  if s2 < 0 then (nP (Sum.inr ())) else (nB (gR 4 0 f0) fun v8 =>
  nN v8 fun r11_0 =>
  nB (gR 300 3 r11_0) fun v11 =>
  nB (gR 4 0 f0) fun v15 =>
  nN v15 fun r18_0 =>
  nB (gI 301 3 r18_0) fun v18 =>
  nN v11 fun r25_2 =>
  nB (sB r25_2 v18 (((f1 >>> (s2 &&& 31))).toInt8.toInt32)) fun _ =>
  nB (gR 4 0 f0) fun v27 =>
  nN v27 fun r31_0 =>
  nB (gI 301 3 r31_0) fun v31 =>
  nB (pI 301 3 r31_0 (v31 + (zi 1))) fun _ =>
  nE (s2 + zi (-8)) fun n39 =>
  nP (Sum.inl n39))
noncomputable def x0_four (a0 : Nat) (a1 : Int32) : xN Unit :=
  nB (nLp (fun s => x0_four_l3 a0 a1 s) (zi 24)) fun e3 =>
  nP ()
noncomputable def x0_feed (a0 : Nat) (a1 : Int32) (a2 : Int32) (a3 : Int32) (a4 : Int32) (a5 : Int32) : xN Int32 :=
  nB (gR 4 0 a0) fun v1 =>
  nN v1 fun r4_0 =>
  nB (gI 301 3 r4_0) fun v4 =>
  if (v4 + (zi 20)) ≤ (zi 500) then (nK 0 a0 (nB (x0_four a0 a1) fun _ =>
  nK 0 a0 (nB (x0_four a0 a2) fun _ =>
  nK 0 a0 (nB (x0_four a0 a3) fun _ =>
  nK 0 a0 (nB (x0_four a0 a4) fun _ =>
  nK 0 a0 (nB (x0_four a0 a5) fun _ =>
  nB (gR 4 0 a0) fun v46 =>
  nN v46 fun r49_0 =>
  nB (gI 301 3 r49_0) fun v49 =>
  nP v49)))))) else (nP (zi (-1)))
noncomputable def x0_pretenders_l4_j36 (b0 : Nat) (b2 : Int32) (t0 : Int32) (t1 : Int32) : xN ((Int32 × Int32) ⊕ (Int32)) :=
  nE (t1 + t0) fun n37 =>
  nE (b2 + zi 1) fun n38 =>
  nP (Sum.inl (n37, n38))
noncomputable def x0_pretenders_l4 (f0 : Nat) (s1 : Int32) (s2 : Int32) : xN ((Int32 × Int32) ⊕ (Int32)) :=
  nB (gR 4 0 f0) fun v6 =>
  nN v6 fun r9_0 =>
  nB (gI 306 3 r9_0) fun v9 =>
  if v9 ≤ s2 then (nP (Sum.inr s1)) else (nB (gR 4 0 f0) fun v17 =>
  nN v17 fun r20_0 =>
  nB (gR 314 3 r20_0) fun v20 =>
  nN v20 fun r24_1 =>
  nB (aR 7 r24_1 s2) fun v24 =>
  nN v24 fun r25_0 =>
  nB (gI 1602 16 r25_0) fun v25 =>
  if v25 = 0 then (x0_pretenders_l4_j36 f0 s2 (zi 0) s1) else (x0_pretenders_l4_j36 f0 s2 (zi 1) s1))
noncomputable def x0_pretenders (a0 : Nat) : xN Int32 :=
  nB (nLp (fun s => x0_pretenders_l4 a0 s.1 s.2) ((zi 0), (zi 0))) fun e4 =>
  nP e4
noncomputable def x0_isName_l11 (f0 : Nat) (f1 : Nat) (s2 : Int32) : xN ((Int32) ⊕ (Unit ⊕ (Unit))) :=
  nB (aN f0) fun v13 =>
  if v13 ≤ s2 then (nP (Sum.inr (Sum.inr ()))) else (nB (aI 1 f0 s2) fun v19 =>
  nB (aI 1 f1 s2) fun v22 =>
  if v19 = v22 then (nE (s2 + zi 1) fun n28 =>
  nP (Sum.inl n28)) else (nP (Sum.inr (Sum.inl ()))))
noncomputable def x0_isName (a0 : Nat) (a1 : Nat) : xN Int32 :=
  nB (aN a0) fun v1 =>
  nB (aN a1) fun v3 =>
  if v1 = v3 then (nB (nLp (fun s => x0_isName_l11 a0 a1 s) (zi 0)) (nD (fun e11 => nP (zi 0))
  (fun e11 => nP (zi 1)))) else (nP (zi 0))
def x14_age (a0 : Nat) (a1 : Int32) : xN Int32 :=
  nB (gI 1403 14 a0) fun v3 =>
  nE (if (zi 0) < (a1 - v3) then (a1 - v3) else (zi 0)) fun n7 =>
  nP n7
noncomputable def x0_layCases_l2_j113 (b0 : Nat) (b1 : Int32) (b2 : Nat) (b3 : Option Nat) (b4 : Nat) (t0 : Int32) (t1 : Int32) (t2 : Option Nat) : xN ((Int32) ⊕ (Unit)) :=
  nN t2 fun r113_2 =>
  nB (sI r113_2 t1 t0) fun _ =>
  nB (gR 9 0 b0) fun v115 =>
  nB (gI 402 4 b4) fun v121 =>
  nN v115 fun r124_2 =>
  nB (sI r124_2 b1 v121) fun _ =>
  nB (gR 10 0 b0) fun v126 =>
  nB (gI 1601 16 b2) fun v132 =>
  nN b3 fun r135_1 =>
  nK 14 r135_1 (nB (x14_age r135_1 v132) fun v135 =>
  nN v126 fun r138_2 =>
  nB (sI r138_2 b1 v135) fun _ =>
  nE (b1 + zi 1) fun n139 =>
  nP (Sum.inl n139))
noncomputable def x0_layCases_l2_j91 (b0 : Nat) (b1 : Int32) (b2 : Nat) (b3 : Option Nat) (b4 : Nat) (t0 : Int32) : xN ((Int32) ⊕ (Unit)) :=
  nB (gR 8 0 b0) fun v94 =>
  if t0 = 0 then (x0_layCases_l2_j113 b0 b1 b2 b3 b4 (100000 : Int32) b1 v94) else (nB (gI 401 4 b4) fun v105 =>
  x0_layCases_l2_j113 b0 b1 b2 b3 b4 v105 b1 v94)
noncomputable def x0_layCases_l2_j90 (b0 : Nat) (b1 : Int32) (b2 : Nat) (b3 : Option Nat) (b4 : Nat) : xN ((Int32) ⊕ (Unit)) :=
  x0_layCases_l2_j91 b0 b1 b2 b3 b4 (zi 0)
noncomputable def x0_layCases_l2 (f0 : Nat) (s1 : Int32) : xN ((Int32) ⊕ (Unit)) :=
  nB (gR 4 0 f0) fun v4 =>
  nN v4 fun r7_0 =>
  nB (gI 306 3 r7_0) fun v7 =>
  if v7 ≤ s1 then (nP (Sum.inr ())) else (nB (gR 4 0 f0) fun v14 =>
  nN v14 fun r17_0 =>
  nB (gR 314 3 r17_0) fun v17 =>
  nN v17 fun r21_1 =>
  nB (aR 7 r21_1 s1) fun v21 =>
  nB (gR 4 0 f0) fun v24 =>
  nN v24 fun r27_0 =>
  nB (gR 313 3 r27_0) fun v27 =>
  nN v21 fun r31_0 =>
  nB (gI 1600 16 r31_0) fun v31 =>
  nN v27 fun r34_1 =>
  nB (aR 6 r34_1 v31) fun v34 =>
  nB (gI 1600 16 r31_0) fun v38 =>
  nB (gI 1601 16 r31_0) fun v43 =>
  nK 0 f0 (nB (x0_lookOf f0 v38 (zi 0) v43) fun v46 =>
  nB (gI 400 4 v46) fun v53 =>
  if v53 = (zi (-1)) then (x0_layCases_l2_j90 f0 s1 r31_0 v34 v46) else (nN v34 fun r61_0 =>
  nB (gR 1401 14 r61_0) fun v61 =>
  nB (gR 4 0 f0) fun v65 =>
  nN v65 fun r68_0 =>
  nB (gR 312 3 r68_0) fun v68 =>
  nB (gI 400 4 v46) fun v73 =>
  nN v68 fun r76_1 =>
  nB (aR 5 r76_1 v73) fun v76 =>
  nN v76 fun r77_0 =>
  nB (gR 800 8 r77_0) fun v77 =>
  nN v77 fun r80_0 =>
  nN v61 fun r80_1 =>
  nB (x0_isName r80_1 r80_0) fun v80 =>
  if v80 = 0 then (x0_layCases_l2_j91 f0 s1 r31_0 r61_0 v46 (zi 1)) else (x0_layCases_l2_j90 f0 s1 r31_0 r61_0 v46))))
noncomputable def x0_layCases (a0 : Nat) : xN Unit :=
  nB (nLp (fun s => x0_layCases_l2 a0 s) (zi 0)) fun e2 =>
  nP ()
noncomputable def x0_isLessRow_l2 (f0 : Nat) (s1 : Int32) : xN ((Int32) ⊕ (Int32 ⊕ (Unit))) :=
  if (zi 3) ≤ s1 then (nP (Sum.inr (Sum.inr ()))) else (nB (gR 12 0 f0) fun v8 =>
  nN v8 fun r12_1 =>
  nB (aI 0 r12_1 s1) fun v12 =>
  nB (gR 11 0 f0) fun v14 =>
  nN v14 fun r18_1 =>
  nB (aI 0 r18_1 s1) fun v18 =>
  if v12 = v18 then (nE (s1 + zi 1) fun n43 =>
  nP (Sum.inl n43)) else (nP (Sum.inr (Sum.inl s1))))
noncomputable def x0_isLessRow (a0 : Nat) : xN Int32 :=
  nB (nLp (fun s => x0_isLessRow_l2 a0 s) (zi 0)) (nD (fun e2 => nB (gR 12 0 a0) fun v23 =>
  nN v23 fun r27_1 =>
  nB (aI 0 r27_1 e2) fun v27 =>
  nB (gR 11 0 a0) fun v29 =>
  nN v29 fun r33_1 =>
  nB (aI 0 r33_1 e2) fun v33 =>
  if v33 ≤ v27 then (nP (zi 0)) else (nP (zi 1)))
  (fun e2 => nP (zi 0)))
noncomputable def x0_fitsMarks_l44_j235 (b0 : Nat) (b1 : Int32) (b2 : Int32) (b3 : Int32) (b4 : Int32) (b5 : Int32) (b6 : Int32) (b7 : Int32) (b8 : Int32) (t0 : Int32) : xN ((Int32 × Int32) ⊕ (Int32)) :=
  if t0 = 0 then (nE (b6 + zi 1) fun n277 =>
  nP (Sum.inl (b3, n277))) else (nB (gR 12 0 b0) fun v248 =>
  nB (gR 11 0 b0) fun v253 =>
  nN v248 fun r258_4 =>
  nN v253 fun r258_2 =>
  nB (cI 0 r258_4 (zi 0) r258_2 (zi 0) (zi 3)) fun _ =>
  nB (gR 11 0 b0) fun v262 =>
  nN v262 fun r268_2 =>
  nB (sI r268_2 (zi 3) b7) fun _ =>
  nB (gR 11 0 b0) fun v270 =>
  nN v270 fun r276_2 =>
  nB (sI r276_2 (zi 4) b8) fun _ =>
  nE (b6 + zi 1) fun n277 =>
  nP (Sum.inl ((zi 1), n277)))
noncomputable def x0_fitsMarks_l44_j230 (b0 : Nat) (b1 : Int32) (b2 : Int32) (b3 : Int32) (b4 : Int32) (b5 : Int32) (b6 : Int32) (b7 : Int32) (b8 : Int32) : xN ((Int32 × Int32) ⊕ (Int32)) :=
  x0_fitsMarks_l44_j235 b0 b1 b2 b3 b4 b5 b6 b7 b8 (zi 1)
noncomputable def x0_fitsMarks_l44_j234 (b0 : Nat) (b1 : Int32) (b2 : Int32) (b3 : Int32) (b4 : Int32) (b5 : Int32) (b6 : Int32) (b7 : Int32) (b8 : Int32) : xN ((Int32 × Int32) ⊕ (Int32)) :=
  x0_fitsMarks_l44_j235 b0 b1 b2 b3 b4 b5 b6 b7 b8 (zi 0)
noncomputable def x0_fitsMarks_l44_j123 (b0 : Nat) (b1 : Int32) (b2 : Int32) (b3 : Int32) (b4 : Int32) (b5 : Int32) (b6 : Int32) (t0 : Int32) (t1 : Int32) (t2 : Option Nat) : xN ((Int32 × Int32) ⊕ (Int32)) :=
  nN t2 fun r123_2 =>
  nB (sI r123_2 t1 t0) fun _ =>
  nB (gR 12 0 b0) fun v125 =>
  nN v125 fun r129_1 =>
  nB (aI 0 r129_1 (zi 0)) fun v129 =>
  if (zi 60) < v129 then (nE (b6 + zi 1) fun n277 =>
  nP (Sum.inl (b3, n277))) else (nB (gR 12 0 b0) fun v136 =>
  nN v136 fun r140_1 =>
  nB (aI 0 r140_1 (zi 1)) fun v140 =>
  if v140 ≤ (zi 200) then (nK 0 b0 (nB (x0_cried b0 (zi 1)) fun v153 =>
  nE (b2 - v153) fun n157 =>
  nK 0 b0 (nB (x0_cried b0 (zi 0)) fun v161 =>
  if v161 ≤ b1 then (if b3 = 0 then (x0_fitsMarks_l44_j230 b0 b1 b2 b3 b4 b5 b6 n157 v161) else (nB (gR 11 0 b0) fun v182 =>
  nN v182 fun r186_1 =>
  nB (aI 0 r186_1 (zi 3)) fun v186 =>
  if n157 < v186 then (x0_fitsMarks_l44_j230 b0 b1 b2 b3 b4 b5 b6 n157 v161) else (nB (gR 11 0 b0) fun v193 =>
  nN v193 fun r197_1 =>
  nB (aI 0 r197_1 (zi 3)) fun v197 =>
  if n157 = v197 then (nB (gR 11 0 b0) fun v204 =>
  nN v204 fun r208_1 =>
  nB (aI 0 r208_1 (zi 4)) fun v208 =>
  if v161 < v208 then (x0_fitsMarks_l44_j230 b0 b1 b2 b3 b4 b5 b6 n157 v161) else (nB (gR 11 0 b0) fun v215 =>
  nN v215 fun r219_1 =>
  nB (aI 0 r219_1 (zi 4)) fun v219 =>
  if v161 = v219 then (nK 0 b0 (nB (x0_isLessRow b0) fun v224 =>
  if v224 = 0 then (x0_fitsMarks_l44_j234 b0 b1 b2 b3 b4 b5 b6 n157 v161) else (x0_fitsMarks_l44_j230 b0 b1 b2 b3 b4 b5 b6 n157 v161))) else (x0_fitsMarks_l44_j234 b0 b1 b2 b3 b4 b5 b6 n157 v161))) else (x0_fitsMarks_l44_j234 b0 b1 b2 b3 b4 b5 b6 n157 v161)))) else (nE (b6 + zi 1) fun n277 =>
  nP (Sum.inl (b3, n277)))))) else (nE (b6 + zi 1) fun n277 =>
  nP (Sum.inl (b3, n277))))
noncomputable def x0_fitsMarks_l44_j101 (b0 : Nat) (b1 : Int32) (b2 : Int32) (b3 : Int32) (b4 : Int32) (b5 : Int32) (b6 : Int32) (t0 : Int32) (t1 : Int32) (t2 : Option Nat) : xN ((Int32 × Int32) ⊕ (Int32)) :=
  nN t2 fun r101_2 =>
  nB (sI r101_2 t1 t0) fun _ =>
  nB (gR 12 0 b0) fun v103 =>
  if 0 ≤ b6 then (nB (gR 10 0 b0) fun v117 =>
  nN v117 fun r122_1 =>
  nB (aI 0 r122_1 b6) fun v122 =>
  x0_fitsMarks_l44_j123 b0 b1 b2 b3 b4 b5 b6 v122 (zi 2) v103) else (x0_fitsMarks_l44_j123 b0 b1 b2 b3 b4 b5 b6 (zi 0) (zi 2) v103)
noncomputable def x0_fitsMarks_l44_j77 (b0 : Nat) (b1 : Int32) (b2 : Int32) (b3 : Int32) (b4 : Int32) (b5 : Int32) (b6 : Int32) (t0 : Int32) (t1 : Int32) (t2 : Option Nat) : xN ((Int32 × Int32) ⊕ (Int32)) :=
  nN t2 fun r77_2 =>
  nB (sI r77_2 t1 t0) fun _ =>
  nB (gR 12 0 b0) fun v79 =>
  if 0 ≤ b5 then (nB (gR 9 0 b0) fun v93 =>
  nN v93 fun r98_1 =>
  nB (aI 0 r98_1 b5) fun v98 =>
  x0_fitsMarks_l44_j101 b0 b1 b2 b3 b4 b5 b6 (v98 + (zi 1)) (zi 1) v79) else (x0_fitsMarks_l44_j101 b0 b1 b2 b3 b4 b5 b6 (zi 0) (zi 1) v79)
noncomputable def x0_fitsMarks_l44 (f0 : Nat) (f1 : Int32) (f2 : Int32) (f4 : Int32) (f5 : Int32) (s3 : Int32) (s6 : Int32) : xN ((Int32 × Int32) ⊕ (Int32)) :=
  nB (gR 4 0 f0) fun v47 =>
  nN v47 fun r50_0 =>
  nB (gI 306 3 r50_0) fun v50 =>
  if v50 ≤ s6 then (nP (Sum.inr s3)) else (nB (gR 12 0 f0) fun v57 =>
  if 0 ≤ f4 then (nB (gR 8 0 f0) fun v71 =>
  nN v71 fun r76_1 =>
  nB (aI 0 r76_1 f4) fun v76 =>
  x0_fitsMarks_l44_j77 f0 f1 f2 s3 f4 f5 s6 v76 (zi 0) v57) else (x0_fitsMarks_l44_j77 f0 f1 f2 s3 f4 f5 s6 (zi 0) (zi 0) v57))
noncomputable def x0_fitsMarks_l29 (f0 : Nat) (f1 : Int32) (f2 : Int32) (f4 : Int32) (s3 : Int32) (s5 : Int32) : xN ((Int32 × Int32) ⊕ (Int32)) :=
  nB (gR 4 0 f0) fun v32 =>
  nN v32 fun r35_0 =>
  nB (gI 306 3 r35_0) fun v35 =>
  if v35 ≤ s5 then (nP (Sum.inr s3)) else (nB (nLp (fun s => x0_fitsMarks_l44 f0 f1 f2 f4 s5 s.1 s.2) (s3, (zi (-1)))) fun e44 =>
  nE (s5 + zi 1) fun n283 =>
  nP (Sum.inl (e44, n283)))
noncomputable def x0_fitsMarks_l14 (f0 : Nat) (f1 : Int32) (f2 : Int32) (s3 : Int32) (s4 : Int32) : xN ((Int32 × Int32) ⊕ (Int32)) :=
  nB (gR 4 0 f0) fun v17 =>
  nN v17 fun r20_0 =>
  nB (gI 306 3 r20_0) fun v20 =>
  if v20 ≤ s4 then (nP (Sum.inr s3)) else (nB (nLp (fun s => x0_fitsMarks_l29 f0 f1 f2 s4 s.1 s.2) (s3, (zi (-1)))) fun e29 =>
  nE (s4 + zi 1) fun n289 =>
  nP (Sum.inl (e29, n289)))
noncomputable def x0_fitsMarks (a0 : Nat) (a1 : Int32) : xN Int32 :=
  nK 0 a0 (nB (x0_pretenders a0) fun v1 =>
  nK 0 a0 (nB (x0_layCases a0) fun _ =>
  nB (nLp (fun s => x0_fitsMarks_l14 a0 a1 v1 s.1 s.2) ((zi 0), (zi (-1)))) fun e14 =>
  nC (e14 = 0 ∨ e14 = 1) (nP e14)))
noncomputable def x0_fit (a0 : Nat) (a1 : Int32) (a2 : Int32) : xN Int32 :=
  nB (x0_in a1 (zi 0) (zi 16)) fun v4 =>
  if v4 = 0 then (nP (zi (-1))) else (nB (x0_in a2 (zi 0) (zi 4)) fun v13 =>
  if v13 = 0 then (nP (zi (-1))) else (nK 0 a0 (nB (x0_fitsMarks a0 a1) fun v21 =>
  if v21 = 0 then (nP (zi (-1))) else (nB (gR 11 0 a0) fun v28 =>
  nN v28 fun r32_1 =>
  nB (aI 0 r32_1 a2) fun v32 =>
  nP v32))))
noncomputable def x11_sketch_l5 (f0 : Nat) (s1 : Int32) (s2 : Int32) : xN ((Int32 × Int32) ⊕ (Int32)) :=
  nB (gI 1101 11 f0) fun v7 =>
  if v7 ≤ s2 then (nP (Sum.inr s1)) else (nB (gR 1100 11 f0) fun v20 =>
  nN v20 fun r24_1 =>
  nB (aR 11 r24_1 s2) fun v24 =>
  nN v24 fun r25_0 =>
  nB (gI 1300 13 r25_0) fun v25 =>
  nB (gR 1100 11 f0) fun v31 =>
  nN v31 fun r35_1 =>
  nB (aR 11 r35_1 s2) fun v35 =>
  nN v35 fun r36_0 =>
  nB (gI 1301 13 r36_0) fun v36 =>
  nE ((((s1 * (zi 31)) + ((zi 10) * v25)) + v36) &&& (65535 : Int32)) fun n43 =>
  nE (s2 + zi 1) fun n44 =>
  nP (Sum.inl (n43, n44)))
noncomputable def x11_sketch (a0 : Nat) : xN Int32 :=
  nB (nLp (fun s => x11_sketch_l5 a0 s.1 s.2) ((zi 7), (zi 0))) fun e5 =>
  nP e5
noncomputable def x0_fits_l5_j64 (b0 : Nat) (b1 : Int32) (b2 : Int32) (b4 : Int32) (t0 : Int32) (t1 : Int32) : xN ((Int32 × Int32) ⊕ (Int32)) :=
  nE (t1 + t0) fun n65 =>
  nE (b4 + zi 1) fun n66 =>
  nP (Sum.inl (n65, n66))
noncomputable def x0_fits_l5 (f0 : Nat) (f1 : Int32) (f2 : Int32) (s3 : Int32) (s4 : Int32) : xN ((Int32 × Int32) ⊕ (Int32)) :=
  nB (gR 4 0 f0) fun v8 =>
  nN v8 fun r11_0 =>
  nB (gI 305 3 r11_0) fun v11 =>
  if v11 ≤ s4 then (nP (Sum.inr s3)) else (nB (gR 4 0 f0) fun v19 =>
  nN v19 fun r22_0 =>
  nB (gR 313 3 r22_0) fun v22 =>
  nN v22 fun r27_1 =>
  nB (aR 6 r27_1 s4) fun v27 =>
  nN v27 fun r28_0 =>
  nB (gR 1400 14 r28_0) fun v28 =>
  nN v28 fun r31_0 =>
  nK 11 r31_0 (nB (x11_sketch r31_0) fun v31 =>
  nB (gR 4 0 f0) fun v35 =>
  nN v35 fun r38_0 =>
  nB (gR 313 3 r38_0) fun v38 =>
  nN v38 fun r42_1 =>
  nB (aR 6 r42_1 f1) fun v42 =>
  nN v42 fun r43_0 =>
  nB (gR 1400 14 r43_0) fun v43 =>
  nN v43 fun r46_0 =>
  nK 11 r46_0 (nB (x11_sketch r46_0) fun v46 =>
  if ((v31 ^^^ v46) &&& (((zi 1) <<< (f2 &&& 31)) - (zi 1))) = 0 then (x0_fits_l5_j64 f0 f1 f2 s4 (zi 1) s3) else (x0_fits_l5_j64 f0 f1 f2 s4 (zi 0) s3))))
noncomputable def x0_fits (a0 : Nat) (a1 : Int32) (a2 : Int32) : xN Int32 :=
  nB (nLp (fun s => x0_fits_l5 a0 a1 a2 s.1 s.2) ((zi 0), (zi 0))) fun e5 =>
  nP e5
def x0_isAddress (a0 : Int32) : xN Int32 :=
  nB (x0_in a0 (zi 0) (zi 9)) fun v4 =>
  nC (v4 = 0 ∨ v4 = 1) (nP v4)
noncomputable def x0_goes (a0 : Nat) (a1 : Int32) (a2 : Int32) : xN Int32 :=
  nB (x0_isAddress a1) fun v1 =>
  if v1 = 0 then (nP (zi (-1))) else (nK 0 a0 (nB (x0_endOf a0 a1) fun v11 =>
  if v11 = (zi (-1)) then (nP (zi (-1))) else (if a2 = 0 then (nP v11) else (nB (gI 14 0 a0) fun v29 =>
  nP v29))))
noncomputable def x0_hides_l31 (f0 : Nat) (f1 : Int32) (f2 : Int32) (f4 : Int32) (s3 : Int32) (s5 : Int32) : xN ((Int32 × Int32) ⊕ (Int32)) :=
  if f4 ≤ s5 then (nP (Sum.inr s3)) else (nK 0 f0 (nB (x0_differsOf f0 f1 f4 f2 s5 f2) fun v47 =>
  nE (if s3 < v47 then v47 else s3) fun n50 =>
  nE (s5 + zi 1) fun n54 =>
  nP (Sum.inl (n50, n54))))
noncomputable def x0_hides_l22 (f0 : Nat) (f1 : Int32) (f2 : Int32) (s3 : Int32) (s4 : Int32) : xN ((Int32 × Int32) ⊕ (Int32)) :=
  if (zi 3) < s4 then (nP (Sum.inr s3)) else (nB (nLp (fun s => x0_hides_l31 f0 f1 f2 s4 s.1 s.2) (s3, (zi 0))) fun e31 =>
  nE (s4 + zi 1) fun n60 =>
  nP (Sum.inl (e31, n60)))
noncomputable def x0_hides (a0 : Nat) (a1 : Int32) (a2 : Int32) : xN Int32 :=
  nK 0 a0 (nB (x0_isPage a0 a1) fun v2 =>
  if v2 = 0 then (nP (zi (-1))) else (nB (x0_isDay a2) fun v9 =>
  if v9 = 0 then (nP (zi (-1))) else (nB (nLp (fun s => x0_hides_l22 a0 a1 a2 s.1 s.2) ((zi 0), (zi 0))) fun e22 =>
  nP e22)))
noncomputable def x0_holdsIn_l16 (f0 : Nat) (f2 : Int32) (f3 : Int32) (s4 : Int32) : xN ((Int32) ⊕ (Int32 ⊕ (Unit))) :=
  if f2 ≤ s4 then (nP (Sum.inr (Sum.inr ()))) else (nB (gR 16 0 f0) fun v23 =>
  nN v23 fun r28_1 =>
  nB (aI 0 r28_1 s4) fun v28 =>
  if (v28 &&& f3) = f3 then (nP (Sum.inr (Sum.inl s4))) else (nE (s4 + zi 1) fun n38 =>
  nP (Sum.inl n38)))
noncomputable def x0_holdsIn (a0 : Nat) (a1 : Int32) (a2 : Int32) : xN Int32 :=
  nB (gR 4 0 a0) fun v1 =>
  nN v1 fun r4_0 =>
  nB (gR 320 3 r4_0) fun v4 =>
  nN v4 fun r8_1 =>
  nB (aR 8 r8_1 a1) fun v8 =>
  nN v8 fun r9_0 =>
  nB (gI 1900 19 r9_0) fun v9 =>
  nB (nLp (fun s => x0_holdsIn_l16 a0 a2 v9 s) (zi 0)) (nD (fun e16 => nP e16)
  (fun e16 => nP (zi (-1))))
noncomputable def x0_holds (a0 : Nat) (a1 : Int32) : xN Int32 :=
  nB (gR 4 0 a0) fun v3 =>
  nN v3 fun r6_0 =>
  nB (gI 311 3 r6_0) fun v6 =>
  nB (x0_in a1 (zi 0) (v6 - (zi 1))) fun v11 =>
  if v11 = 0 then (nP (zi (-1))) else (nK 0 a0 (nB (x0_sentences a0) fun v20 =>
  nK 0 a0 (nB (x0_holdsIn a0 a1 v20) fun v23 =>
  nP v23)))
def x0_take (a0 : Nat) : xN Int32 :=
  nB (gR 4 0 a0) fun v1 =>
  nN v1 fun r4_0 =>
  nB (gI 301 3 r4_0) fun v4 =>
  nB (gR 4 0 a0) fun v9 =>
  nN v9 fun r13_1 =>
  nB (pI 301 3 r13_1 (zi 0)) fun _ =>
  nK 0 a0 (nB (x0_fails a0 (zi 0) (zi (-1))) fun v19 =>
  nP v4)
noncomputable def x0_readName_l14 (f0 : Nat) (f1 : Int32) (s2 : Int32) (s3 : Int32) : xN ((Int32 × Int32) ⊕ (Int32)) :=
  if s3 < 0 then (nP (Sum.inr s2)) else (nB (gR 4 0 f0) fun v19 =>
  nN v19 fun r22_0 =>
  nB (gR 300 3 r22_0) fun v22 =>
  nN v22 fun r26_1 =>
  nB (aI 1 r26_1 s3) fun v26 =>
  nB (x0_sign v26) fun v27 =>
  if v27 = (zi (-1)) then (nE (s3 + zi (-1)) fun n36 =>
  nP (Sum.inl (s3, n36))) else (nE (s3 + zi (-1)) fun n36 =>
  nP (Sum.inl (s2, n36))))
noncomputable def x0_readName_j9 (b0 : Nat) (b1 : Int32) (t0 : Int32) : xN (Option Nat) :=
  nE (b1 - (zi 1)) fun n13 =>
  nB (nLp (fun s => x0_readName_l14 b0 b1 s.1 s.2) (t0, n13)) fun e14 =>
  if e14 = (zi (-1)) then (if b1 ≤ (zi 12) then (nB (nA 1 b1) fun v73 =>
  nB (gR 4 0 b0) fun v77 =>
  nN v77 fun r80_0 =>
  nB (gR 300 3 r80_0) fun v80 =>
  nN v80 fun r87_4 =>
  nB (cI 1 r87_4 (zi 0) v73 (zi 0) b1) fun _ =>
  nP (some v73)) else (nK 0 b0 (nB (x0_fails b0 (zi 2) (zi 12)) fun v66 =>
  nP none))) else (nK 0 b0 (nB (x0_fails b0 (zi 1) e14) fun v50 =>
  nP none))
noncomputable def x0_readName (a0 : Nat) (a1 : Int32) : xN (Option Nat) :=
  if a1 = 0 then (x0_readName_j9 a0 a1 (zi 0)) else (x0_readName_j9 a0 a1 (zi (-1)))
def x8_init (a0 : Nat) (a1 : Nat) : xN Unit :=
  nB (nA 10 (zi 2)) fun v6 =>
  nB (pR 801 8 a0 (some v6)) fun _ =>
  nB (pR 800 8 a0 (some a1)) fun _ =>
  nP ()
noncomputable def x0_house (a0 : Nat) : xN Int32 :=
  nK 0 a0 (nB (x0_take a0) fun v1 =>
  nB (gR 4 0 a0) fun v6 =>
  nN v6 fun r9_0 =>
  nB (gI 304 3 r9_0) fun v9 =>
  if v9 = (zi 5) then (nP (zi (-2))) else (nK 0 a0 (nB (x0_readName a0 v1) fun v21 =>
  if v21 = none then (nP (zi (-1))) else (nB (gR 4 0 a0) fun v32 =>
  nN v32 fun r35_0 =>
  nB (gR 312 3 r35_0) fun v35 =>
  nB (gR 4 0 a0) fun v39 =>
  nN v39 fun r42_0 =>
  nB (gI 304 3 r42_0) fun v42 =>
  nB (nO (8 + 1) 4) fun v45 =>
  nN v21 fun r50_0 =>
  nB (x8_init v45 r50_0) fun _ =>
  nN v35 fun r53_2 =>
  nB (sR 5 8 r53_2 v42 v45) fun _ =>
  nB (gR 4 0 a0) fun v55 =>
  nN v55 fun r59_0 =>
  nB (gI 304 3 r59_0) fun v59 =>
  nB (pI 304 3 r59_0 (v59 + (zi 1))) fun _ =>
  nB (gR 4 0 a0) fun v68 =>
  nN v68 fun r71_0 =>
  nB (gI 304 3 r71_0) fun v71 =>
  nP (v71 - (zi 1))))))
noncomputable def x0_image (a0 : Nat) (a1 : Int32) : xN Int32 :=
  nB (x0_in a1 (zi 0) (zi 2)) fun v3 =>
  if v3 = 0 then (nP (zi 0)) else (nB (gR 5 0 a0) fun v12 =>
  nB (nO (3 + 1) 23) fun v16 =>
  nB (gR 4 0 a0) fun v21 =>
  nN v21 fun r24_0 =>
  nB (x3_init_2 v16 r24_0) fun _ =>
  nN v12 fun r27_2 =>
  nB (sR 9 3 r27_2 a1 v16) fun _ =>
  nP (zi 1))
def x2_init (a0 : Nat) : xN Unit :=
  nB (nA 0 (zi 15)) fun v7 =>
  nB (pR 200 2 a0 (some v7)) fun _ =>
  nB (nA 0 (zi 15)) fun v15 =>
  nB (pR 201 2 a0 (some v15)) fun _ =>
  nB (nA 0 (zi 15)) fun v23 =>
  nB (pR 202 2 a0 (some v23)) fun _ =>
  nP ()
def x1_init (a0 : Nat) (a1 : Nat) : xN Unit :=
  nB (pR 104 1 a0 (some a1)) fun _ =>
  nB (nA 0 (zi 225)) fun v13 =>
  nB (pR 100 1 a0 (some v13)) fun _ =>
  nB (nA 0 (zi 256)) fun v22 =>
  nB (pR 101 1 a0 (some v22)) fun _ =>
  nB (nO (2 + 1) 4) fun v28 =>
  nB (x2_init v28) fun _ =>
  nB (pR 102 1 a0 (some v28)) fun _ =>
  nB (nO (2 + 1) 4) fun v39 =>
  nB (x2_init v39) fun _ =>
  nB (pR 103 1 a0 (some v39)) fun _ =>
  nP ()
noncomputable def x3_init_l153 (f0 : Nat) (s1 : Int32) : xN ((Int32) ⊕ (Unit)) :=
  if (zi 10) ≤ s1 then (nP (Sum.inr ())) else (nB (gR 316 3 f0) fun v160 =>
  nN v160 fun r165_2 =>
  nB (sI r165_2 s1 (zi (-1))) fun _ =>
  nB (gR 317 3 f0) fun v167 =>
  nN v167 fun r172_2 =>
  nB (sI r172_2 s1 (zi (-1))) fun _ =>
  nE (s1 + zi 1) fun n173 =>
  nP (Sum.inl n173))
noncomputable def x3_init (a0 : Nat) : xN Unit :=
  nB (nA 1 (zi 500)) fun v8 =>
  nB (pR 300 3 a0 (some v8)) fun _ =>
  nB (pI 303 3 a0 (zi (-1))) fun _ =>
  nB (pI 307 3 a0 (zi 10)) fun _ =>
  nB (pI 308 3 a0 (zi 40)) fun _ =>
  nB (pI 309 3 a0 (zi 30)) fun _ =>
  nB (nA 5 (zi 5)) fun v38 =>
  nB (pR 312 3 a0 (some v38)) fun _ =>
  nB (nA 6 (zi 10)) fun v47 =>
  nB (pR 313 3 a0 (some v47)) fun _ =>
  nB (nA 7 (zi 16)) fun v56 =>
  nB (pR 314 3 a0 (some v56)) fun _ =>
  nB (nA 0 (zi 8)) fun v65 =>
  nB (pR 315 3 a0 (some v65)) fun _ =>
  nB (nA 0 (zi 10)) fun v73 =>
  nB (pR 316 3 a0 (some v73)) fun _ =>
  nB (nA 0 (zi 10)) fun v81 =>
  nB (pR 317 3 a0 (some v81)) fun _ =>
  nB (nA 3 (zi 20)) fun v89 =>
  nB (pR 318 3 a0 (some v89)) fun _ =>
  nB (nA 1 (zi 20)) fun v97 =>
  nB (pR 319 3 a0 (some v97)) fun _ =>
  nB (nA 8 (zi 8)) fun v105 =>
  nB (pR 320 3 a0 (some v105)) fun _ =>
  nB (nA 1 (zi 0)) fun v113 =>
  nB (pR 321 3 a0 (some v113)) fun _ =>
  nB (nA 1 (zi 1296)) fun v122 =>
  nB (pR 322 3 a0 (some v122)) fun _ =>
  nB (gR 315 3 a0) fun v128 =>
  nN v128 fun r134_2 =>
  nB (sI r134_2 (zi 2) (zi 50)) fun _ =>
  nB (gR 315 3 a0) fun v136 =>
  nN v136 fun r142_2 =>
  nB (sI r142_2 (zi 3) (zi 60)) fun _ =>
  nB (gR 315 3 a0) fun v144 =>
  nN v144 fun r150_2 =>
  nB (sI r150_2 (zi 4) (zi 70)) fun _ =>
  nB (nLp (fun s => x3_init_l153 a0 s) (zi 0)) fun e153 =>
  nP ()
def x4_init (a0 : Nat) (a1 : Nat) : xN Unit :=
  nB (pR 403 4 a0 (some a1)) fun _ =>
  nP ()
def x5_init (a0 : Nat) (a1 : Nat) : xN Unit :=
  nB (pR 504 5 a0 (some a1)) fun _ =>
  nB (nA 0 (zi 14)) fun v12 =>
  nB (pR 500 5 a0 (some v12)) fun _ =>
  nP ()
def x6_init (a0 : Nat) : xN Unit :=
  nB (nA 0 (zi 6)) fun v7 =>
  nB (pR 600 6 a0 (some v7)) fun _ =>
  nB (nA 0 (zi 6)) fun v15 =>
  nB (pR 601 6 a0 (some v15)) fun _ =>
  nB (nA 0 (zi 10)) fun v23 =>
  nB (pR 602 6 a0 (some v23)) fun _ =>
  nP ()
noncomputable def x0_init_l232 (f0 : Nat) (s1 : Int32) : xN ((Int32) ⊕ (Unit)) :=
  if (zi 14) ≤ s1 then (nP (Sum.inr ())) else (nB (gR 1 0 f0) fun v239 =>
  nN v239 fun r244_2 =>
  nB (sI r244_2 s1 (zi (-1))) fun _ =>
  nE (s1 + zi 1) fun n245 =>
  nP (Sum.inl n245))
noncomputable def x0_init (a0 : Nat) : xN Unit :=
  nB (nO (1 + 1) 5) fun v5 =>
  nB (x1_init v5 a0) fun _ =>
  nB (pR 0 0 a0 (some v5)) fun _ =>
  nB (nA 0 (zi 14)) fun v19 =>
  nB (pR 1 0 a0 (some v19)) fun _ =>
  nB (nA 4 (zi 8)) fun v27 =>
  nB (gS 0) fun v32 =>
  nB (sRS v27 (zi 0) v32) fun _ =>
  nB (gS 1) fun v37 =>
  nB (sRS v27 (zi 1) v37) fun _ =>
  nB (gS 2) fun v42 =>
  nB (sRS v27 (zi 2) v42) fun _ =>
  nB (gS 3) fun v47 =>
  nB (sRS v27 (zi 3) v47) fun _ =>
  nB (gS 4) fun v52 =>
  nB (sRS v27 (zi 4) v52) fun _ =>
  nB (gS 5) fun v57 =>
  nB (sRS v27 (zi 5) v57) fun _ =>
  nB (gS 6) fun v63 =>
  nB (sRS v27 (zi 6) v63) fun _ =>
  nB (gS 7) fun v69 =>
  nB (sRS v27 (zi 7) v69) fun _ =>
  nB (pR 2 0 a0 (some v27)) fun _ =>
  nB (nA 4 (zi 7)) fun v78 =>
  nB (gS 8) fun v83 =>
  nB (sRS v78 (zi 0) v83) fun _ =>
  nB (gS 9) fun v88 =>
  nB (sRS v78 (zi 1) v88) fun _ =>
  nB (gS 10) fun v93 =>
  nB (sRS v78 (zi 2) v93) fun _ =>
  nB (gS 11) fun v98 =>
  nB (sRS v78 (zi 3) v98) fun _ =>
  nB (gS 12) fun v103 =>
  nB (sRS v78 (zi 4) v103) fun _ =>
  nB (gS 13) fun v108 =>
  nB (sRS v78 (zi 5) v108) fun _ =>
  nB (gS 14) fun v114 =>
  nB (sRS v78 (zi 6) v114) fun _ =>
  nB (pR 3 0 a0 (some v78)) fun _ =>
  nB (nO (3 + 1) 23) fun v121 =>
  nB (x3_init v121) fun _ =>
  nB (pR 4 0 a0 (some v121)) fun _ =>
  nB (nA 9 (zi 3)) fun v133 =>
  nB (pR 5 0 a0 (some v133)) fun _ =>
  nB (nA 0 (zi 169)) fun v143 =>
  nB (pR 6 0 a0 (some v143)) fun _ =>
  nB (nO (4 + 1) 4) fun v149 =>
  nB (x4_init v149 a0) fun _ =>
  nB (pR 7 0 a0 (some v149)) fun _ =>
  nB (nA 0 (zi 16)) fun v163 =>
  nB (pR 8 0 a0 (some v163)) fun _ =>
  nB (nA 0 (zi 16)) fun v171 =>
  nB (pR 9 0 a0 (some v171)) fun _ =>
  nB (nA 0 (zi 16)) fun v179 =>
  nB (pR 10 0 a0 (some v179)) fun _ =>
  nB (nA 0 (zi 5)) fun v186 =>
  nB (pR 11 0 a0 (some v186)) fun _ =>
  nB (nA 0 (zi 3)) fun v193 =>
  nB (pR 12 0 a0 (some v193)) fun _ =>
  nB (nO (5 + 1) 5) fun v199 =>
  nB (x5_init v199 a0) fun _ =>
  nB (pR 13 0 a0 (some v199)) fun _ =>
  nB (nO (6 + 1) 4) fun v211 =>
  nB (x6_init v211) fun _ =>
  nB (pR 15 0 a0 (some v211)) fun _ =>
  nB (nA 0 (zi 250)) fun v225 =>
  nB (pR 16 0 a0 (some v225)) fun _ =>
  nB (nLp (fun s => x0_init_l232 a0 s) (zi 0)) fun e232 =>
  nP ()
def x0_isForged (a0 : Nat) (a1 : Int32) (a2 : Int32) (a3 : Int32) (a4 : Int32) : xN Int32 :=
  nK 0 a0 (nB (x0_isPage a0 a1) fun v2 =>
  if v2 = 0 then (nP (zi 0)) else (nB (x0_isDay a2) fun v9 =>
  if v9 = 0 then (nP (zi 0)) else (nB (x0_in a3 (zi 0) (zi 99)) fun v19 =>
  if v19 = 0 then (nP (zi 0)) else (nB (x0_in a4 (zi 0) (zi 999)) fun v31 =>
  if v31 = 0 then (nP (zi 0)) else (nP (zi 1))))))
def x0_isMade (a0 : Int32) : xN Int32 :=
  nB (x0_in a0 (zi 0) (zi 999)) fun v5 =>
  nC (v5 = 0 ∨ v5 = 1) (nP v5)
def x16_init (a0 : Nat) (a1 : Int32) (a2 : Int32) (a3 : Int32) : xN Unit :=
  nB (pI 1600 16 a0 a1) fun _ =>
  nB (pI 1601 16 a0 a2) fun _ =>
  nB (pZ 1602 16 a0 a3) fun _ =>
  nP ()
def x0_keep (a0 : Nat) (a1 : Int32) (a2 : Int32) (a3 : Int32) : xN Int32 :=
  nB (gR 4 0 a0) fun v1 =>
  nN v1 fun r4_0 =>
  nB (gI 306 3 r4_0) fun v4 =>
  if v4 = (zi 16) then (nP (zi (-1))) else (nK 0 a0 (nB (x0_isPage a0 a1) fun v14 =>
  if v14 = 0 then (nP (zi (-1))) else (nB (x0_isDay a2) fun v21 =>
  if v21 = 0 then (nP (zi (-1))) else (nB (gR 4 0 a0) fun v30 =>
  nN v30 fun r33_0 =>
  nB (gR 314 3 r33_0) fun v33 =>
  nB (gR 4 0 a0) fun v37 =>
  nN v37 fun r40_0 =>
  nB (gI 306 3 r40_0) fun v40 =>
  nB (nO (16 + 1) 3) fun v43 =>
  nB (x16_init v43 a1 a2 a3) fun _ =>
  nN v33 fun r53_2 =>
  nB (sR 7 16 r53_2 v40 v43) fun _ =>
  nB (gR 4 0 a0) fun v55 =>
  nN v55 fun r59_0 =>
  nB (gI 306 3 r59_0) fun v59 =>
  nB (pI 306 3 r59_0 (v59 + (zi 1))) fun _ =>
  nB (gR 4 0 a0) fun v68 =>
  nN v68 fun r71_0 =>
  nB (gI 306 3 r71_0) fun v71 =>
  nP (v71 - (zi 1))))))
noncomputable def x0_late_l56 (f0 : Nat) (f2 : Int32) (f3 : Nat) (f4 : Int32) (s5 : Int32) : xN ((Int32) ⊕ (Int32 ⊕ (Unit))) :=
  if (zi 99) < s5 then (nP (Sum.inr (Sum.inr ()))) else (nB (gR 0 0 f0) fun v64 =>
  nN v64 fun r67_0 =>
  nB (gR 102 1 r67_0) fun v67 =>
  nB (gR 1 0 f0) fun v76 =>
  nN v76 fun r79_0 =>
  nN v67 fun r79_5 =>
  nK 2 r79_5 (nB (x2_open r79_5 f3 f2 s5 (zi 0) r79_0) fun v79 =>
  nB (gI 203 2 v79) fun v82 =>
  if v82 = f4 then (nE (s5 + zi 1) fun n93 =>
  nP (Sum.inl n93)) else (nP (Sum.inr (Sum.inl s5)))))
noncomputable def x0_late (a0 : Nat) (a1 : Int32) (a2 : Int32) : xN Int32 :=
  nK 0 a0 (nB (x0_isPage a0 a1) fun v2 =>
  if v2 = 0 then (nP (zi (-1))) else (nB (x0_isLand a2) fun v9 =>
  if v9 = 0 then (nP (zi (-1))) else (nB (gR 4 0 a0) fun v18 =>
  nN v18 fun r21_0 =>
  nB (gR 313 3 r21_0) fun v21 =>
  nN v21 fun r25_1 =>
  nB (aR 6 r25_1 a1) fun v25 =>
  nN v25 fun r26_0 =>
  nB (gR 1400 14 r26_0) fun v26 =>
  nB (gR 0 0 a0) fun v31 =>
  nN v31 fun r34_0 =>
  nB (gR 102 1 r34_0) fun v34 =>
  nB (gR 1 0 a0) fun v42 =>
  nN v42 fun r45_0 =>
  nN v26 fun r45_4 =>
  nN v34 fun r45_5 =>
  nK 2 r45_5 (nB (x2_open r45_5 r45_4 a2 (zi 0) (zi 0) r45_0) fun v45 =>
  nB (gI 203 2 v45) fun v48 =>
  nB (nLp (fun s => x0_late_l56 a0 a2 r45_4 v48 s) (zi 1)) (nD (fun e56 => nP e56)
  (fun e56 => nP (zi (-1))))))))
noncomputable def x0_leaves_l23 (f0 : Nat) (f1 : Int32) (f2 : Int32) (s3 : Int32) : xN ((Int32) ⊕ (Int32)) :=
  if s3 < 0 then (nP (Sum.inr s3)) else (nK 0 f0 (nB (x0_fits f0 f1 s3) fun v30 =>
  if f2 ≤ v30 then (nP (Sum.inr s3)) else (nE (s3 + zi (-1)) fun n37 =>
  nP (Sum.inl n37))))
noncomputable def x0_leaves (a0 : Nat) (a1 : Int32) (a2 : Int32) : xN Int32 :=
  nK 0 a0 (nB (x0_isPage a0 a1) fun v2 =>
  if v2 = 0 then (nP (zi (-1))) else (nB (x0_in a2 (zi 1) (zi 10)) fun v12 =>
  if v12 = 0 then (nP (zi (-1))) else (nB (nLp (fun s => x0_leaves_l23 a0 a1 a2 s) (zi 16)) fun e23 =>
  nP e23)))
noncomputable def x0_letter_l7 (f0 : Nat) (f1 : Int32) (s2 : Int32) : xN ((Int32) ⊕ (Int32 ⊕ (Unit))) :=
  if f1 ≤ s2 then (nP (Sum.inr (Sum.inr ()))) else (nB (gR 4 0 f0) fun v13 =>
  nN v13 fun r16_0 =>
  nB (gR 300 3 r16_0) fun v16 =>
  nN v16 fun r20_1 =>
  nB (aI 1 r20_1 s2) fun v20 =>
  nB (x0_in v20 (zi 97) (zi 122)) fun v27 =>
  if v27 = 0 then (if v20 = (zi 46) then (nE (s2 + zi 1) fun n58 =>
  nP (Sum.inl n58)) else (if v20 = (zi 10) then (nE (s2 + zi 1) fun n58 =>
  nP (Sum.inl n58)) else (if v20 = (zi 32) then (nE (s2 + zi 1) fun n58 =>
  nP (Sum.inl n58)) else (nP (Sum.inr (Sum.inl s2)))))) else (nE (s2 + zi 1) fun n58 =>
  nP (Sum.inl n58)))
noncomputable def x0_letter (a0 : Nat) : xN Int32 :=
  nK 0 a0 (nB (x0_take a0) fun v1 =>
  nB (nLp (fun s => x0_letter_l7 a0 v1 s) (zi 0)) (nD (fun e7 => nK 0 a0 (nB (x0_fails a0 (zi 1) e7) fun v54 =>
  nP v54))
  (fun e7 => nB (nA 1 v1) fun v65 =>
  nB (gR 4 0 a0) fun v69 =>
  nN v69 fun r72_0 =>
  nB (gR 300 3 r72_0) fun v72 =>
  nN v72 fun r79_4 =>
  nB (cI 1 r79_4 (zi 0) v65 (zi 0) v1) fun _ =>
  nB (gR 4 0 a0) fun v83 =>
  nN v83 fun r87_1 =>
  nB (pR 321 3 r87_1 (some v65)) fun _ =>
  nK 0 a0 (nB (x0_sentences a0) fun v91 =>
  nP v91))))
noncomputable def x0_like (a0 : Nat) (a1 : Int32) (a2 : Int32) (a3 : Int32) : xN Int32 :=
  nK 0 a0 (nB (x0_isSeen a0 a1 a2 a3) fun v4 =>
  if v4 = 0 then (nP (zi (-1))) else (nK 0 a0 (nB (x0_lookOf a0 a1 a2 a3) fun v14 =>
  nB (gI 400 4 v14) fun v17 =>
  nP v17)))
noncomputable def x0_look (a0 : Nat) (a1 : Int32) (a2 : Int32) (a3 : Int32) (a4 : Int32) : xN Int32 :=
  nK 0 a0 (nB (x0_isSeen a0 a1 a3 a4) fun v5 =>
  if v5 = 0 then (nP (zi (-1))) else (nK 0 a0 (nB (x0_isHouse a0 a2) fun v13 =>
  if v13 = 0 then (nP (zi (-1))) else (nB (gR 0 0 a0) fun v22 =>
  nN v22 fun r25_0 =>
  nB (gR 102 1 r25_0) fun v25 =>
  nB (gR 4 0 a0) fun v29 =>
  nN v29 fun r32_0 =>
  nB (gR 313 3 r32_0) fun v32 =>
  nN v32 fun r36_1 =>
  nB (aR 6 r36_1 a1) fun v36 =>
  nN v36 fun r37_0 =>
  nB (gR 1400 14 r37_0) fun v37 =>
  nB (gR 1 0 a0) fun v45 =>
  nN v45 fun r48_0 =>
  nN v37 fun r48_4 =>
  nN v25 fun r48_5 =>
  nK 2 r48_5 (nB (x2_open r48_5 r48_4 a3 a4 (zi 0) r48_0) fun v48 =>
  nK 0 a0 (nB (x0_lookAt a0 a2 a3 a4) fun v57 =>
  nP v57))))))
def x0_marks (a0 : Nat) (a1 : Int32) (a2 : Int32) (a3 : Int32) : xN Int32 :=
  nB (x0_in a1 (zi 0) (zi 60)) fun v4 =>
  if v4 = 0 then (nP (zi 0)) else (nB (x0_in a2 (zi 0) (zi 200)) fun v15 =>
  if v15 = 0 then (nP (zi 0)) else (nB (x0_in a3 (zi 0) (zi 99)) fun v25 =>
  if v25 = 0 then (nP (zi 0)) else (nB (gR 4 0 a0) fun v34 =>
  nN v34 fun r38_1 =>
  nB (pI 307 3 r38_1 a1) fun _ =>
  nB (gR 4 0 a0) fun v42 =>
  nN v42 fun r46_1 =>
  nB (pI 308 3 r46_1 a2) fun _ =>
  nB (gR 4 0 a0) fun v50 =>
  nN v50 fun r54_1 =>
  nB (pI 309 3 r54_1 a3) fun _ =>
  nP (zi 1))))
noncomputable def x4_signs_j91 (t0 : Int32) (t1 : Int32) : xN Int32 :=
  nP (t1 ||| t0)
noncomputable def x4_signs_j90 (t0 : Int32) : xN Int32 :=
  x4_signs_j91 (zi 0) t0
noncomputable def x4_signs_j39 (b0 : Nat) (b1 : Nat) (b2 : Int32) (b5 : Int32) (t0 : Int32) (t1 : Int32) : xN Int32 :=
  nE (t1 ||| t0) fun n40 =>
  nB (gI 400 4 b0) fun v45 =>
  if v45 = (zi (-1)) then (x4_signs_j90 n40) else (nB (gR 1401 14 b1) fun v53 =>
  nB (gR 403 4 b0) fun v57 =>
  nN v57 fun r60_0 =>
  nB (gR 4 0 r60_0) fun v60 =>
  nN v60 fun r63_0 =>
  nB (gR 312 3 r63_0) fun v63 =>
  nB (gI 400 4 b0) fun v67 =>
  nN v63 fun r70_1 =>
  nB (aR 5 r70_1 v67) fun v70 =>
  nN v70 fun r71_0 =>
  nB (gR 800 8 r71_0) fun v71 =>
  nN v71 fun r74_0 =>
  nN v53 fun r74_1 =>
  nB (x0_isName r74_1 r74_0) fun v74 =>
  if v74 = 0 then (if b5 < b2 then (x4_signs_j90 n40) else (x4_signs_j91 (zi 4) n40)) else (x4_signs_j90 n40))
noncomputable def x4_signs_j21 (b0 : Nat) (b1 : Nat) (b2 : Int32) (b4 : Int32) (b5 : Int32) (t0 : Int32) : xN Int32 :=
  nB (gI 402 4 b0) fun v26 =>
  if v26 < b4 then (x4_signs_j39 b0 b1 b2 b5 (zi 0) t0) else (x4_signs_j39 b0 b1 b2 b5 (zi 2) t0)
noncomputable def x4_signs_j20 (b0 : Nat) (b1 : Nat) (b2 : Int32) (b4 : Int32) (b5 : Int32) : xN Int32 :=
  x4_signs_j21 b0 b1 b2 b4 b5 (zi 0)
noncomputable def x4_signs (a0 : Nat) (a1 : Nat) (a2 : Int32) (a3 : Int32) (a4 : Int32) (a5 : Int32) : xN Int32 :=
  nB (gI 400 4 a0) fun v1 =>
  if v1 = (zi (-1)) then (x4_signs_j20 a0 a1 a2 a4 a5) else (nB (gI 401 4 a0) fun v9 =>
  if a3 < v9 then (x4_signs_j20 a0 a1 a2 a4 a5) else (x4_signs_j21 a0 a1 a2 a4 a5 (zi 1)))
def x0_say_2 (a0 : Int32) : xN Int32 :=
  nB (x7_bitCount a0) fun v2 =>
  nE (if (zi 0) < (v2 - (zi 1)) then (v2 - (zi 1)) else (zi 0)) fun n7 =>
  nP n7
noncomputable def x5_priceOf_l34 (f0 : Nat) (f1 : Nat) (f2 : Int32) (f3 : Int32) (f4 : Int32) (f5 : Int32) (f6 : Int32) (s7 : Int32) (s8 : Int32) (s9 : Int32) (s10 : Int32) : xN ((Int32 × Int32 × Int32 × Int32) ⊕ (Int32 × Int32 × Int32)) :=
  nB (gI 1405 14 f1) fun v37 =>
  if v37 ≤ s10 then (nP (Sum.inr (s7, s8, s9))) else (if ((f6 >>> (s10 &&& 31)) &&& (zi 1)) = 0 then (nE (s10 + zi 1) fun n135 =>
  nP (Sum.inl (s7, s8, s9, n135))) else (nB (gR 1407 14 f1) fun v57 =>
  nN v57 fun r62_1 =>
  nB (aR 12 r62_1 s10) fun v62 =>
  nN v62 fun r69_0 =>
  nB (gI 1703 17 r69_0) fun v69 =>
  nE (s7 + v69) fun n73 =>
  nB (gI 1700 17 r69_0) fun v77 =>
  if v77 = 0 then (nB (gI 1701 17 r69_0) fun v88 =>
  nE (s8 ||| ((zi 1) <<< (v88 &&& 31))) fun n93 =>
  nE (s10 + zi 1) fun n135 =>
  nP (Sum.inl (n73, n93, s9, n135))) else (nB (gI 1700 17 r69_0) fun v100 =>
  if v100 = (zi 1) then (nB (gR 500 5 f0) fun v108 =>
  nB (gI 1701 17 r69_0) fun v113 =>
  nB (gI 1702 17 r69_0) fun v118 =>
  nN v108 fun r121_2 =>
  nB (sI r121_2 v113 v118) fun _ =>
  nE (s10 + zi 1) fun n135 =>
  nP (Sum.inl (n73, s8, s9, n135))) else (nB (gI 1702 17 r69_0) fun v129 =>
  nE (s9 + v129) fun n133 =>
  nE (s10 + zi 1) fun n135 =>
  nP (Sum.inl (n73, s8, n133, n135))))))
noncomputable def x5_priceOf (a0 : Nat) (a1 : Nat) (a2 : Int32) (a3 : Int32) (a4 : Int32) (a5 : Int32) (a6 : Int32) : xN Int32 :=
  nK 14 a1 (nB (x14_age a1 a2) fun v8 =>
  nB (gR 504 5 a0) fun v14 =>
  nN v14 fun r17_0 =>
  nB (gR 1 0 r17_0) fun v17 =>
  nB (gR 500 5 a0) fun v22 =>
  nN v17 fun r28_4 =>
  nN v22 fun r28_2 =>
  nB (cI 0 r28_4 (zi 0) r28_2 (zi 0) (zi 14)) fun _ =>
  nB (nLp (fun s => x5_priceOf_l34 a0 a1 a2 a3 a4 a5 a6 s.1 s.2.1 s.2.2.1 s.2.2.2) ((zi 0), (zi 0), v8, (zi 0))) fun e34 =>
  nB (gR 504 5 a0) fun v142 =>
  nN v142 fun r145_0 =>
  nB (gR 7 0 r145_0) fun v145 =>
  nB (gR 1400 14 a1) fun v149 =>
  nB (gR 500 5 a0) fun v157 =>
  nN v157 fun r160_0 =>
  nN v149 fun r160_4 =>
  nN v145 fun r160_5 =>
  nK 4 r160_5 (nB (x4_at r160_5 r160_4 (zi 0) a2 e34.2.1 r160_0) fun v160 =>
  nB (gR 504 5 a0) fun v166 =>
  nN v166 fun r169_0 =>
  nB (gR 7 0 r169_0) fun v169 =>
  nB (gR 504 5 a0) fun v178 =>
  nN v178 fun r181_0 =>
  nB (gR 4 0 r181_0) fun v181 =>
  nN v181 fun r184_0 =>
  nB (gI 308 3 r184_0) fun v184 =>
  nB (gR 504 5 a0) fun v188 =>
  nN v188 fun r191_0 =>
  nB (gR 4 0 r191_0) fun v191 =>
  nN v191 fun r194_0 =>
  nB (gI 309 3 r194_0) fun v194 =>
  nN v169 fun r197_5 =>
  nK 4 r197_5 (nB (x4_signs r197_5 a1 e34.2.2 a5 v184 v194) fun v197 =>
  nB (x0_say_2 v197) fun v200 =>
  nB (pI 503 5 a0 v200) fun _ =>
  nB (gR 504 5 a0) fun v207 =>
  nN v207 fun r210_0 =>
  nB (gR 7 0 r210_0) fun v210 =>
  nN v210 fun r213_0 =>
  nB (gI 400 4 r213_0) fun v213 =>
  if v213 = (zi (-1)) then (nP (zi (-1))) else (nB (gR 504 5 a0) fun v221 =>
  nN v221 fun r224_0 =>
  nB (gR 7 0 r224_0) fun v224 =>
  nN v224 fun r227_0 =>
  nB (gI 401 4 r227_0) fun v227 =>
  if a3 < v227 then (nP (zi (-1))) else (nB (gR 504 5 a0) fun v235 =>
  nN v235 fun r238_0 =>
  nB (gR 7 0 r238_0) fun v238 =>
  nN v238 fun r241_0 =>
  nB (gI 402 4 r241_0) fun v241 =>
  if v241 < a4 then (nP (zi (-1))) else (nB (gI 503 5 a0) fun v250 =>
  if v250 = (zi 2) then (nP (zi (-1))) else (nP e34.1)))))))
noncomputable def x5_passes_l12_j82 (b0 : Nat) (b1 : Nat) (b2 : Int32) (b3 : Int32) (b4 : Int32) (b5 : Int32) (b6 : Int32) (b7 : Int32) (b8 : Int32) (b9 : Int32) (b10 : Int32) (t0 : Int32) : xN ((Int32 × Int32 × Int32 × Int32) ⊕ (Int32 × Int32 × Int32)) :=
  if t0 = 0 then (nE (b9 + zi 1) fun n106 =>
  nP (Sum.inl (b6, b7, b8, n106))) else (nB (gI 503 5 b0) fun v101 =>
  nE (b9 + zi 1) fun n106 =>
  nP (Sum.inl (b9, b10, v101, n106)))
noncomputable def x5_passes_l12_j81 (b0 : Nat) (b1 : Nat) (b2 : Int32) (b3 : Int32) (b4 : Int32) (b5 : Int32) (b6 : Int32) (b7 : Int32) (b8 : Int32) (b9 : Int32) (b10 : Int32) : xN ((Int32 × Int32 × Int32 × Int32) ⊕ (Int32 × Int32 × Int32)) :=
  x5_passes_l12_j82 b0 b1 b2 b3 b4 b5 b6 b7 b8 b9 b10 (zi 0)
noncomputable def x5_passes_l12_j77 (b0 : Nat) (b1 : Nat) (b2 : Int32) (b3 : Int32) (b4 : Int32) (b5 : Int32) (b6 : Int32) (b7 : Int32) (b8 : Int32) (b9 : Int32) (b10 : Int32) : xN ((Int32 × Int32 × Int32 × Int32) ⊕ (Int32 × Int32 × Int32)) :=
  x5_passes_l12_j82 b0 b1 b2 b3 b4 b5 b6 b7 b8 b9 b10 (zi 1)
noncomputable def x5_passes_l12 (f0 : Nat) (f1 : Nat) (f2 : Int32) (f3 : Int32) (f4 : Int32) (f5 : Int32) (s6 : Int32) (s7 : Int32) (s8 : Int32) (s9 : Int32) : xN ((Int32 × Int32 × Int32 × Int32) ⊕ (Int32 × Int32 × Int32)) :=
  nB (gI 1405 14 f1) fun v16 =>
  if ((zi 1) <<< (v16 &&& 31)) ≤ s9 then (nP (Sum.inr (s6, s7, s8))) else (nK 5 f0 (nB (x5_priceOf f0 f1 f2 f3 f4 f5 s9) fun v33 =>
  if v33 = (zi (-1)) then (x5_passes_l12_j81 f0 f1 f2 f3 f4 f5 s6 s7 s8 s9 v33) else (if s6 = (zi (-1)) then (x5_passes_l12_j77 f0 f1 f2 f3 f4 f5 s6 s7 s8 s9 v33) else (if v33 < s7 then (x5_passes_l12_j77 f0 f1 f2 f3 f4 f5 s6 s7 s8 s9 v33) else (if v33 = s7 then (nB (x7_bitCount s9) fun v66 =>
  nB (x7_bitCount s6) fun v71 =>
  if v71 ≤ v66 then (x5_passes_l12_j81 f0 f1 f2 f3 f4 f5 s6 s7 s8 s9 v33) else (x5_passes_l12_j77 f0 f1 f2 f3 f4 f5 s6 s7 s8 s9 v33)) else (x5_passes_l12_j81 f0 f1 f2 f3 f4 f5 s6 s7 s8 s9 v33))))))
noncomputable def x5_passes (a0 : Nat) (a1 : Nat) (a2 : Int32) (a3 : Int32) (a4 : Int32) (a5 : Int32) : xN Int32 :=
  nB (nLp (fun s => x5_passes_l12 a0 a1 a2 a3 a4 a5 s.1 s.2.1 s.2.2.1 s.2.2.2) ((zi (-1)), (zi 0), (zi 0), (zi 0))) fun e12 =>
  nB (pI 501 5 a0 e12.1) fun _ =>
  nB (pI 502 5 a0 e12.2.1) fun _ =>
  nB (pI 503 5 a0 e12.2.2) fun _ =>
  if e12.1 = (zi (-1)) then (nP (zi 0)) else (nP (zi 1))
noncomputable def x0_met_l17 (f0 : Nat) (f1 : Int32) (f2 : Int32) (f3 : Int32) (f4 : Int32) (s5 : Int32) : xN ((Int32) ⊕ (Int32 ⊕ (Unit))) :=
  if (zi 60) < s5 then (nP (Sum.inr (Sum.inr ()))) else (nB (gR 13 0 f0) fun v25 =>
  nB (gR 4 0 f0) fun v29 =>
  nN v29 fun r32_0 =>
  nB (gR 313 3 r32_0) fun v32 =>
  nN v32 fun r36_1 =>
  nB (aR 6 r36_1 f1) fun v36 =>
  nN v36 fun r43_4 =>
  nN v25 fun r43_5 =>
  nK 5 r43_5 (nB (x5_passes r43_5 r43_4 f2 f3 f4 s5) fun v43 =>
  if v43 = 0 then (nP (Sum.inr (Sum.inl s5))) else (nE (s5 + zi 1) fun n52 =>
  nP (Sum.inl n52))))
noncomputable def x0_met (a0 : Nat) (a1 : Int32) (a2 : Int32) (a3 : Int32) (a4 : Int32) : xN Int32 :=
  nK 0 a0 (nB (x0_isForged a0 a1 a2 a3 a4) fun v6 =>
  if v6 = 0 then (nP (zi (-1))) else (nB (nLp (fun s => x0_met_l17 a0 a1 a2 a3 a4 s) (zi 0)) (nD (fun e17 => nP e17)
  (fun e17 => nP (zi (-1))))))
noncomputable def x0_moved_l5 (f0 : Int32) (f1 : Int32) (f2 : Int32) (s3 : Int32) (s4 : Int32) : xN ((Int32 × Int32) ⊕ (Int32)) :=
  if (zi 25) ≤ s4 then (nP (Sum.inr s3)) else (nE ((s4 / (zi 5)) + f1) fun n18 =>
  nE ((s4 - s4 / (zi 5) * (zi 5)) + f2) fun n26 =>
  nB (x0_in n18 (zi 0) (zi 4)) fun v32 =>
  if v32 = 0 then (nE (s4 + zi 1) fun n65 =>
  nP (Sum.inl (s3, n65))) else (nB (x0_in n26 (zi 0) (zi 4)) fun v42 =>
  if v42 = 0 then (nE (s4 + zi 1) fun n65 =>
  nP (Sum.inl (s3, n65))) else (nE (s3 ||| (((f0 >>> (s4 &&& 31)) &&& (zi 1)) <<< ((((zi 5) * n18) + n26) &&& 31))) fun n64 =>
  nE (s4 + zi 1) fun n65 =>
  nP (Sum.inl (n64, n65)))))
noncomputable def x0_moved (a0 : Int32) (a1 : Int32) (a2 : Int32) : xN Int32 :=
  nB (nLp (fun s => x0_moved_l5 a0 a1 a2 s.1 s.2) ((zi 0), (zi 0))) fun e5 =>
  nP e5
noncomputable def x0_name (a0 : Nat) (a1 : Int32) : xN Int32 :=
  nK 0 a0 (nB (x0_take a0) fun v1 =>
  nK 0 a0 (nB (x0_isPage a0 a1) fun v7 =>
  if v7 = 0 then (nP (zi 0)) else (nK 0 a0 (nB (x0_readName a0 v1) fun v17 =>
  if v17 = none then (nP (zi 0)) else (nB (gR 4 0 a0) fun v28 =>
  nN v28 fun r31_0 =>
  nB (gR 313 3 r31_0) fun v31 =>
  nN v31 fun r35_1 =>
  nB (aR 6 r35_1 a1) fun v35 =>
  nN v35 fun r37_1 =>
  nB (pR 1401 14 r37_1 v17) fun _ =>
  nP (zi 1))))))
noncomputable def x0_turned_l4 (f0 : Int32) (s1 : Int32) (s2 : Int32) : xN ((Int32 × Int32) ⊕ (Int32)) :=
  if (zi 25) ≤ s2 then (nP (Sum.inr s1)) else (nE (s1 ||| (((f0 >>> (s2 &&& 31)) &&& (zi 1)) <<< ((((((zi 5) * (s2 - s2 / (zi 5) * (zi 5))) + (zi 5)) - (zi 1)) - (s2 / (zi 5))) &&& 31))) fun n31 =>
  nE (s2 + zi 1) fun n32 =>
  nP (Sum.inl (n31, n32)))
noncomputable def x0_turned (a0 : Int32) : xN Int32 :=
  nB (nLp (fun s => x0_turned_l4 a0 s.1 s.2) ((zi 0), (zi 0))) fun e4 =>
  nP e4
noncomputable def x0_unlikeOf_l29 (f0 : Nat) (f2 : Int32) (f3 : Int32) (f5 : Int32) (s4 : Int32) (s6 : Int32) : xN ((Int32 × Int32) ⊕ (Int32)) :=
  if (zi 9) ≤ s6 then (nP (Sum.inr s4)) else (nB (x0_moved f3 ((s6 / (zi 3)) - (zi 1)) ((s6 - s6 / (zi 3) * (zi 3)) - (zi 1))) fun v51 =>
  nB (gR 4 0 f0) fun v55 =>
  nN v55 fun r58_0 =>
  nB (gR 312 3 r58_0) fun v58 =>
  nN v58 fun r62_1 =>
  nB (aR 5 r62_1 f2) fun v62 =>
  nN v62 fun r63_0 =>
  nB (gI 803 8 r63_0) fun v63 =>
  nB (x7_bitCount (v51 ^^^ v63)) fun v67 =>
  nE (if v67 < s4 then v67 else s4) fun n70 =>
  nE (s6 + zi 1) fun n75 =>
  nP (Sum.inl (n70, n75)))
noncomputable def x0_unlikeOf_l20 (f0 : Nat) (f2 : Int32) (s3 : Int32) (s4 : Int32) (s5 : Int32) : xN ((Int32 × Int32 × Int32) ⊕ (Int32)) :=
  if (zi 4) ≤ s5 then (nP (Sum.inr s4)) else (nB (nLp (fun s => x0_unlikeOf_l29 f0 f2 s3 s5 s.1 s.2) (s4, (zi 0))) fun e29 =>
  nB (x0_turned s3) fun v82 =>
  nE (s5 + zi 1) fun n86 =>
  nP (Sum.inl (v82, e29, n86)))
noncomputable def x0_unlikeOf (a0 : Nat) (a1 : Int32) (a2 : Int32) : xN Int32 :=
  nB (gR 4 0 a0) fun v1 =>
  nN v1 fun r4_0 =>
  nB (gR 313 3 r4_0) fun v4 =>
  nN v4 fun r8_1 =>
  nB (aR 6 r8_1 a1) fun v8 =>
  nN v8 fun r9_0 =>
  nB (gI 1406 14 r9_0) fun v9 =>
  nB (nLp (fun s => x0_unlikeOf_l20 a0 a2 s.1 s.2.1 s.2.2) (v9, (zi 25), (zi 0))) fun e20 =>
  nP e20
noncomputable def x0_near_l24 (f0 : Nat) (f1 : Int32) (s2 : Int32) (s3 : Int32) : xN ((Int32 × Int32) ⊕ (Int32)) :=
  nB (gR 4 0 f0) fun v26 =>
  nN v26 fun r29_0 =>
  nB (gI 304 3 r29_0) fun v29 =>
  if v29 ≤ s3 then (nP (Sum.inr s2)) else (nK 0 f0 (nB (x0_unlikeOf f0 f1 s3) fun v38 =>
  nK 0 f0 (nB (x0_unlikeOf f0 f1 s2) fun v44 =>
  if v44 ≤ v38 then (nE (s3 + zi 1) fun n52 =>
  nP (Sum.inl (s2, n52))) else (nE (s3 + zi 1) fun n52 =>
  nP (Sum.inl (s3, n52))))))
noncomputable def x0_near (a0 : Nat) (a1 : Int32) : xN Int32 :=
  nK 0 a0 (nB (x0_isPage a0 a1) fun v2 =>
  if v2 = 0 then (nP (zi (-1))) else (nB (gR 4 0 a0) fun v9 =>
  nN v9 fun r12_0 =>
  nB (gI 304 3 r12_0) fun v12 =>
  if v12 = 0 then (nP (zi (-1))) else (nB (nLp (fun s => x0_near_l24 a0 a1 s.1 s.2) ((zi 0), (zi 1))) fun e24 =>
  nP e24)))
noncomputable def x0_waysOf_l66 (f3 : Int32) (f4 : Int32) (s5 : Int32) (s6 : Int32) : xN ((Int32 × Int32) ⊕ (Int32)) :=
  if f4 < s6 then (nP (Sum.inr s5)) else (nB (x0_choose f3 s6) fun v78 =>
  nB (x0_choose ((zi 20) - f3) (f4 - s6)) fun v90 =>
  nE (s5 + (v78 * v90)) fun n95 =>
  nE (s6 + zi 1) fun n97 =>
  nP (Sum.inl (n95, n97)))
noncomputable def x0_waysOf (a0 : Nat) (a1 : Int32) (a2 : Int32) : xN Int32 :=
  nB (gR 4 0 a0) fun v1 =>
  nN v1 fun r4_0 =>
  nB (gR 313 3 r4_0) fun v4 =>
  nN v4 fun r8_1 =>
  nB (aR 6 r8_1 a1) fun v8 =>
  nN v8 fun r9_0 =>
  nB (gI 1404 14 r9_0) fun v9 =>
  nB (x7_bitCount v9) fun v12 =>
  nB (gR 4 0 a0) fun v17 =>
  nN v17 fun r20_0 =>
  nB (gR 313 3 r20_0) fun v20 =>
  nN v20 fun r24_1 =>
  nB (aR 6 r24_1 a2) fun v24 =>
  nN v24 fun r25_0 =>
  nB (gI 1404 14 r25_0) fun v25 =>
  nB (x7_bitCount v25) fun v28 =>
  nB (gR 4 0 a0) fun v37 =>
  nN v37 fun r40_0 =>
  nB (gR 313 3 r40_0) fun v40 =>
  nN v40 fun r44_1 =>
  nB (aR 6 r44_1 a1) fun v44 =>
  nN v44 fun r45_0 =>
  nB (gI 1404 14 r45_0) fun v45 =>
  nB (gR 4 0 a0) fun v49 =>
  nN v49 fun r52_0 =>
  nB (gR 313 3 r52_0) fun v52 =>
  nN v52 fun r56_1 =>
  nB (aR 6 r56_1 a2) fun v56 =>
  nN v56 fun r57_0 =>
  nB (gI 1404 14 r57_0) fun v57 =>
  nB (x7_bitCount (v45 &&& v57)) fun v61 =>
  nB (nLp (fun s => x0_waysOf_l66 v12 v28 s.1 s.2) ((zi 0), v61)) fun e66 =>
  nP e66
noncomputable def x0_odds (a0 : Nat) (a1 : Int32) (a2 : Int32) (a3 : Int32) : xN Int32 :=
  nK 0 a0 (nB (x0_isPage a0 a1) fun v2 =>
  if v2 = 0 then (nP (zi (-1))) else (nK 0 a0 (nB (x0_isPage a0 a2) fun v10 =>
  if v10 = 0 then (nP (zi (-1))) else (if a1 = a2 then (nP (zi (-1))) else (if a3 = 0 then (nK 0 a0 (nB (x0_waysOf a0 a1 a2) fun v32 =>
  nP v32)) else (if a3 = (zi 1) then (nK 0 a0 (nB (x0_dealsOf a0 a2) fun v45 =>
  nP v45)) else (nP (zi (-1)))))))))
def x9_init_10 (a0 : Nat) (a1 : Nat) (a2 : Int32) : xN Unit :=
  nB (pR 909 10 a0 (some a1)) fun _ =>
  nB (pI 900 10 a0 a2) fun _ =>
  nP ()
def x11_init (a0 : Nat) : xN Unit :=
  nB (nA 11 (zi 14)) fun v7 =>
  nB (pR 1100 11 a0 (some v7)) fun _ =>
  nP ()
def x10_init (a0 : Nat) (a1 : Nat) (a2 : Int32) : xN Unit :=
  nB (pR 1011 10 a0 (some a1)) fun _ =>
  nB (x9_init_10 a0 a1 a2) fun _ =>
  nB (nO (11 + 1) 2) fun v12 =>
  nB (x11_init v12) fun _ =>
  nB (pR 1010 10 a0 (some v12)) fun _ =>
  nP ()
def x9_see_10 (a0 : Nat) : xN Int32 :=
  nB (gI 901 10 a0) fun v1 =>
  nB (gI 900 10 a0) fun v5 =>
  if v5 ≤ v1 then (nP (zi (-1))) else (nB (gR 909 10 a0) fun v12 =>
  nN v12 fun r15_0 =>
  nB (gR 4 0 r15_0) fun v15 =>
  nN v15 fun r18_0 =>
  nB (gR 300 3 r18_0) fun v18 =>
  nB (gI 901 10 a0) fun v22 =>
  nN v18 fun r25_1 =>
  nB (aI 1 r25_1 v22) fun v25 =>
  nP (v25 &&& (zi 255)))
noncomputable def x9_next_10_l0_j18 (b0 : Nat) : xN ((Unit) ⊕ (Unit)) :=
  nB (gI 901 10 b0) fun v20 =>
  nB (pI 901 10 b0 (v20 + (zi 1))) fun _ =>
  nP (Sum.inl ())
noncomputable def x9_next_10_l0 (f0 : Nat) : xN ((Unit) ⊕ (Unit)) :=
  nK 10 f0 (nB (x9_see_10 f0) fun v1 =>
  if v1 = (zi 10) then (x9_next_10_l0_j18 f0) else (nK 10 f0 (nB (x9_see_10 f0) fun v10 =>
  if v10 = (zi 32) then (x9_next_10_l0_j18 f0) else (nP (Sum.inr ())))))
noncomputable def x9_next_10_j286 (b0 : Nat) (t0 : Int32) (t1 : Nat) : xN Unit :=
  nB (pI 904 10 t1 t0) fun _ =>
  nB (gI 901 10 b0) fun v291 =>
  nB (pI 901 10 b0 (v291 + (zi 1))) fun _ =>
  nP ()
noncomputable def x9_next_10_j281 (b0 : Nat) (t0 : Nat) : xN Unit :=
  x9_next_10_j286 b0 (zi 4) t0
noncomputable def x9_next_10_l154_j196 (b0 : Nat) (b1 : Int32) (t0 : Int32) (t1 : Nat) : xN ((Int32) ⊕ (Int32)) :=
  nB (pI 906 10 t1 t0) fun _ =>
  nE (b1 + zi 1) fun n199 =>
  nB (gI 901 10 b0) fun v204 =>
  nB (pI 901 10 b0 (v204 + (zi 1))) fun _ =>
  nP (Sum.inl n199)
noncomputable def x9_next_10_l154 (f0 : Nat) (s1 : Int32) : xN ((Int32) ⊕ (Int32)) :=
  nK 10 f0 (nB (x9_see_10 f0) fun v155 =>
  nB (x0_in v155 (zi 48) (zi 57)) fun v162 =>
  if v162 = 0 then (nP (Sum.inr s1)) else (if (zi 4) ≤ s1 then (nB (gI 906 10 f0) fun v193 =>
  x9_next_10_l154_j196 f0 s1 v193 f0) else (nB (gI 906 10 f0) fun v177 =>
  nK 10 f0 (nB (x9_see_10 f0) fun v182 =>
  x9_next_10_l154_j196 f0 s1 ((((zi 10) * v177) + v182) - (zi 48)) f0))))
noncomputable def x9_next_10_j226 (t0 : Int32) (t1 : Nat) : xN Unit :=
  nB (pI 904 10 t1 t0) fun _ =>
  nP ()
noncomputable def x9_next_10_l71 (f0 : Nat) : xN ((Unit) ⊕ (Unit)) :=
  nK 10 f0 (nB (x9_see_10 f0) fun v72 =>
  nB (x0_in v72 (zi 97) (zi 122)) fun v79 =>
  if v79 = 0 then (nP (Sum.inr ())) else (nB (gL 903 10 f0) fun v87 =>
  nK 10 f0 (nB (x9_see_10 f0) fun v94 =>
  nB (pL 903 10 f0 ((v87 <<< (((zi 8)).toInt64 &&& 63)) ||| ((v94).toInt64))) fun _ =>
  nB (gI 902 10 f0) fun v104 =>
  nB (pI 902 10 f0 (v104 + (zi 1))) fun _ =>
  nB (gI 901 10 f0) fun v114 =>
  nB (pI 901 10 f0 (v114 + (zi 1))) fun _ =>
  nP (Sum.inl ()))))
noncomputable def x9_next_10 (a0 : Nat) : xN Unit :=
  nB (nLp (fun s => x9_next_10_l0 a0) ()) fun e0 =>
  nB (gI 901 10 a0) fun v33 =>
  nB (pI 905 10 a0 v33) fun _ =>
  nK 10 a0 (nB (x9_see_10 a0) fun v41 =>
  nB (pI 906 10 a0 v41) fun _ =>
  nB (gI 906 10 a0) fun v48 =>
  nB (x0_in v48 (zi 97) (zi 122)) fun v55 =>
  if v55 = 0 then (nB (gI 906 10 a0) fun v134 =>
  nB (x0_in v134 (zi 48) (zi 57)) fun v141 =>
  if v141 = 0 then (nB (gI 906 10 a0) fun v234 =>
  if v234 = (zi (-1)) then (x9_next_10_j286 a0 (zi 0) a0) else (nB (gI 906 10 a0) fun v246 =>
  if v246 = (zi 59) then (x9_next_10_j281 a0 a0) else (nB (gI 906 10 a0) fun v255 =>
  if v255 = (zi 40) then (x9_next_10_j281 a0 a0) else (nB (gI 906 10 a0) fun v264 =>
  if v264 = (zi 41) then (x9_next_10_j281 a0 a0) else (nB (gI 906 10 a0) fun v273 =>
  if v273 = (zi 60) then (x9_next_10_j281 a0 a0) else (x9_next_10_j286 a0 (zi 1) a0)))))) else (nB (pI 906 10 a0 (zi 0)) fun _ =>
  nB (nLp (fun s => x9_next_10_l154 a0 s) (zi 0)) fun e154 =>
  if e154 ≤ (zi 4) then (x9_next_10_j226 (zi 3) a0) else (x9_next_10_j226 (zi 1) a0))) else (nB (pL 903 10 a0 (0 : Int64)) fun _ =>
  nB (pI 902 10 a0 (zi 0)) fun _ =>
  nB (nLp (fun s => x9_next_10_l71 a0) ()) fun e71 =>
  nB (pI 904 10 a0 (zi 2)) fun _ =>
  nP ()))
noncomputable def x9_isWord_10_l26 (f0 : Nat) (f1 : Nat) (s2 : Int64) (s4 : Int32) : xN ((Int64 × Int32) ⊕ (Int64)) :=
  nS f1 (nB (xJ0_length f1) fun v29 =>
  if v29 ≤ s4 then (nP (Sum.inr s2)) else (nS f1 (nB (xJ0_charAt f1 s4) fun v42 =>
  nE ((s2 <<< (((zi 8)).toInt64 &&& 63)) ||| ((v42).toInt64)) fun n47 =>
  nE (s4 + zi 1) fun n48 =>
  nP (Sum.inl (n47, n48)))))
noncomputable def x9_isWord_10 (a0 : Nat) (a1 : Nat) : xN Int32 :=
  nB (gI 904 10 a0) fun v1 =>
  if v1 = (zi 2) then (nB (gI 902 10 a0) fun v9 =>
  nS a1 (nB (xJ0_length a1) fun v13 =>
  if v9 = v13 then (nB (nLp (fun s => x9_isWord_10_l26 a0 a1 s.1 s.2) ((0 : Int64), (zi 0))) fun e26 =>
  nB (gL 903 10 a0) fun v56 =>
  if (lg_cmp e26 v56) = 0 then (nP (zi 1)) else (nP (zi 0))) else (nP (zi 0)))) else (nP (zi 0))
noncomputable def x9_kind_10_l2 (f0 : Nat) (s1 : Int32) : xN ((Int32) ⊕ (Int32 ⊕ (Unit))) :=
  if (zi 8) ≤ s1 then (nP (Sum.inr (Sum.inr ()))) else (nB (gR 909 10 f0) fun v10 =>
  nN v10 fun r13_0 =>
  nB (gR 2 0 r13_0) fun v13 =>
  nN v13 fun r17_1 =>
  nB (aR 4 r17_1 s1) fun v17 =>
  nN v17 fun r18_0 =>
  nK 10 f0 (nB (x9_isWord_10 f0 r18_0) fun v18 =>
  if v18 = 0 then (nE (s1 + zi 1) fun n26 =>
  nP (Sum.inl n26)) else (nP (Sum.inr (Sum.inl s1)))))
noncomputable def x9_kind_10 (a0 : Nat) : xN Int32 :=
  nB (nLp (fun s => x9_kind_10_l2 a0 s) (zi 0)) (nD (fun e2 => nP e2)
  (fun e2 => nP (zi (-1))))
def x12_init (a0 : Nat) (a1 : Int32) : xN Unit :=
  nB (wX a0) fun _ =>
  nB (wP a0 a1) fun _ =>
  nP ()
def x9_wrong_10 (a0 : Nat) : xN Nat :=
  nB (nO 13 7) fun v0 =>
  nB (gI 905 10 a0) fun v5 =>
  nB (x12_init v0 v5) fun _ =>
  nP v0
def x9_note_10_j32 (b0 : Nat) (b1 : Int32) (b2 : Int32) : xN Unit :=
  nB (pI 907 10 b0 b1) fun _ =>
  nB (pI 908 10 b0 b2) fun _ =>
  nP ()
def x9_note_10 (a0 : Nat) (a1 : Int32) (a2 : Int32) : xN Unit :=
  nB (gI 907 10 a0) fun v1 =>
  if v1 ≤ 0 then (x9_note_10_j32 a0 a1 a2) else (nB (gI 908 10 a0) fun v8 =>
  if v8 < a2 then (nP ()) else (nB (gI 908 10 a0) fun v16 =>
  if v16 = a2 then (nB (gI 907 10 a0) fun v24 =>
  if a1 < v24 then (x9_note_10_j32 a0 a1 a2) else (nP ())) else (x9_note_10_j32 a0 a1 a2)))
def x13_init (a0 : Nat) (a1 : Int32) : xN Unit :=
  nB (pI 1302 13 a0 (zi (-1))) fun _ =>
  nB (pI 1304 13 a0 a1) fun _ =>
  nP ()
noncomputable def x9_number_10_j36 (b0 : Nat) (b2 : Int32) : xN (Int32 ⊕ Nat) :=
  nK 10 b0 (nB (x9_next_10 b0) fun _ =>
  nP (Sum.inl b2))
noncomputable def x9_number_10 (a0 : Nat) (a1 : Int32) : xN (Int32 ⊕ Nat) :=
  nB (gI 904 10 a0) fun v1 =>
  if v1 = (zi 3) then (nB (gI 906 10 a0) fun v14 =>
  nB (x0_in v14 (zi 0) a1) fun v21 =>
  if v21 = 0 then (nB (gI 905 10 a0) fun v30 =>
  nK 10 a0 (nB (x9_note_10 a0 (zi 2) v30) fun _ =>
  x9_number_10_j36 a0 v14)) else (x9_number_10_j36 a0 v14)) else (nK 10 a0 (nB (x9_wrong_10 a0) fun v9 =>
  nP (Sum.inr v9)))
def x9_isSign_10 (a0 : Nat) (a1 : Int32) : xN Int32 :=
  nB (gI 904 10 a0) fun v1 =>
  if v1 = (zi 4) then (nB (gI 906 10 a0) fun v9 =>
  if v9 = a1 then (nP (zi 1)) else (nP (zi 0))) else (nP (zi 0))
noncomputable def x10_box_s_l220 (F : Nat → Int32 → Int32 → xN (Unit ⊕ Nat)) (f0 : Nat) (f2 : Int32) (f4 : Int32) : xN ((Unit) ⊕ ((Unit) ⊕ Nat)) :=
  nK 10 f0 (nB (x9_isSign_10 f0 (zi 41)) fun v223 =>
  if v223 = 0 then (nK 10 f0 (nB (F f0 f4 (f2 + (zi 1))) (nD (fun _ =>
  nP (Sum.inl ()))
  (fun x235 => nP (Sum.inr (Sum.inr x235)))))) else (nP (Sum.inr (Sum.inl ()))))
noncomputable def x10_box_s_j188 (F : Nat → Int32 → Int32 → xN (Unit ⊕ Nat)) (b0 : Nat) (b2 : Int32) (b4 : Int32) : xN (Unit ⊕ Nat) :=
  nK 10 b0 (nB (x9_isSign_10 b0 (zi 59)) fun v191 =>
  if v191 = 0 then (nK 10 b0 (nB (x9_isSign_10 b0 (zi 40)) fun v205 =>
  if v205 = 0 then (nK 10 b0 (nB (x9_wrong_10 b0) fun v212 =>
  nP (Sum.inr v212))) else (nK 10 b0 (nB (x9_next_10 b0) fun _ =>
  nB (nLp (fun s => x10_box_s_l220 F b0 b2 b4) ()) (nD (fun e220 => nK 10 b0 (nB (x9_next_10 b0) fun _ =>
  nP (Sum.inl ())))
  (fun x220 => nP (Sum.inr x220))))))) else (nK 10 b0 (nB (x9_next_10 b0) fun _ =>
  nP (Sum.inl ()))))
noncomputable def x10_box_s_j164 (F : Nat → Int32 → Int32 → xN (Unit ⊕ Nat)) (b0 : Nat) (b2 : Int32) (b4 : Int32) (b5 : Nat) : xN (Unit ⊕ Nat) :=
  nB (gS 16) fun v165 =>
  nK 10 b0 (nB (x9_isWord_10 b0 v165) fun v167 =>
  if v167 = 0 then (x10_box_s_j188 F b0 b2 b4) else (nK 10 b0 (nB (x9_next_10 b0) fun _ =>
  nK 10 b0 (nB (x9_number_10 b0 (zi 99)) (nD (fun v182 =>
  nB (pI 1303 13 b5 v182) fun _ =>
  x10_box_s_j188 F b0 b2 b4)
  (fun x182 => nP (Sum.inr x182)))))))
noncomputable def x10_box_s_j141 (F : Nat → Int32 → Int32 → xN (Unit ⊕ Nat)) (b0 : Nat) (b2 : Int32) (b4 : Int32) (b5 : Nat) : xN (Unit ⊕ Nat) :=
  nB (gS 15) fun v142 =>
  nK 10 b0 (nB (x9_isWord_10 b0 v142) fun v144 =>
  if v144 = 0 then (x10_box_s_j164 F b0 b2 b4 b5) else (nK 10 b0 (nB (x9_next_10 b0) fun _ =>
  nK 10 b0 (nB (x9_number_10 b0 (zi 3)) (nD (fun v158 =>
  nB (pI 1302 13 b5 v158) fun _ =>
  x10_box_s_j164 F b0 b2 b4 b5)
  (fun x158 => nP (Sum.inr x158)))))))
noncomputable def x10_box_s_j118 (F : Nat → Int32 → Int32 → xN (Unit ⊕ Nat)) (b0 : Nat) (b2 : Int32) (b4 : Int32) (b5 : Nat) : xN (Unit ⊕ Nat) :=
  nK 10 b0 (nB (x9_next_10 b0) fun _ =>
  nB (gI 904 10 b0) fun v123 =>
  if v123 = (zi 3) then (nK 10 b0 (nB (x9_number_10 b0 (zi 9)) (nD (fun v135 =>
  nB (pI 1301 13 b5 v135) fun _ =>
  x10_box_s_j141 F b0 b2 b4 b5)
  (fun x135 => nP (Sum.inr x135))))) else (x10_box_s_j141 F b0 b2 b4 b5))
noncomputable def x10_box_s_j60 (F : Nat → Int32 → Int32 → xN (Unit ⊕ Nat)) (b0 : Nat) (b1 : Int32) (b2 : Int32) (b3 : Int32) (b4 : Int32) : xN (Unit ⊕ Nat) :=
  nB (nO (13 + 1) 5) fun v60 =>
  nB (x13_init v60 b1) fun _ =>
  nB (pI 1300 13 v60 b3) fun _ =>
  nB (gR 1010 10 b0) fun v77 =>
  nN v77 fun r80_0 =>
  nB (gI 1101 11 r80_0) fun v80 =>
  if (zi 14) ≤ v80 then (x10_box_s_j118 F b0 b2 b4 v60) else (nB (gR 1010 10 b0) fun v89 =>
  nN v89 fun r92_0 =>
  nB (gR 1100 11 r92_0) fun v92 =>
  nB (gR 1010 10 b0) fun v96 =>
  nN v96 fun r99_0 =>
  nB (gI 1101 11 r99_0) fun v99 =>
  nN v92 fun r104_2 =>
  nB (sR 11 13 r104_2 v99 v60) fun _ =>
  nB (gR 1010 10 b0) fun v106 =>
  nN v106 fun r110_0 =>
  nB (gI 1101 11 r110_0) fun v110 =>
  nB (pI 1101 11 r110_0 (v110 + (zi 1))) fun _ =>
  x10_box_s_j118 F b0 b2 b4 v60)
noncomputable def x10_box_s_j45 (F : Nat → Int32 → Int32 → xN (Unit ⊕ Nat)) (b0 : Nat) (b1 : Int32) (b2 : Int32) (b3 : Int32) (b4 : Int32) : xN (Unit ⊕ Nat) :=
  if b2 ≤ (zi 6) then (x10_box_s_j60 F b0 b1 b2 b3 b4) else (nB (gI 905 10 b0) fun v54 =>
  nK 10 b0 (nB (x9_note_10 b0 (zi 4) v54) fun _ =>
  x10_box_s_j60 F b0 b1 b2 b3 b4))
noncomputable def x10_box_s (F : Nat → Int32 → Int32 → xN (Unit ⊕ Nat)) (a0 : Nat) (a1 : Int32) (a2 : Int32) : xN (Unit ⊕ Nat) :=
  nK 10 a0 (nB (x9_kind_10 a0) fun v1 =>
  nB (gR 1010 10 a0) fun v6 =>
  nN v6 fun r9_0 =>
  nB (gI 1101 11 r9_0) fun v9 =>
  if v1 = (zi (-1)) then (nK 10 a0 (nB (x9_wrong_10 a0) fun v20 =>
  nP (Sum.inr v20))) else (nB (gR 1010 10 a0) fun v25 =>
  nN v25 fun r28_0 =>
  nB (gI 1101 11 r28_0) fun v28 =>
  if v28 = (zi 14) then (nB (gI 905 10 a0) fun v39 =>
  nK 10 a0 (nB (x9_note_10 a0 (zi 3) v39) fun _ =>
  x10_box_s_j45 F a0 a1 a2 v1 v9)) else (x10_box_s_j45 F a0 a1 a2 v1 v9)))
noncomputable def x10_box_d : Nat → Nat → Int32 → Int32 → xN (Unit ⊕ Nat)
  | 0 => fun _ _ _ => nX
  | d + 1 => x10_box_s (x10_box_d d)
noncomputable def x10_box (a0 : Nat) (a1 : Int32) (a2 : Int32) : xN (Unit ⊕ Nat) := x10_box_d 140 a0 a1 a2
noncomputable def x10_text (a0 : Nat) : xN (Unit ⊕ Nat) :=
  nK 10 a0 (nB (x9_next_10 a0) fun _ =>
  nK 10 a0 (nB (x10_box a0 (zi (-1)) (zi 1)) (nD (fun _ =>
  nB (gI 904 10 a0) fun v11 =>
  if v11 = 0 then (nP (Sum.inl ())) else (nK 10 a0 (nB (x9_wrong_10 a0) fun v18 =>
  nP (Sum.inr v18))))
  (fun x7 => nP (Sum.inr x7)))))
noncomputable def x0_readPage_j17 (b0 : Nat) (t0 : Nat) : xN (Option Nat) :=
  nB (wG t0) fun v21 =>
  nK 0 b0 (nB (x0_fails b0 (zi 1) v21) fun v24 =>
  nP none)
noncomputable def x0_readPage (a0 : Nat) (a1 : Int32) : xN (Option Nat) :=
  nB (nO (10 + 1) 12) fun v0 =>
  nB (x10_init v0 a0 a1) fun _ =>
  nK 10 v0 (nB (x10_text v0) (nD (fun _ =>
  nB (gI 907 10 v0) fun v31 =>
  if v31 = 0 then (nB (gR 1010 10 v0) fun v38 =>
  nP v38) else (nB (gI 907 10 v0) fun v44 =>
  nB (gI 908 10 v0) fun v48 =>
  nK 0 a0 (nB (x0_fails a0 v44 v48) fun v51 =>
  nP none)))
  (fun x11 => nK 12 x11 (x0_readPage_j17 a0 x11))))
noncomputable def x0_own (a0 : Nat) (a1 : Int32) : xN Int32 :=
  nK 0 a0 (nB (x0_take a0) fun v1 =>
  nK 0 a0 (nB (x0_isHouse a0 a1) fun v7 =>
  if v7 = 0 then (nP (zi (-2))) else (nB (gR 4 0 a0) fun v14 =>
  nN v14 fun r17_0 =>
  nB (gR 312 3 r17_0) fun v17 =>
  nN v17 fun r21_1 =>
  nB (aR 5 r21_1 a1) fun v21 =>
  nN v21 fun r22_0 =>
  nB (gI 802 8 r22_0) fun v22 =>
  if v22 = (zi 2) then (nP (zi (-2))) else (nK 0 a0 (nB (x0_readPage a0 v1) fun v34 =>
  if v34 = none then (nP (zi (-1))) else (nB (gR 4 0 a0) fun v45 =>
  nN v45 fun r48_0 =>
  nB (gR 312 3 r48_0) fun v48 =>
  nN v48 fun r52_1 =>
  nB (aR 5 r52_1 a1) fun v52 =>
  nN v52 fun r57_0 =>
  nB (gR 801 8 r57_0) fun v57 =>
  nB (gI 802 8 r57_0) fun v62 =>
  nN v57 fun r66_2 =>
  nN v34 fun r66_0 =>
  nB (sR 10 11 r66_2 v62 r66_0) fun _ =>
  nB (gI 802 8 r57_0) fun v70 =>
  nB (pI 802 8 r57_0 (v70 + (zi 1))) fun _ =>
  nB (gI 802 8 r57_0) fun v80 =>
  nP v80))))))
def x0_owner_j22 (b0 : Nat) (b1 : Int32) (b2 : Int32) : xN Int32 :=
  nB (gR 4 0 b0) fun v23 =>
  nN v23 fun r26_0 =>
  nB (gR 317 3 r26_0) fun v26 =>
  nN v26 fun r31_2 =>
  nB (sI r31_2 b1 b2) fun _ =>
  nP (zi 1)
def x0_owner (a0 : Nat) (a1 : Int32) (a2 : Int32) : xN Int32 :=
  nB (x0_isAddress a1) fun v1 =>
  if v1 = 0 then (nP (zi 0)) else (if a2 = (zi (-1)) then (x0_owner_j22 a0 a1 a2) else (nK 0 a0 (nB (x0_isHouse a0 a2) fun v14 =>
  if v14 = 0 then (nP (zi 0)) else (x0_owner_j22 a0 a1 a2))))
def x14_init (a0 : Nat) (a1 : Nat) : xN Unit :=
  nB (nA 1 (zi 0)) fun v6 =>
  nB (pR 1401 14 a0 (some v6)) fun _ =>
  nB (nO (15 + 1) 5) fun v12 =>
  nB (x15_init v12) fun _ =>
  nB (pR 1402 14 a0 (some v12)) fun _ =>
  nB (nA 12 (zi 6)) fun v25 =>
  nB (pR 1407 14 a0 (some v25)) fun _ =>
  nB (pR 1400 14 a0 (some a1)) fun _ =>
  nP ()
noncomputable def x0_page (a0 : Nat) : xN Int32 :=
  nK 0 a0 (nB (x0_take a0) fun v1 =>
  nB (gR 4 0 a0) fun v6 =>
  nN v6 fun r9_0 =>
  nB (gI 305 3 r9_0) fun v9 =>
  if v9 = (zi 10) then (nP (zi (-2))) else (nK 0 a0 (nB (x0_readPage a0 v1) fun v22 =>
  if v22 = none then (nP (zi (-1))) else (nB (gR 4 0 a0) fun v33 =>
  nN v33 fun r36_0 =>
  nB (gR 313 3 r36_0) fun v36 =>
  nB (gR 4 0 a0) fun v40 =>
  nN v40 fun r43_0 =>
  nB (gI 305 3 r43_0) fun v43 =>
  nB (nO (14 + 1) 8) fun v46 =>
  nN v22 fun r51_0 =>
  nB (x14_init v46 r51_0) fun _ =>
  nN v36 fun r54_2 =>
  nB (sR 6 14 r54_2 v43 v46) fun _ =>
  nB (gR 4 0 a0) fun v56 =>
  nN v56 fun r60_0 =>
  nB (gI 305 3 r60_0) fun v60 =>
  nB (pI 305 3 r60_0 (v60 + (zi 1))) fun _ =>
  nB (gR 4 0 a0) fun v69 =>
  nN v69 fun r72_0 =>
  nB (gI 305 3 r72_0) fun v72 =>
  nP (v72 - (zi 1))))))
noncomputable def x0_pass (a0 : Nat) (a1 : Int32) (a2 : Int32) (a3 : Int32) (a4 : Int32) (a5 : Int32) : xN Int32 :=
  nK 0 a0 (nB (x0_isForged a0 a1 a2 a3 a4) fun v6 =>
  if v6 = 0 then (nP (zi (-1))) else (nB (gR 13 0 a0) fun v13 =>
  nB (gR 4 0 a0) fun v17 =>
  nN v17 fun r20_0 =>
  nB (gR 313 3 r20_0) fun v20 =>
  nN v20 fun r24_1 =>
  nB (aR 6 r24_1 a1) fun v24 =>
  nB (gR 4 0 a0) fun v30 =>
  nN v30 fun r33_0 =>
  nB (gI 307 3 r33_0) fun v33 =>
  nN v24 fun r36_4 =>
  nN v13 fun r36_5 =>
  nK 5 r36_5 (nB (x5_passes r36_5 r36_4 a2 a3 a4 v33) fun v36 =>
  if v36 = 0 then (nP (zi (-1))) else (if a5 = 0 then (nB (gR 13 0 a0) fun v50 =>
  nN v50 fun r53_0 =>
  nB (gI 502 5 r53_0) fun v53 =>
  nP v53) else (if a5 = (zi 1) then (nB (gR 13 0 a0) fun v66 =>
  nN v66 fun r69_0 =>
  nB (gI 501 5 r69_0) fun v69 =>
  nP v69) else (if a5 = (zi 2) then (nB (gR 13 0 a0) fun v82 =>
  nN v82 fun r85_0 =>
  nB (gI 503 5 r85_0) fun v85 =>
  nP v85) else (nP (zi (-1)))))))))
def x19_init (a0 : Nat) (a1 : Int32) (a2 : Int32) : xN Unit :=
  nB (pI 1900 19 a0 a1) fun _ =>
  nB (pI 1901 19 a0 a2) fun _ =>
  nP ()
def x0_pattern (a0 : Nat) (a1 : Int32) (a2 : Int32) : xN Int32 :=
  nB (gR 4 0 a0) fun v1 =>
  nN v1 fun r4_0 =>
  nB (gI 311 3 r4_0) fun v4 =>
  if v4 = (zi 8) then (nP (zi (-1))) else (nB (x0_in a1 (zi 1) (zi 255)) fun v17 =>
  if v17 = 0 then (nP (zi (-1))) else (nB (x0_in a2 (zi (-99)) (zi 99)) fun v28 =>
  if v28 = 0 then (nP (zi (-1))) else (nB (gR 4 0 a0) fun v37 =>
  nN v37 fun r40_0 =>
  nB (gR 320 3 r40_0) fun v40 =>
  nB (gR 4 0 a0) fun v44 =>
  nN v44 fun r47_0 =>
  nB (gI 311 3 r47_0) fun v47 =>
  nB (nO (19 + 1) 2) fun v50 =>
  nB (x19_init v50 a1 a2) fun _ =>
  nN v40 fun r59_2 =>
  nB (sR 8 19 r59_2 v47 v50) fun _ =>
  nB (gR 4 0 a0) fun v61 =>
  nN v61 fun r65_0 =>
  nB (gI 311 3 r65_0) fun v65 =>
  nB (pI 311 3 r65_0 (v65 + (zi 1))) fun _ =>
  nB (gR 4 0 a0) fun v74 =>
  nN v74 fun r77_0 =>
  nB (gI 311 3 r77_0) fun v77 =>
  nP (v77 - (zi 1)))))
def x0_picture_j23 (b0 : Nat) (b1 : Int32) (b2 : Int32) (b3 : Int32) : xN Int32 :=
  nB (x0_in b3 (zi 0) (33554431 : Int32)) fun v28 =>
  if v28 = 0 then (nP (zi 0)) else (if b1 = 0 then (nB (gR 4 0 b0) fun v57 =>
  nN v57 fun r60_0 =>
  nB (gR 312 3 r60_0) fun v60 =>
  nN v60 fun r64_1 =>
  nB (aR 5 r64_1 b2) fun v64 =>
  nN v64 fun r66_1 =>
  nB (pI 803 8 r66_1 b3) fun _ =>
  nP (zi 1)) else (nB (gR 4 0 b0) fun v41 =>
  nN v41 fun r44_0 =>
  nB (gR 313 3 r44_0) fun v44 =>
  nN v44 fun r48_1 =>
  nB (aR 6 r48_1 b2) fun v48 =>
  nN v48 fun r50_1 =>
  nB (pI 1406 14 r50_1 b3) fun _ =>
  nP (zi 1)))
def x0_picture (a0 : Nat) (a1 : Int32) (a2 : Int32) (a3 : Int32) : xN Int32 :=
  if a1 = 0 then (nK 0 a0 (nB (x0_isHouse a0 a2) fun v17 =>
  if v17 = 0 then (nP (zi 0)) else (x0_picture_j23 a0 a1 a2 a3))) else (nK 0 a0 (nB (x0_isPage a0 a2) fun v6 =>
  if v6 = 0 then (nP (zi 0)) else (x0_picture_j23 a0 a1 a2 a3)))
noncomputable def x0_presses_l9_j47 (b0 : Nat) (b2 : Int32) (b3 : Int32) (t0 : Int32) (t1 : Int32) : xN ((Int32 × Int32) ⊕ (Int32)) :=
  nE (t1 + t0) fun n48 =>
  nE (b3 + zi 1) fun n49 =>
  nP (Sum.inl (n48, n49))
noncomputable def x0_presses_l9 (f0 : Nat) (f2 : Int32) (s1 : Int32) (s3 : Int32) : xN ((Int32 × Int32) ⊕ (Int32)) :=
  nB (gR 4 0 f0) fun v11 =>
  nN v11 fun r14_0 =>
  nB (gI 311 3 r14_0) fun v14 =>
  if v14 ≤ s3 then (nP (Sum.inr s1)) else (nK 0 f0 (nB (x0_holdsIn f0 s3 f2) fun v24 =>
  if v24 = (zi (-1)) then (x0_presses_l9_j47 f0 f2 s3 (zi 0) s1) else (nB (gR 4 0 f0) fun v36 =>
  nN v36 fun r39_0 =>
  nB (gR 320 3 r39_0) fun v39 =>
  nN v39 fun r43_1 =>
  nB (aR 8 r43_1 s3) fun v43 =>
  nN v43 fun r44_0 =>
  nB (gI 1901 19 r44_0) fun v44 =>
  x0_presses_l9_j47 f0 f2 s3 v44 s1)))
noncomputable def x0_presses (a0 : Nat) : xN Int32 :=
  nK 0 a0 (nB (x0_sentences a0) fun v3 =>
  nB (nLp (fun s => x0_presses_l9 a0 v3 s.1 s.2) ((zi 0), (zi 0))) fun e9 =>
  nP e9)
def x9_init_18 (a0 : Nat) (a1 : Nat) (a2 : Int32) : xN Unit :=
  nB (pR 909 18 a0 (some a1)) fun _ =>
  nB (pI 900 18 a0 a2) fun _ =>
  nP ()
def x18_init (a0 : Nat) (a1 : Nat) (a2 : Int32) : xN Unit :=
  nB (pR 1811 18 a0 (some a1)) fun _ =>
  nB (x9_init_18 a0 a1 a2) fun _ =>
  nB (nO (15 + 1) 5) fun v12 =>
  nB (x15_init v12) fun _ =>
  nB (pR 1810 18 a0 (some v12)) fun _ =>
  nP ()
def x9_see_18 (a0 : Nat) : xN Int32 :=
  nB (gI 901 18 a0) fun v1 =>
  nB (gI 900 18 a0) fun v5 =>
  if v5 ≤ v1 then (nP (zi (-1))) else (nB (gR 909 18 a0) fun v12 =>
  nN v12 fun r15_0 =>
  nB (gR 4 0 r15_0) fun v15 =>
  nN v15 fun r18_0 =>
  nB (gR 300 3 r18_0) fun v18 =>
  nB (gI 901 18 a0) fun v22 =>
  nN v18 fun r25_1 =>
  nB (aI 1 r25_1 v22) fun v25 =>
  nP (v25 &&& (zi 255)))
noncomputable def x9_next_18_l0_j18 (b0 : Nat) : xN ((Unit) ⊕ (Unit)) :=
  nB (gI 901 18 b0) fun v20 =>
  nB (pI 901 18 b0 (v20 + (zi 1))) fun _ =>
  nP (Sum.inl ())
noncomputable def x9_next_18_l0 (f0 : Nat) : xN ((Unit) ⊕ (Unit)) :=
  nK 18 f0 (nB (x9_see_18 f0) fun v1 =>
  if v1 = (zi 10) then (x9_next_18_l0_j18 f0) else (nK 18 f0 (nB (x9_see_18 f0) fun v10 =>
  if v10 = (zi 32) then (x9_next_18_l0_j18 f0) else (nP (Sum.inr ())))))
noncomputable def x9_next_18_j286 (b0 : Nat) (t0 : Int32) (t1 : Nat) : xN Unit :=
  nB (pI 904 18 t1 t0) fun _ =>
  nB (gI 901 18 b0) fun v291 =>
  nB (pI 901 18 b0 (v291 + (zi 1))) fun _ =>
  nP ()
noncomputable def x9_next_18_j281 (b0 : Nat) (t0 : Nat) : xN Unit :=
  x9_next_18_j286 b0 (zi 4) t0
noncomputable def x9_next_18_l154_j196 (b0 : Nat) (b1 : Int32) (t0 : Int32) (t1 : Nat) : xN ((Int32) ⊕ (Int32)) :=
  nB (pI 906 18 t1 t0) fun _ =>
  nE (b1 + zi 1) fun n199 =>
  nB (gI 901 18 b0) fun v204 =>
  nB (pI 901 18 b0 (v204 + (zi 1))) fun _ =>
  nP (Sum.inl n199)
noncomputable def x9_next_18_l154 (f0 : Nat) (s1 : Int32) : xN ((Int32) ⊕ (Int32)) :=
  nK 18 f0 (nB (x9_see_18 f0) fun v155 =>
  nB (x0_in v155 (zi 48) (zi 57)) fun v162 =>
  if v162 = 0 then (nP (Sum.inr s1)) else (if (zi 4) ≤ s1 then (nB (gI 906 18 f0) fun v193 =>
  x9_next_18_l154_j196 f0 s1 v193 f0) else (nB (gI 906 18 f0) fun v177 =>
  nK 18 f0 (nB (x9_see_18 f0) fun v182 =>
  x9_next_18_l154_j196 f0 s1 ((((zi 10) * v177) + v182) - (zi 48)) f0))))
noncomputable def x9_next_18_j226 (t0 : Int32) (t1 : Nat) : xN Unit :=
  nB (pI 904 18 t1 t0) fun _ =>
  nP ()
noncomputable def x9_next_18_l71 (f0 : Nat) : xN ((Unit) ⊕ (Unit)) :=
  nK 18 f0 (nB (x9_see_18 f0) fun v72 =>
  nB (x0_in v72 (zi 97) (zi 122)) fun v79 =>
  if v79 = 0 then (nP (Sum.inr ())) else (nB (gL 903 18 f0) fun v87 =>
  nK 18 f0 (nB (x9_see_18 f0) fun v94 =>
  nB (pL 903 18 f0 ((v87 <<< (((zi 8)).toInt64 &&& 63)) ||| ((v94).toInt64))) fun _ =>
  nB (gI 902 18 f0) fun v104 =>
  nB (pI 902 18 f0 (v104 + (zi 1))) fun _ =>
  nB (gI 901 18 f0) fun v114 =>
  nB (pI 901 18 f0 (v114 + (zi 1))) fun _ =>
  nP (Sum.inl ()))))
noncomputable def x9_next_18 (a0 : Nat) : xN Unit :=
  nB (nLp (fun s => x9_next_18_l0 a0) ()) fun e0 =>
  nB (gI 901 18 a0) fun v33 =>
  nB (pI 905 18 a0 v33) fun _ =>
  nK 18 a0 (nB (x9_see_18 a0) fun v41 =>
  nB (pI 906 18 a0 v41) fun _ =>
  nB (gI 906 18 a0) fun v48 =>
  nB (x0_in v48 (zi 97) (zi 122)) fun v55 =>
  if v55 = 0 then (nB (gI 906 18 a0) fun v134 =>
  nB (x0_in v134 (zi 48) (zi 57)) fun v141 =>
  if v141 = 0 then (nB (gI 906 18 a0) fun v234 =>
  if v234 = (zi (-1)) then (x9_next_18_j286 a0 (zi 0) a0) else (nB (gI 906 18 a0) fun v246 =>
  if v246 = (zi 59) then (x9_next_18_j281 a0 a0) else (nB (gI 906 18 a0) fun v255 =>
  if v255 = (zi 40) then (x9_next_18_j281 a0 a0) else (nB (gI 906 18 a0) fun v264 =>
  if v264 = (zi 41) then (x9_next_18_j281 a0 a0) else (nB (gI 906 18 a0) fun v273 =>
  if v273 = (zi 60) then (x9_next_18_j281 a0 a0) else (x9_next_18_j286 a0 (zi 1) a0)))))) else (nB (pI 906 18 a0 (zi 0)) fun _ =>
  nB (nLp (fun s => x9_next_18_l154 a0 s) (zi 0)) fun e154 =>
  if e154 ≤ (zi 4) then (x9_next_18_j226 (zi 3) a0) else (x9_next_18_j226 (zi 1) a0))) else (nB (pL 903 18 a0 (0 : Int64)) fun _ =>
  nB (pI 902 18 a0 (zi 0)) fun _ =>
  nB (nLp (fun s => x9_next_18_l71 a0) ()) fun e71 =>
  nB (pI 904 18 a0 (zi 2)) fun _ =>
  nP ()))
noncomputable def x9_isWord_18_l26 (f0 : Nat) (f1 : Nat) (s2 : Int64) (s4 : Int32) : xN ((Int64 × Int32) ⊕ (Int64)) :=
  nS f1 (nB (xJ0_length f1) fun v29 =>
  if v29 ≤ s4 then (nP (Sum.inr s2)) else (nS f1 (nB (xJ0_charAt f1 s4) fun v42 =>
  nE ((s2 <<< (((zi 8)).toInt64 &&& 63)) ||| ((v42).toInt64)) fun n47 =>
  nE (s4 + zi 1) fun n48 =>
  nP (Sum.inl (n47, n48)))))
noncomputable def x9_isWord_18 (a0 : Nat) (a1 : Nat) : xN Int32 :=
  nB (gI 904 18 a0) fun v1 =>
  if v1 = (zi 2) then (nB (gI 902 18 a0) fun v9 =>
  nS a1 (nB (xJ0_length a1) fun v13 =>
  if v9 = v13 then (nB (nLp (fun s => x9_isWord_18_l26 a0 a1 s.1 s.2) ((0 : Int64), (zi 0))) fun e26 =>
  nB (gL 903 18 a0) fun v56 =>
  if (lg_cmp e26 v56) = 0 then (nP (zi 1)) else (nP (zi 0))) else (nP (zi 0)))) else (nP (zi 0))
def x9_wrong_18 (a0 : Nat) : xN Nat :=
  nB (nO 13 7) fun v0 =>
  nB (gI 905 18 a0) fun v5 =>
  nB (x12_init v0 v5) fun _ =>
  nP v0
def x9_note_18_j32 (b0 : Nat) (b1 : Int32) (b2 : Int32) : xN Unit :=
  nB (pI 907 18 b0 b1) fun _ =>
  nB (pI 908 18 b0 b2) fun _ =>
  nP ()
def x9_note_18 (a0 : Nat) (a1 : Int32) (a2 : Int32) : xN Unit :=
  nB (gI 907 18 a0) fun v1 =>
  if v1 ≤ 0 then (x9_note_18_j32 a0 a1 a2) else (nB (gI 908 18 a0) fun v8 =>
  if v8 < a2 then (nP ()) else (nB (gI 908 18 a0) fun v16 =>
  if v16 = a2 then (nB (gI 907 18 a0) fun v24 =>
  if a1 < v24 then (x9_note_18_j32 a0 a1 a2) else (nP ())) else (x9_note_18_j32 a0 a1 a2)))
noncomputable def x9_kind_18_l2 (f0 : Nat) (s1 : Int32) : xN ((Int32) ⊕ (Int32 ⊕ (Unit))) :=
  if (zi 8) ≤ s1 then (nP (Sum.inr (Sum.inr ()))) else (nB (gR 909 18 f0) fun v10 =>
  nN v10 fun r13_0 =>
  nB (gR 2 0 r13_0) fun v13 =>
  nN v13 fun r17_1 =>
  nB (aR 4 r17_1 s1) fun v17 =>
  nN v17 fun r18_0 =>
  nK 18 f0 (nB (x9_isWord_18 f0 r18_0) fun v18 =>
  if v18 = 0 then (nE (s1 + zi 1) fun n26 =>
  nP (Sum.inl n26)) else (nP (Sum.inr (Sum.inl s1)))))
noncomputable def x9_kind_18 (a0 : Nat) : xN Int32 :=
  nB (nLp (fun s => x9_kind_18_l2 a0 s) (zi 0)) (nD (fun e2 => nP e2)
  (fun e2 => nP (zi (-1))))
noncomputable def x9_pass_18 (a0 : Nat) (a1 : Nat) : xN (Unit ⊕ Nat) :=
  nK 18 a0 (nB (x9_isWord_18 a0 a1) fun v2 =>
  if v2 = 0 then (nK 18 a0 (nB (x9_wrong_18 a0) fun v9 =>
  nP (Sum.inr v9))) else (nK 18 a0 (nB (x9_next_18 a0) fun _ =>
  nP (Sum.inl ()))))
noncomputable def x9_number_18_j36 (b0 : Nat) (b2 : Int32) : xN (Int32 ⊕ Nat) :=
  nK 18 b0 (nB (x9_next_18 b0) fun _ =>
  nP (Sum.inl b2))
noncomputable def x9_number_18 (a0 : Nat) (a1 : Int32) : xN (Int32 ⊕ Nat) :=
  nB (gI 904 18 a0) fun v1 =>
  if v1 = (zi 3) then (nB (gI 906 18 a0) fun v14 =>
  nB (x0_in v14 (zi 0) a1) fun v21 =>
  if v21 = 0 then (nB (gI 905 18 a0) fun v30 =>
  nK 18 a0 (nB (x9_note_18 a0 (zi 2) v30) fun _ =>
  x9_number_18_j36 a0 v14)) else (x9_number_18_j36 a0 v14)) else (nK 18 a0 (nB (x9_wrong_18 a0) fun v9 =>
  nP (Sum.inr v9)))
noncomputable def x18_to (a0 : Nat) (a1 : Int32) : xN (Int32 ⊕ Nat) :=
  nB (gS 17) fun v1 =>
  nK 18 a0 (nB (x9_pass_18 a0 v1) (nD (fun _ =>
  nK 18 a0 (nB (x9_number_18 a0 a1) (nD (fun v8 =>
  nP (Sum.inl v8))
  (fun x8 => nP (Sum.inr x8)))))
  (fun x3 => nP (Sum.inr x3))))
def x9_isSign_18 (a0 : Nat) (a1 : Int32) : xN Int32 :=
  nB (gI 904 18 a0) fun v1 =>
  if v1 = (zi 4) then (nB (gI 906 18 a0) fun v9 =>
  if v9 = a1 then (nP (zi 1)) else (nP (zi 0))) else (nP (zi 0))
def x15_add_j54 (b0 : Nat) : xN Unit :=
  nB (gI 1504 15 b0) fun v56 =>
  nB (pI 1504 15 b0 (v56 + (zi 1))) fun _ =>
  nP ()
def x15_add (a0 : Nat) (a1 : Int32) (a2 : Int32) (a3 : Int32) (a4 : Int32) : xN Unit :=
  nB (gI 1504 15 a0) fun v1 =>
  if (zi 20) ≤ v1 then (x15_add_j54 a0) else (nB (gR 1500 15 a0) fun v10 =>
  nB (gI 1504 15 a0) fun v14 =>
  nN v10 fun r19_2 =>
  nB (sB r19_2 v14 ((a1).toInt8.toInt32)) fun _ =>
  nB (gR 1501 15 a0) fun v21 =>
  nB (gI 1504 15 a0) fun v25 =>
  nN v21 fun r30_2 =>
  nB (sB r30_2 v25 ((a2).toInt8.toInt32)) fun _ =>
  nB (gR 1502 15 a0) fun v32 =>
  nB (gI 1504 15 a0) fun v36 =>
  nN v32 fun r41_2 =>
  nB (sB r41_2 v36 ((a3).toInt8.toInt32)) fun _ =>
  nB (gR 1503 15 a0) fun v43 =>
  nB (gI 1504 15 a0) fun v47 =>
  nN v43 fun r53_2 =>
  nB (sB r53_2 v47 ((a4).toInt8.toInt32)) fun _ =>
  x15_add_j54 a0)
noncomputable def x18_line_l9 (f0 : Nat) (f2 : Int32) (f3 : Int32) (f4 : Int32) (s1 : Int32) : xN ((Int32) ⊕ (Int32)) :=
  nB (gR 1811 18 f0) fun v11 =>
  nN v11 fun r14_0 =>
  nB (gR 3 0 r14_0) fun v14 =>
  nN v14 fun r17_0 =>
  nB (aN r17_0) fun v17 =>
  if v17 ≤ s1 then (nP (Sum.inr s1)) else (nB (gR 1811 18 f0) fun v23 =>
  nN v23 fun r26_0 =>
  nB (gR 3 0 r26_0) fun v26 =>
  nN v26 fun r30_1 =>
  nB (aR 4 r30_1 s1) fun v30 =>
  nN v30 fun r31_0 =>
  nK 18 f0 (nB (x9_isWord_18 f0 r31_0) fun v31 =>
  if v31 = 0 then (nE (s1 + zi 1) fun n37 =>
  nP (Sum.inl n37)) else (nP (Sum.inr s1))))
noncomputable def x18_line_j258 (b0 : Nat) (b1 : Int32) (b2 : Int32) (b3 : Int32) (b4 : Int32) : xN (Unit ⊕ Nat) :=
  nK 18 b0 (nB (x9_isSign_18 b0 (zi 59)) fun v261 =>
  if v261 = 0 then (nK 18 b0 (nB (x9_wrong_18 b0) fun v268 =>
  nP (Sum.inr v268))) else (nK 18 b0 (nB (x9_next_18 b0) fun _ =>
  nB (gR 1810 18 b0) fun v277 =>
  nN v277 fun r285_4 =>
  nK 15 r285_4 (nB (x15_add r285_4 b1 b2 b3 b4) fun _ =>
  nP (Sum.inl ())))))
noncomputable def x18_line_j81 (b0 : Nat) (b1 : Int32) (b2 : Int32) (b3 : Int32) (b4 : Int32) : xN (Unit ⊕ Nat) :=
  nK 18 b0 (nB (x9_next_18 b0) fun _ =>
  if b1 = zi 0 then (nK 18 b0 (nB (x9_kind_18 b0) fun v125 =>
  if v125 = (zi (-1)) then (nK 18 b0 (nB (x9_wrong_18 b0) fun v135 =>
  nP (Sum.inr v135))) else (nK 18 b0 (nB (x9_next_18 b0) fun _ =>
  nK 18 b0 (nB (x18_to b0 (zi 5)) (nD (fun v145 =>
  x18_line_j258 b0 b1 v125 v145 b4)
  (fun x145 => nP (Sum.inr x145)))))))) else (if b1 = zi 1 then (nK 18 b0 (nB (x9_number_18 b0 (zi 5)) (nD (fun v154 =>
  nK 18 b0 (nB (x18_to b0 (zi 5)) (nD (fun v160 =>
  x18_line_j258 b0 b1 v154 v160 b4)
  (fun x160 => nP (Sum.inr x160)))))
  (fun x154 => nP (Sum.inr x154))))) else (if b1 = zi 2 then (nK 18 b0 (nB (x9_number_18 b0 (zi 99)) (nD (fun v170 =>
  nK 18 b0 (nB (x18_to b0 (zi 5)) (nD (fun v176 =>
  x18_line_j258 b0 b1 v170 v176 b4)
  (fun x176 => nP (Sum.inr x176)))))
  (fun x170 => nP (Sum.inr x170))))) else (if b1 = zi 3 then (nK 18 b0 (nB (x9_number_18 b0 (zi 5)) (nD (fun v185 =>
  nK 18 b0 (nB (x18_to b0 (zi 9)) (nD (fun v192 =>
  x18_line_j258 b0 b1 v185 v192 b4)
  (fun x192 => nP (Sum.inr x192)))))
  (fun x185 => nP (Sum.inr x185))))) else (if b1 = zi 4 then (nK 18 b0 (nB (x9_number_18 b0 (zi 5)) (nD (fun v201 =>
  nK 18 b0 (nB (x9_isSign_18 b0 (zi 60)) fun v208 =>
  if v208 = 0 then (nK 18 b0 (nB (x9_wrong_18 b0) fun v215 =>
  nP (Sum.inr v215))) else (nK 18 b0 (nB (x9_next_18 b0) fun _ =>
  nK 18 b0 (nB (x9_number_18 b0 (zi 99)) (nD (fun v226 =>
  nB (gS 18) fun v231 =>
  nK 18 b0 (nB (x9_pass_18 b0 v231) (nD (fun _ =>
  nK 18 b0 (nB (x9_number_18 b0 (zi 20)) (nD (fun v239 =>
  x18_line_j258 b0 b1 v201 v226 v239)
  (fun x239 => nP (Sum.inr x239)))))
  (fun x233 => nP (Sum.inr x233)))))
  (fun x226 => nP (Sum.inr x226))))))))
  (fun x201 => nP (Sum.inr x201))))) else (if b1 = zi 5 then (nK 18 b0 (nB (x9_number_18 b0 (zi 20)) (nD (fun v250 =>
  x18_line_j258 b0 b1 b2 b3 v250)
  (fun x250 => nP (Sum.inr x250))))) else (x18_line_j258 b0 b1 b2 b3 b4)))))))
noncomputable def x18_line (a0 : Nat) : xN (Unit ⊕ Nat) :=
  nB (nLp (fun s => x18_line_l9 a0 (zi 0) (zi 0) (zi 0) s) (zi 0)) fun e9 =>
  nB (gR 1811 18 a0) fun v45 =>
  nN v45 fun r48_0 =>
  nB (gR 3 0 r48_0) fun v48 =>
  nN v48 fun r51_0 =>
  nB (aN r51_0) fun v51 =>
  if e9 = v51 then (nK 18 a0 (nB (x9_wrong_18 a0) fun v56 =>
  nP (Sum.inr v56))) else (nB (gR 1810 18 a0) fun v61 =>
  nN v61 fun r64_0 =>
  nB (gI 1504 15 r64_0) fun v64 =>
  if v64 = (zi 20) then (nB (gI 905 18 a0) fun v75 =>
  nK 18 a0 (nB (x9_note_18 a0 (zi 3) v75) fun _ =>
  x18_line_j81 a0 e9 (zi 0) (zi 0) (zi 0))) else (x18_line_j81 a0 e9 (zi 0) (zi 0) (zi 0)))
noncomputable def x18_text_l4 (f0 : Nat) : xN ((Unit) ⊕ ((Unit) ⊕ Nat)) :=
  nB (gI 904 18 f0) fun v5 =>
  if v5 = 0 then (nP (Sum.inr (Sum.inl ()))) else (nK 18 f0 (nB (x18_line f0) (nD (fun _ =>
  nP (Sum.inl ()))
  (fun x12 => nP (Sum.inr (Sum.inr x12))))))
noncomputable def x18_text (a0 : Nat) : xN (Unit ⊕ Nat) :=
  nK 18 a0 (nB (x9_next_18 a0) fun _ =>
  nB (nLp (fun s => x18_text_l4 a0) ()) (nD (fun e4 => nP (Sum.inl ()))
  (fun x4 => nP (Sum.inr x4))))
noncomputable def x0_program_j33 (b0 : Nat) (t0 : Nat) : xN Int32 :=
  nB (wG t0) fun v39 =>
  nK 0 b0 (nB (x0_fails b0 (zi 1) v39) fun v42 =>
  nP v42)
noncomputable def x0_program (a0 : Nat) (a1 : Int32) : xN Int32 :=
  nK 0 a0 (nB (x0_take a0) fun v1 =>
  nK 0 a0 (nB (x0_isPage a0 a1) fun v7 =>
  if v7 = 0 then (nP (zi (-2))) else (nB (nO (18 + 1) 12) fun v16 =>
  nB (x18_init v16 a0 v1) fun _ =>
  nK 18 v16 (nB (x18_text v16) (nD (fun _ =>
  nB (gI 907 18 v16) fun v47 =>
  if v47 ≤ 0 then (nB (gR 4 0 a0) fun v67 =>
  nN v67 fun r70_0 =>
  nB (gR 313 3 r70_0) fun v70 =>
  nN v70 fun r74_1 =>
  nB (aR 6 r74_1 a1) fun v74 =>
  nB (gR 1810 18 v16) fun v76 =>
  nN v74 fun r79_1 =>
  nB (pR 1402 14 r79_1 v76) fun _ =>
  nB (gR 1810 18 v16) fun v83 =>
  nN v83 fun r86_0 =>
  nB (gI 1504 15 r86_0) fun v86 =>
  nP v86) else (nB (gI 907 18 v16) fun v55 =>
  nB (gI 908 18 v16) fun v59 =>
  nK 0 a0 (nB (x0_fails a0 v55 v59) fun v62 =>
  nP v62)))
  (fun x27 => nK 12 x27 (x0_program_j33 a0 x27)))))))
def x0_relay_j19 (b0 : Nat) (b1 : Int32) (b2 : Int32) : xN Int32 :=
  if b1 = b2 then (nP (zi 0)) else (nB (gR 4 0 b0) fun v27 =>
  nN v27 fun r30_0 =>
  nB (gR 316 3 r30_0) fun v30 =>
  nN v30 fun r35_2 =>
  nB (sI r35_2 b1 b2) fun _ =>
  nP (zi 1))
def x0_relay (a0 : Nat) (a1 : Int32) (a2 : Int32) : xN Int32 :=
  nB (x0_isAddress a1) fun v1 =>
  if v1 = 0 then (nP (zi 0)) else (if a2 = (zi (-1)) then (x0_relay_j19 a0 a1 a2) else (nB (x0_isAddress a2) fun v13 =>
  if v13 = 0 then (nP (zi 0)) else (x0_relay_j19 a0 a1 a2)))
noncomputable def x0_ring_l55_j112 (b0 : Nat) (b2 : Int32) (b3 : Int32) (b4 : Int32) (b5 : Int32) (b6 : Int32) (t0 : Int32) : xN ((Int32 × Int32) ⊕ (Int32)) :=
  if b5 = b6 then (nE (b6 + zi 1) fun n156 =>
  nP (Sum.inl (b3, n156))) else (if t0 = 0 then (nE (b6 + zi 1) fun n156 =>
  nP (Sum.inl (b3, n156))) else (nK 0 b0 (nB (x0_waysOf b0 b5 b6) fun v131 =>
  nK 0 b0 (nB (x0_dealsOf b0 b6) fun v141 =>
  if 0 < (lg_cmp (((v131).toInt64) * ((b2).toInt64)) ((v141).toInt64)) then (nE (b6 + zi 1) fun n156 =>
  nP (Sum.inl (b3, n156))) else (nE (b3 ||| ((zi 1) <<< (b6 &&& 31))) fun n155 =>
  nE (b6 + zi 1) fun n156 =>
  nP (Sum.inl (n155, n156)))))))
noncomputable def x0_ring_l55 (f0 : Nat) (f2 : Int32) (f4 : Int32) (f5 : Int32) (s3 : Int32) (s6 : Int32) : xN ((Int32 × Int32) ⊕ (Int32)) :=
  nB (gR 4 0 f0) fun v58 =>
  nN v58 fun r61_0 =>
  nB (gI 305 3 r61_0) fun v61 =>
  if v61 ≤ s6 then (nP (Sum.inr s3)) else (if ((f4 >>> (f5 &&& 31)) &&& (zi 1)) = 0 then (nP (Sum.inr s3)) else (nB (gR 4 0 f0) fun v78 =>
  nN v78 fun r81_0 =>
  nB (gR 313 3 r81_0) fun v81 =>
  nN v81 fun r86_1 =>
  nB (aR 6 r86_1 f5) fun v86 =>
  nN v86 fun r87_0 =>
  nB (gI 1404 14 r87_0) fun v87 =>
  nB (gR 4 0 f0) fun v91 =>
  nN v91 fun r94_0 =>
  nB (gR 313 3 r94_0) fun v94 =>
  nN v94 fun r99_1 =>
  nB (aR 6 r99_1 s6) fun v99 =>
  nN v99 fun r100_0 =>
  nB (gI 1404 14 r100_0) fun v100 =>
  if (v87 &&& v100) = 0 then (x0_ring_l55_j112 f0 f2 s3 f4 f5 s6 (zi 0)) else (x0_ring_l55_j112 f0 f2 s3 f4 f5 s6 (zi 1))))
noncomputable def x0_ring_l40 (f0 : Nat) (f2 : Int32) (f4 : Int32) (s3 : Int32) (s5 : Int32) : xN ((Int32 × Int32) ⊕ (Int32)) :=
  nB (gR 4 0 f0) fun v43 =>
  nN v43 fun r46_0 =>
  nB (gI 305 3 r46_0) fun v46 =>
  if v46 ≤ s5 then (nP (Sum.inr s3)) else (nB (nLp (fun s => x0_ring_l55 f0 f2 f4 s5 s.1 s.2) (s3, (zi 0))) fun e55 =>
  nE (s5 + zi 1) fun n162 =>
  nP (Sum.inl (e55, n162)))
noncomputable def x0_ring_l28 (f0 : Nat) (f2 : Int32) (s3 : Int32) (s4 : Int32) : xN ((Int32 × Int32) ⊕ (Int32)) :=
  if s3 = s4 then (nP (Sum.inr s3)) else (nB (nLp (fun s => x0_ring_l40 f0 f2 s3 s.1 s.2) (s3, (zi 0))) fun e40 =>
  nP (Sum.inl (e40, s3)))
noncomputable def x0_ring (a0 : Nat) (a1 : Int32) (a2 : Int32) : xN Int32 :=
  nK 0 a0 (nB (x0_isPage a0 a1) fun v2 =>
  if v2 = 0 then (nP (zi (-1))) else (nB (x0_in a2 (zi 1) (zi 9999)) fun v13 =>
  if v13 = 0 then (nP (zi (-1))) else (nE ((zi 1) <<< (a1 &&& 31)) fun n24 =>
  nB (nLp (fun s => x0_ring_l28 a0 a2 s.1 s.2) (n24, (zi 0))) fun e28 =>
  nP e28)))
noncomputable def x0_signsOf (a0 : Nat) (a1 : Int32) (a2 : Int32) (a3 : Int32) : xN Int32 :=
  nK 0 a0 (nB (x0_lookOf a0 a1 a2 a3) fun v4 =>
  nB (gR 4 0 a0) fun v8 =>
  nN v8 fun r11_0 =>
  nB (gR 313 3 r11_0) fun v11 =>
  nN v11 fun r15_1 =>
  nB (aR 6 r15_1 a1) fun v15 =>
  nB (gR 4 0 a0) fun v17 =>
  nN v17 fun r20_0 =>
  nB (gR 313 3 r20_0) fun v20 =>
  nN v20 fun r24_1 =>
  nB (aR 6 r24_1 a1) fun v24 =>
  nN v24 fun r26_1 =>
  nK 14 r26_1 (nB (x14_age r26_1 a3) fun v26 =>
  nB (gR 4 0 a0) fun v30 =>
  nN v30 fun r33_0 =>
  nB (gI 307 3 r33_0) fun v33 =>
  nB (gR 4 0 a0) fun v37 =>
  nN v37 fun r40_0 =>
  nB (gI 308 3 r40_0) fun v40 =>
  nB (gR 4 0 a0) fun v44 =>
  nN v44 fun r47_0 =>
  nB (gI 309 3 r47_0) fun v47 =>
  nN v15 fun r50_4 =>
  nK 4 v4 (nB (x4_signs v4 r50_4 v26 v33 v40 v47) fun v50 =>
  nP v50)))
noncomputable def x0_say (a0 : Nat) (a1 : Int32) (a2 : Int32) (a3 : Int32) : xN Int32 :=
  nK 0 a0 (nB (x0_isSeen a0 a1 a2 a3) fun v4 =>
  if v4 = 0 then (nP (zi (-1))) else (nK 0 a0 (nB (x0_signsOf a0 a1 a2 a3) fun v14 =>
  nB (x0_say_2 v14) fun v17 =>
  nP v17)))
def x6_set (a0 : Nat) (a1 : Int32) (a2 : Int32) (a3 : Int32) : xN Unit :=
  nB (gR 600 6 a0) fun v1 =>
  nN v1 fun r6_2 =>
  nB (sI r6_2 a1 a2) fun _ =>
  nB (gR 601 6 a0) fun v8 =>
  nN v8 fun r13_2 =>
  nB (sI r13_2 a1 a3) fun _ =>
  nP ()
noncomputable def x6_run_l2 (f0 : Nat) (f1 : Nat) (f2 : Int32) (s3 : Int32) : xN ((Int32) ⊕ (Unit)) :=
  if (zi 6) ≤ s3 then (nP (Sum.inr ())) else (nK 6 f0 (nB (x6_set f0 s3 (zi 0) (zi 0)) fun _ =>
  nE (s3 + zi 1) fun n15 =>
  nP (Sum.inl n15)))
noncomputable def x6_run_l23 (f0 : Nat) (f1 : Nat) (f2 : Int32) (s3 : Int32) : xN ((Int32) ⊕ (Unit)) :=
  if (zi 10) ≤ s3 then (nP (Sum.inr ())) else (nB (gR 602 6 f0) fun v30 =>
  nN v30 fun r35_2 =>
  nB (sI r35_2 s3 (zi 0)) fun _ =>
  nE (s3 + zi 1) fun n36 =>
  nP (Sum.inl n36))
noncomputable def x6_run_l49_j278 (b0 : Nat) (b1 : Nat) (b2 : Int32) (b3 : Int32) : xN ((Int32) ⊕ (Unit ⊕ (Unit))) :=
  nP (Sum.inl b3)
noncomputable def x6_run_l49_j149 (b0 : Nat) (b1 : Nat) (b2 : Int32) (b4 : Int32) (b5 : Int32) (b6 : Int32) (t0 : Int32) : xN ((Int32) ⊕ (Unit ⊕ (Unit))) :=
  if b6 = (zi 6) then (nP (Sum.inr (Sum.inl ()))) else (if b6 = 0 then (nK 6 b0 (nB (x6_set b0 b5 (((b2 * (b4 + (zi 1))) + (zi 7)) - ((b2 * (b4 + (zi 1))) + (zi 7)) / (zi 100) * (zi 100)) ((zi 1) <<< (b4 &&& 31))) fun _ =>
  x6_run_l49_j278 b0 b1 b2 t0)) else (if b6 = (zi 1) then (nB (gR 600 6 b0) fun v199 =>
  nN v199 fun r204_1 =>
  nB (aI 0 r204_1 b4) fun v204 =>
  nB (gR 600 6 b0) fun v206 =>
  nN v206 fun r211_1 =>
  nB (aI 0 r211_1 b5) fun v211 =>
  nB (gR 601 6 b0) fun v217 =>
  nN v217 fun r222_1 =>
  nB (aI 0 r222_1 b4) fun v222 =>
  nB (gR 601 6 b0) fun v224 =>
  nN v224 fun r229_1 =>
  nB (aI 0 r229_1 b5) fun v229 =>
  nK 6 b0 (nB (x6_set b0 b5 ((v204 + v211) - (v204 + v211) / (zi 100) * (zi 100)) (v222 ||| v229)) fun _ =>
  x6_run_l49_j278 b0 b1 b2 t0)) else (if b6 = (zi 2) then (nK 6 b0 (nB (x6_set b0 b5 b4 (zi 0)) fun _ =>
  x6_run_l49_j278 b0 b1 b2 t0)) else (if b6 = (zi 3) then (nB (gR 602 6 b0) fun v262 =>
  nN v262 fun r268_1 =>
  nB (aI 0 r268_1 b5) fun v268 =>
  nB (gR 601 6 b0) fun v270 =>
  nN v270 fun r275_1 =>
  nB (aI 0 r275_1 b4) fun v275 =>
  nB (sI r268_1 b5 (v268 ||| v275)) fun _ =>
  x6_run_l49_j278 b0 b1 b2 t0) else (x6_run_l49_j278 b0 b1 b2 t0)))))
noncomputable def x6_run_l49_j130 (b0 : Nat) (b1 : Nat) (b2 : Int32) (b3 : Int32) (b4 : Int32) (b5 : Int32) (b6 : Int32) (t0 : Int32) : xN ((Int32) ⊕ (Unit ⊕ (Unit))) :=
  if t0 = 0 then (x6_run_l49_j149 b0 b1 b2 b4 b5 b6 (b3 + (zi 1))) else (nB (gR 1503 15 b1) fun v138 =>
  nN v138 fun r142_1 =>
  nB (aI 1 r142_1 b3) fun v142 =>
  x6_run_l49_j149 b0 b1 b2 b4 b5 b6 v142)
noncomputable def x6_run_l49_j125 (b0 : Nat) (b1 : Nat) (b2 : Int32) (b3 : Int32) (b4 : Int32) (b5 : Int32) (b6 : Int32) : xN ((Int32) ⊕ (Unit ⊕ (Unit))) :=
  x6_run_l49_j130 b0 b1 b2 b3 b4 b5 b6 (zi 1)
noncomputable def x6_run_l49_j129 (b0 : Nat) (b1 : Nat) (b2 : Int32) (b3 : Int32) (b4 : Int32) (b5 : Int32) (b6 : Int32) : xN ((Int32) ⊕ (Unit ⊕ (Unit))) :=
  x6_run_l49_j130 b0 b1 b2 b3 b4 b5 b6 (zi 0)
noncomputable def x6_run_l49 (f0 : Nat) (f1 : Nat) (f2 : Int32) (s3 : Int32) : xN ((Int32) ⊕ (Unit ⊕ (Unit))) :=
  nB (gI 1504 15 f1) fun v51 =>
  if v51 ≤ s3 then (nP (Sum.inr (Sum.inr ()))) else (nB (gI 603 6 f0) fun v58 =>
  if (zi 200) ≤ v58 then (nP (Sum.inr (Sum.inr ()))) else (nB (gR 1501 15 f1) fun v68 =>
  nN v68 fun r72_1 =>
  nB (aI 1 r72_1 s3) fun v72 =>
  nB (gR 1502 15 f1) fun v76 =>
  nN v76 fun r80_1 =>
  nB (aI 1 r80_1 s3) fun v80 =>
  nB (gR 1500 15 f1) fun v84 =>
  nN v84 fun r88_1 =>
  nB (aI 1 r88_1 s3) fun v88 =>
  nB (gI 603 6 f0) fun v93 =>
  nB (pI 603 6 f0 (v93 + (zi 1))) fun _ =>
  if v88 = (zi 5) then (x6_run_l49_j125 f0 f1 f2 s3 v72 v80 v88) else (if v88 = (zi 4) then (nB (gR 600 6 f0) fun v114 =>
  nN v114 fun r119_1 =>
  nB (aI 0 r119_1 v72) fun v119 =>
  if v80 ≤ v119 then (x6_run_l49_j129 f0 f1 f2 s3 v72 v80 v88) else (x6_run_l49_j125 f0 f1 f2 s3 v72 v80 v88)) else (x6_run_l49_j129 f0 f1 f2 s3 v72 v80 v88))))
noncomputable def x6_run (a0 : Nat) (a1 : Nat) (a2 : Int32) : xN Nat :=
  nB (nLp (fun s => x6_run_l2 a0 a1 a2 s) (zi 0)) fun e2 =>
  nB (nLp (fun s => x6_run_l23 a0 a1 a2 s) (zi 0)) fun e23 =>
  nB (pI 603 6 a0 (zi 0)) fun _ =>
  nB (nLp (fun s => x6_run_l49 a0 a1 a2 s) (zi 0)) (nD (fun e49 => nP a0)
  (fun e49 => nP a0))
noncomputable def x0_sent (a0 : Nat) (a1 : Int32) (a2 : Int32) (a3 : Int32) : xN Int32 :=
  nK 0 a0 (nB (x0_isPage a0 a1) fun v2 =>
  if v2 = 0 then (nP (zi (-1))) else (nB (x0_isMade a2) fun v9 =>
  if v9 = 0 then (nP (zi (-1))) else (nB (x0_isAddress a3) fun v16 =>
  if v16 = 0 then (nP (zi (-1))) else (nB (gR 15 0 a0) fun v23 =>
  nB (gR 4 0 a0) fun v27 =>
  nN v27 fun r30_0 =>
  nB (gR 313 3 r30_0) fun v30 =>
  nN v30 fun r34_1 =>
  nB (aR 6 r34_1 a1) fun v34 =>
  nN v34 fun r35_0 =>
  nB (gR 1402 14 r35_0) fun v35 =>
  nN v35 fun r39_1 =>
  nN v23 fun r39_2 =>
  nK 6 r39_2 (nB (x6_run r39_2 r39_1 a2) fun v39 =>
  nB (gR 602 6 v39) fun v42 =>
  nN v42 fun r46_1 =>
  nB (aI 0 r46_1 a3) fun v46 =>
  nP v46)))))
noncomputable def x0_sentence (a0 : Nat) (a1 : Int32) : xN Int32 :=
  nK 0 a0 (nB (x0_sentences a0) fun v3 =>
  nB (x0_in a1 (zi 0) (v3 - (zi 1))) fun v8 =>
  if v8 = 0 then (nP (zi (-1))) else (nB (gR 16 0 a0) fun v15 =>
  nN v15 fun r19_1 =>
  nB (aI 0 r19_1 a1) fun v19 =>
  nP v19))
noncomputable def x0_signs (a0 : Nat) (a1 : Int32) (a2 : Int32) (a3 : Int32) : xN Int32 :=
  nK 0 a0 (nB (x0_isSeen a0 a1 a2 a3) fun v4 =>
  if v4 = 0 then (nP (zi (-1))) else (nK 0 a0 (nB (x0_signsOf a0 a1 a2 a3) fun v14 =>
  nP v14)))
noncomputable def x0_sketch (a0 : Nat) (a1 : Int32) (a2 : Int32) : xN Int32 :=
  nK 0 a0 (nB (x0_isPage a0 a1) fun v2 =>
  if v2 = 0 then (nP (zi (-1))) else (nB (x0_in a2 (zi 0) (zi 16)) fun v12 =>
  if v12 = 0 then (nP (zi (-1))) else (nB (gR 4 0 a0) fun v19 =>
  nN v19 fun r22_0 =>
  nB (gR 313 3 r22_0) fun v22 =>
  nN v22 fun r26_1 =>
  nB (aR 6 r26_1 a1) fun v26 =>
  nN v26 fun r27_0 =>
  nB (gR 1400 14 r27_0) fun v27 =>
  nN v27 fun r30_0 =>
  nK 11 r30_0 (nB (x11_sketch r30_0) fun v30 =>
  nP (v30 &&& (((zi 1) <<< (a2 &&& 31)) - (zi 1)))))))
def x0_turn (a0 : Nat) (a1 : Int32) (a2 : Int32) : xN Int32 :=
  if a1 = a2 then (nP (zi 0)) else (nB (gR 4 0 a0) fun v8 =>
  nN v8 fun r11_0 =>
  nB (gR 322 3 r11_0) fun v11 =>
  nB (x0_sign a1) fun v17 =>
  nB (x0_sign a2) fun v22 =>
  nN v11 fun r26_1 =>
  nB (aI 1 r26_1 (((zi 36) * v17) + v22)) fun v26 =>
  if v26 = 0 then (nP (zi 6)) else (nP v26))
noncomputable def x0_spellOf_l16_j203 (b0 : Nat) (b1 : Nat) (b2 : Nat) (b3 : Int32) (b4 : Int32) (b5 : Int32) (b6 : Int32) (b7 : Int32) : xN ((Int32) ⊕ (Unit)) :=
  nB (gR 6 0 b0) fun v204 =>
  nN v204 fun r211_2 =>
  nB (sI r211_2 b6 b7) fun _ =>
  nE (b5 + zi 1) fun n212 =>
  nP (Sum.inl n212)
noncomputable def x0_spellOf_l16_j139 (b0 : Nat) (b1 : Nat) (b2 : Nat) (b3 : Int32) (b4 : Int32) (b5 : Int32) (b6 : Int32) (b7 : Int32) : xN ((Int32) ⊕ (Unit)) :=
  if b4 ≤ (zi 1) then (x0_spellOf_l16_j203 b0 b1 b2 b3 b4 b5 b6 b7) else (if b5 ≤ (zi 1) then (x0_spellOf_l16_j203 b0 b1 b2 b3 b4 b5 b6 b7) else (nB (aI 1 b1 (b4 - (zi 1))) fun v156 =>
  nB (aI 1 b2 (b5 - (zi 2))) fun v162 =>
  if v156 = v162 then (nB (aI 1 b1 (b4 - (zi 2))) fun v171 =>
  nB (aI 1 b2 (b5 - (zi 1))) fun v177 =>
  if v171 = v177 then (nB (gR 6 0 b0) fun v184 =>
  nN v184 fun r195_1 =>
  nB (aI 0 r195_1 ((b6 - ((zi 2) * b3)) - (zi 2))) fun v195 =>
  nE (if (v195 + (zi 3)) < b7 then (v195 + (zi 3)) else b7) fun n198 =>
  x0_spellOf_l16_j203 b0 b1 b2 b3 b4 b5 b6 n198) else (x0_spellOf_l16_j203 b0 b1 b2 b3 b4 b5 b6 b7)) else (x0_spellOf_l16_j203 b0 b1 b2 b3 b4 b5 b6 b7)))
noncomputable def x0_spellOf_l16_j94 (b0 : Nat) (b1 : Nat) (b2 : Nat) (b3 : Int32) (b4 : Int32) (b5 : Int32) (b6 : Int32) (b7 : Int32) : xN ((Int32) ⊕ (Unit)) :=
  if b4 ≤ 0 then (x0_spellOf_l16_j139 b0 b1 b2 b3 b4 b5 b6 b7) else (if b5 ≤ 0 then (x0_spellOf_l16_j139 b0 b1 b2 b3 b4 b5 b6 b7) else (nB (gR 6 0 b0) fun v107 =>
  nN v107 fun r116_1 =>
  nB (aI 0 r116_1 ((b6 - b3) - (zi 1))) fun v116 =>
  nB (aI 1 b1 (b4 - (zi 1))) fun v123 =>
  nB (aI 1 b2 (b5 - (zi 1))) fun v129 =>
  nK 0 b0 (nB (x0_turn b0 v123 v129) fun v130 =>
  nE (if (v116 + v130) < b7 then (v116 + v130) else b7) fun n134 =>
  x0_spellOf_l16_j139 b0 b1 b2 b3 b4 b5 b6 n134)))
noncomputable def x0_spellOf_l16_j71 (b0 : Nat) (b1 : Nat) (b2 : Nat) (b3 : Int32) (b4 : Int32) (b5 : Int32) (b6 : Int32) (b7 : Int32) : xN ((Int32) ⊕ (Unit)) :=
  if b5 ≤ 0 then (x0_spellOf_l16_j94 b0 b1 b2 b3 b4 b5 b6 b7) else (nB (gR 6 0 b0) fun v79 =>
  nN v79 fun r86_1 =>
  nB (aI 0 r86_1 (b6 - (zi 1))) fun v86 =>
  nE (if (v86 + (zi 4)) < b7 then (v86 + (zi 4)) else b7) fun n89 =>
  x0_spellOf_l16_j94 b0 b1 b2 b3 b4 b5 b6 n89)
noncomputable def x0_spellOf_l16_j46 (b0 : Nat) (b1 : Nat) (b2 : Nat) (b3 : Int32) (b4 : Int32) (b5 : Int32) (b6 : Int32) (t0 : Int32) : xN ((Int32) ⊕ (Unit)) :=
  if b4 ≤ 0 then (x0_spellOf_l16_j71 b0 b1 b2 b3 b4 b5 b6 t0) else (nB (gR 6 0 b0) fun v56 =>
  nN v56 fun r63_1 =>
  nB (aI 0 r63_1 (b6 - b3)) fun v63 =>
  nE (if (v63 + (zi 4)) < t0 then (v63 + (zi 4)) else t0) fun n66 =>
  x0_spellOf_l16_j71 b0 b1 b2 b3 b4 b5 b6 n66)
noncomputable def x0_spellOf_l16 (f0 : Nat) (f1 : Nat) (f2 : Nat) (f3 : Int32) (f4 : Int32) (s5 : Int32) : xN ((Int32) ⊕ (Unit)) :=
  nB (aN f2) fun v19 =>
  if v19 < s5 then (nP (Sum.inr ())) else (nE ((f3 * f4) + s5) fun n30 =>
  if (f4 + s5) = 0 then (x0_spellOf_l16_j46 f0 f1 f2 f3 f4 s5 n30 (zi 0)) else (x0_spellOf_l16_j46 f0 f1 f2 f3 f4 s5 n30 (100000 : Int32)))
noncomputable def x0_spellOf_l6 (f0 : Nat) (f1 : Nat) (f2 : Nat) (f3 : Int32) (s4 : Int32) : xN ((Int32) ⊕ (Unit)) :=
  nB (aN f1) fun v9 =>
  if v9 < s4 then (nP (Sum.inr ())) else (nB (nLp (fun s => x0_spellOf_l16 f0 f1 f2 f3 s4 s) (zi 0)) fun e16 =>
  nE (s4 + zi 1) fun n218 =>
  nP (Sum.inl n218))
noncomputable def x0_spellOf (a0 : Nat) (a1 : Nat) (a2 : Nat) : xN Int32 :=
  nB (nLp (fun s => x0_spellOf_l6 a0 a1 a2 (zi 13) s) (zi 0)) fun e6 =>
  nB (gR 6 0 a0) fun v225 =>
  nB (aN a1) fun v230 =>
  nB (aN a2) fun v233 =>
  nN v225 fun r235_1 =>
  nB (aI 0 r235_1 (((zi 13) * v230) + v233)) fun v235 =>
  nP v235
noncomputable def x0_spell (a0 : Nat) (a1 : Int32) (a2 : Int32) : xN Int32 :=
  nK 0 a0 (nB (x0_isPage a0 a1) fun v2 =>
  if v2 = 0 then (nP (zi (-1))) else (nK 0 a0 (nB (x0_isHouse a0 a2) fun v10 =>
  if v10 = 0 then (nP (zi (-1))) else (nB (gR 4 0 a0) fun v17 =>
  nN v17 fun r20_0 =>
  nB (gR 313 3 r20_0) fun v20 =>
  nN v20 fun r24_1 =>
  nB (aR 6 r24_1 a1) fun v24 =>
  nN v24 fun r25_0 =>
  nB (gR 1401 14 r25_0) fun v25 =>
  nN v25 fun r28_0 =>
  nB (aN r28_0) fun v28 =>
  if v28 = 0 then (nP (zi (-1))) else (nB (gR 4 0 a0) fun v36 =>
  nN v36 fun r39_0 =>
  nB (gR 313 3 r39_0) fun v39 =>
  nN v39 fun r43_1 =>
  nB (aR 6 r43_1 a1) fun v43 =>
  nN v43 fun r44_0 =>
  nB (gR 1401 14 r44_0) fun v44 =>
  nB (gR 4 0 a0) fun v48 =>
  nN v48 fun r51_0 =>
  nB (gR 312 3 r51_0) fun v51 =>
  nN v51 fun r55_1 =>
  nB (aR 5 r55_1 a2) fun v55 =>
  nN v55 fun r56_0 =>
  nB (gR 800 8 r56_0) fun v56 =>
  nN v56 fun r59_0 =>
  nN v44 fun r59_1 =>
  nK 0 a0 (nB (x0_spellOf a0 r59_1 r59_0) fun v59 =>
  nP v59))))))
def x0_stands (a0 : Nat) (a1 : Int32) (a2 : Int32) (a3 : Int32) : xN Int32 :=
  nK 0 a0 (nB (x0_isPage a0 a1) fun v2 =>
  if v2 = 0 then (nP (zi 0)) else (nB (x0_isDay a2) fun v9 =>
  if v9 = 0 then (nP (zi 0)) else (nB (x0_in a3 (zi 0) (1048575 : Int32)) fun v19 =>
  if v19 = 0 then (nP (zi 0)) else (nB (gR 4 0 a0) fun v28 =>
  nN v28 fun r31_0 =>
  nB (gR 313 3 r31_0) fun v31 =>
  nN v31 fun r35_1 =>
  nB (aR 6 r35_1 a1) fun v35 =>
  nN v35 fun r37_1 =>
  nB (pI 1403 14 r37_1 a2) fun _ =>
  nB (gR 4 0 a0) fun v41 =>
  nN v41 fun r44_0 =>
  nB (gR 313 3 r44_0) fun v44 =>
  nN v44 fun r48_1 =>
  nB (aR 6 r48_1 a1) fun v48 =>
  nN v48 fun r50_1 =>
  nB (pI 1404 14 r50_1 a3) fun _ =>
  nP (zi 1)))))
noncomputable def x0_steps (a0 : Nat) (a1 : Int32) (a2 : Int32) : xN Int32 :=
  nK 0 a0 (nB (x0_isPage a0 a1) fun v2 =>
  if v2 = 0 then (nP (zi (-1))) else (nB (x0_isMade a2) fun v9 =>
  if v9 = 0 then (nP (zi (-1))) else (nB (gR 15 0 a0) fun v16 =>
  nB (gR 4 0 a0) fun v20 =>
  nN v20 fun r23_0 =>
  nB (gR 313 3 r23_0) fun v23 =>
  nN v23 fun r27_1 =>
  nB (aR 6 r27_1 a1) fun v27 =>
  nN v27 fun r28_0 =>
  nB (gR 1402 14 r28_0) fun v28 =>
  nN v28 fun r32_1 =>
  nN v16 fun r32_2 =>
  nK 6 r32_2 (nB (x6_run r32_2 r32_1 a2) fun v32 =>
  nB (gI 603 6 v32) fun v35 =>
  nP v35))))
noncomputable def x0_strange_l38 (f0 : Nat) (f2 : Int32) (f3 : Int32) (s1 : Int32) (s4 : Int32) : xN ((Int32 × Int32) ⊕ (Int32)) :=
  if f2 ≤ s4 then (nP (Sum.inr s1)) else (nB (gR 0 0 f0) fun v45 =>
  nN v45 fun r48_0 =>
  nB (gR 102 1 r48_0) fun v48 =>
  nB (gR 4 0 f0) fun v52 =>
  nN v52 fun r55_0 =>
  nB (gR 312 3 r55_0) fun v55 =>
  nN v55 fun r59_1 =>
  nB (aR 5 r59_1 f2) fun v59 =>
  nN v59 fun r60_0 =>
  nB (gR 801 8 r60_0) fun v60 =>
  nN v60 fun r64_1 =>
  nB (aR 10 r64_1 f3) fun v64 =>
  nB (gR 1 0 f0) fun v69 =>
  nN v69 fun r72_0 =>
  nN v64 fun r72_4 =>
  nN v48 fun r72_5 =>
  nK 2 r72_5 (nB (x2_open r72_5 r72_4 (zi 0) (zi 0) (zi 0) r72_0) fun v72 =>
  nK 0 f0 (nB (x0_lookAt f0 s4 (zi 0) (zi 0)) fun v82 =>
  nE (if v82 < s1 then v82 else s1) fun n85 =>
  nE (s4 + zi 1) fun n89 =>
  nP (Sum.inl (n85, n89)))))
noncomputable def x0_strange_l19 (f0 : Nat) (f2 : Int32) (s1 : Int32) (s3 : Int32) : xN ((Int32 × Int32) ⊕ (Int32)) :=
  nB (gR 4 0 f0) fun v21 =>
  nN v21 fun r24_0 =>
  nB (gR 312 3 r24_0) fun v24 =>
  nN v24 fun r28_1 =>
  nB (aR 5 r28_1 f2) fun v28 =>
  nN v28 fun r29_0 =>
  nB (gI 802 8 r29_0) fun v29 =>
  if v29 ≤ s3 then (nP (Sum.inr s1)) else (nB (nLp (fun s => x0_strange_l38 f0 f2 s3 s.1 s.2) (s1, (zi 0))) fun e38 =>
  nE (s3 + zi 1) fun n95 =>
  nP (Sum.inl (e38, n95)))
noncomputable def x0_strange_l6 (f0 : Nat) (s1 : Int32) (s2 : Int32) : xN ((Int32 × Int32) ⊕ (Int32)) :=
  nB (gR 4 0 f0) fun v8 =>
  nN v8 fun r11_0 =>
  nB (gI 304 3 r11_0) fun v11 =>
  if v11 ≤ s2 then (nP (Sum.inr s1)) else (nB (nLp (fun s => x0_strange_l19 f0 s2 s.1 s.2) (s1, (zi 0))) fun e19 =>
  nE (s2 + zi 1) fun n101 =>
  nP (Sum.inl (e19, n101)))
noncomputable def x0_strange (a0 : Nat) : xN Int32 :=
  nB (nLp (fun s => x0_strange_l6 a0 s.1 s.2) ((zi 999), (zi 0))) fun e6 =>
  if e6 = (zi 999) then (nP (zi (-1))) else (nP e6)
noncomputable def x0_takenBy_l27_j83 (b0 : Nat) (b3 : Int32) (b5 : Int32) (t0 : Int32) (t1 : Int32) : xN ((Int32 × Int32) ⊕ (Int32)) :=
  nE (t1 ||| t0) fun n84 =>
  nE (b5 + zi 1) fun n86 =>
  nP (Sum.inl (n84, n86))
noncomputable def x0_takenBy_l27_j69 (b0 : Nat) (b3 : Int32) (b5 : Int32) (t0 : Int32) : xN ((Int32 × Int32) ⊕ (Int32)) :=
  nB (gR 15 0 b0) fun v70 =>
  nN v70 fun r73_0 =>
  nB (gR 602 6 r73_0) fun v73 =>
  nN v73 fun r78_1 =>
  nB (aI 0 r78_1 b5) fun v78 =>
  x0_takenBy_l27_j83 b0 b3 b5 v78 t0
noncomputable def x0_takenBy_l27 (f0 : Nat) (f3 : Int32) (s4 : Int32) (s5 : Int32) : xN ((Int32 × Int32) ⊕ (Int32)) :=
  if (zi 10) ≤ s5 then (nP (Sum.inr s4)) else (nK 0 f0 (nB (x0_endOf f0 s5) fun v37 =>
  if v37 = (zi (-1)) then (x0_takenBy_l27_j69 f0 f3 s5 s4) else (if f3 = (zi (-1)) then (x0_takenBy_l27_j69 f0 f3 s5 s4) else (nB (gR 4 0 f0) fun v56 =>
  nN v56 fun r59_0 =>
  nB (gR 317 3 r59_0) fun v59 =>
  nN v59 fun r64_1 =>
  nB (aI 0 r64_1 v37) fun v64 =>
  if v64 = f3 then (x0_takenBy_l27_j83 f0 f3 s5 (zi 0) s4) else (x0_takenBy_l27_j69 f0 f3 s5 s4)))))
noncomputable def x0_takenBy (a0 : Nat) (a1 : Int32) (a2 : Int32) (a3 : Int32) : xN Int32 :=
  nB (gR 15 0 a0) fun v4 =>
  nB (gR 4 0 a0) fun v8 =>
  nN v8 fun r11_0 =>
  nB (gR 313 3 r11_0) fun v11 =>
  nN v11 fun r15_1 =>
  nB (aR 6 r15_1 a1) fun v15 =>
  nN v15 fun r16_0 =>
  nB (gR 1402 14 r16_0) fun v16 =>
  nN v16 fun r20_1 =>
  nN v4 fun r20_2 =>
  nK 6 r20_2 (nB (x6_run r20_2 r20_1 a2) fun v20 =>
  nB (nLp (fun s => x0_takenBy_l27 a0 a3 s.1 s.2) ((zi 0), (zi 0))) fun e27 =>
  nP e27)
noncomputable def x0_taken_l52 (f0 : Nat) (f1 : Int32) (f3 : Int32) (s4 : Int32) (s5 : Int32) : xN ((Int32 × Int32) ⊕ (Int32)) :=
  if (zi 100) ≤ s5 then (nP (Sum.inr s4)) else (nK 0 f0 (nB (x0_takenBy f0 f1 s5 f3) fun v66 =>
  nE (s4 ||| v66) fun n70 =>
  nE (s5 + zi 1) fun n72 =>
  nP (Sum.inl (n70, n72))))
noncomputable def x0_taken_j22 (b0 : Nat) (b1 : Int32) (b2 : Int32) : xN Int32 :=
  nK 0 b0 (nB (x0_lookOf b0 b1 (zi 0) (zi 0)) fun v26 =>
  nB (gI 400 4 v26) fun v29 =>
  if b2 = (zi (-1)) then (nB (nLp (fun s => x0_taken_l52 b0 b1 v29 s.1 s.2) ((zi 0), (zi 0))) fun e52 =>
  nP e52) else (nK 0 b0 (nB (x0_takenBy b0 b1 b2 v29) fun v45 =>
  nP v45)))
noncomputable def x0_taken (a0 : Nat) (a1 : Int32) (a2 : Int32) : xN Int32 :=
  nK 0 a0 (nB (x0_isPage a0 a1) fun v2 =>
  if v2 = 0 then (nP (zi (-1))) else (if a2 = (zi (-1)) then (x0_taken_j22 a0 a1 a2) else (nB (x0_isMade a2) fun v14 =>
  if v14 = 0 then (nP (zi (-1))) else (x0_taken_j22 a0 a1 a2))))
noncomputable def x0_unlike (a0 : Nat) (a1 : Int32) (a2 : Int32) : xN Int32 :=
  nK 0 a0 (nB (x0_isPage a0 a1) fun v2 =>
  if v2 = 0 then (nP (zi (-1))) else (nK 0 a0 (nB (x0_isHouse a0 a2) fun v10 =>
  if v10 = 0 then (nP (zi (-1))) else (nK 0 a0 (nB (x0_unlikeOf a0 a1 a2) fun v19 =>
  nP v19)))))
noncomputable def x0_warn_l30_j78 (b0 : Nat) (b1 : Int32) (b2 : Int32) (b3 : Int32) (b5 : Int32) (t0 : Int32) (t1 : Int32) : xN ((Int32 × Int32) ⊕ (Int32)) :=
  nE (t1 ||| t0) fun n79 =>
  nE (b5 + zi 1) fun n81 =>
  nP (Sum.inl (n79, n81))
noncomputable def x0_warn_l30_j77 (b0 : Nat) (b1 : Int32) (b2 : Int32) (b3 : Int32) (b5 : Int32) (t0 : Int32) : xN ((Int32 × Int32) ⊕ (Int32)) :=
  x0_warn_l30_j78 b0 b1 b2 b3 b5 (zi 0) t0
noncomputable def x0_warn_l30 (f0 : Nat) (f1 : Int32) (f2 : Int32) (f3 : Int32) (s4 : Int32) (s5 : Int32) : xN ((Int32 × Int32) ⊕ (Int32)) :=
  nB (gR 4 0 f0) fun v33 =>
  nN v33 fun r36_0 =>
  nB (gI 305 3 r36_0) fun v36 =>
  if v36 ≤ s5 then (nP (Sum.inr s4)) else (nK 0 f0 (nB (x0_signsOf f0 s5 f2 f3) fun v49 =>
  nB (x0_say_2 v49) fun v52 =>
  if v52 = (zi 2) then (nB (gR 7 0 f0) fun v60 =>
  nN v60 fun r63_0 =>
  nB (gI 400 4 r63_0) fun v63 =>
  if v63 = f1 then (x0_warn_l30_j78 f0 f1 f2 f3 s5 ((zi 1) <<< (s5 &&& 31)) s4) else (x0_warn_l30_j77 f0 f1 f2 f3 s5 s4)) else (x0_warn_l30_j77 f0 f1 f2 f3 s5 s4)))
noncomputable def x0_warn (a0 : Nat) (a1 : Int32) (a2 : Int32) (a3 : Int32) : xN Int32 :=
  nK 0 a0 (nB (x0_isHouse a0 a1) fun v2 =>
  if v2 = 0 then (nP (zi (-1))) else (nB (x0_isLand a2) fun v9 =>
  if v9 = 0 then (nP (zi (-1))) else (nB (x0_isDay a3) fun v16 =>
  if v16 = 0 then (nP (zi (-1))) else (nB (nLp (fun s => x0_warn_l30 a0 a1 a2 a3 s.1 s.2) ((zi 0), (zi 0))) fun e30 =>
  nP e30))))
noncomputable def x0_word_l33 (f0 : Nat) (f1 : Int32) (f2 : Int32) (s3 : Int32) (s4 : Int32) : xN ((Int32 × Int32) ⊕ (Int32)) :=
  if s4 < 0 then (nP (Sum.inr s3)) else (nB (gR 4 0 f0) fun v39 =>
  nN v39 fun r42_0 =>
  nB (gR 300 3 r42_0) fun v42 =>
  nN v42 fun r47_1 =>
  nB (aI 1 r47_1 s4) fun v47 =>
  nB (x0_in v47 (zi 97) (zi 122)) fun v52 =>
  if v52 = 0 then (nE (s4 + zi (-1)) fun n61 =>
  nP (Sum.inl (s4, n61))) else (nE (s4 + zi (-1)) fun n61 =>
  nP (Sum.inl (s3, n61))))
noncomputable def x0_word_l99 (f0 : Nat) (f1 : Int32) (f2 : Int32) (s4 : Int64) (s6 : Int32) : xN ((Int64 × Int32) ⊕ (Int64)) :=
  if f2 ≤ s6 then (nP (Sum.inr s4)) else (nB (gR 4 0 f0) fun v111 =>
  nN v111 fun r114_0 =>
  nB (gR 300 3 r114_0) fun v114 =>
  nN v114 fun r119_1 =>
  nB (aI 1 r119_1 s6) fun v119 =>
  nE ((s4 <<< (((zi 8)).toInt64 &&& 63)) ||| ((v119).toInt64)) fun n122 =>
  nE (s6 + zi 1) fun n124 =>
  nP (Sum.inl (n122, n124)))
noncomputable def x0_word_j193 (b0 : Nat) (b1 : Int32) (b6 : Int32) : xN Int32 :=
  nB (gR 4 0 b0) fun v194 =>
  nN v194 fun r197_0 =>
  nB (gR 319 3 r197_0) fun v197 =>
  nN v197 fun r204_2 =>
  nB (sB r204_2 b6 ((b1).toInt8.toInt32)) fun _ =>
  nP b6
noncomputable def x0_word_j14 (b0 : Nat) (b1 : Int32) (b2 : Int32) (t0 : Int32) : xN Int32 :=
  nB (x0_in b1 (zi 0) (zi 7)) fun v19 =>
  if v19 = 0 then (nP (zi (-2))) else (nE (b2 - (zi 1)) fun n31 =>
  nB (nLp (fun s => x0_word_l33 b0 b1 b2 s.1 s.2) (t0, n31)) fun e33 =>
  if e33 = (zi (-1)) then (if b2 ≤ (zi 8) then (nB (nLp (fun s => x0_word_l99 b0 b1 b2 s.1 s.2) ((0 : Int64), (zi 0))) fun e99 =>
  nK 0 b0 (nB (x0_place b0 e99) fun v133 =>
  if v133 = (zi (-1)) then (nB (gR 4 0 b0) fun v145 =>
  nN v145 fun r148_0 =>
  nB (gI 310 3 r148_0) fun v148 =>
  if v148 = (zi 20) then (nP (zi (-2))) else (nB (gR 4 0 b0) fun v160 =>
  nN v160 fun r163_0 =>
  nB (gI 310 3 r163_0) fun v163 =>
  nB (gR 4 0 b0) fun v169 =>
  nN v169 fun r172_0 =>
  nB (gR 318 3 r172_0) fun v172 =>
  nN v172 fun r179_2 =>
  nB (sL r179_2 v163 e99) fun _ =>
  nB (gR 4 0 b0) fun v181 =>
  nN v181 fun r185_0 =>
  nB (gI 310 3 r185_0) fun v185 =>
  nB (pI 310 3 r185_0 (v185 + (zi 1))) fun _ =>
  x0_word_j193 b0 b1 v163)) else (x0_word_j193 b0 b1 v133))) else (nK 0 b0 (nB (x0_fails b0 (zi 2) (zi 8)) fun v89 =>
  nP v89))) else (nK 0 b0 (nB (x0_fails b0 (zi 1) e33) fun v75 =>
  nP v75)))
noncomputable def x0_word (a0 : Nat) (a1 : Int32) : xN Int32 :=
  nK 0 a0 (nB (x0_take a0) fun v1 =>
  if v1 = 0 then (x0_word_j14 a0 a1 v1 (zi 0)) else (x0_word_j14 a0 a1 v1 (zi (-1))))
def x0_worth (a0 : Nat) (a1 : Int32) (a2 : Int32) : xN Int32 :=
  nB (x0_in a1 (zi 0) (zi 7)) fun v4 =>
  if v4 = 0 then (nP (zi 0)) else (nB (x0_in a2 (zi 0) (zi 99)) fun v14 =>
  if v14 = 0 then (nP (zi 0)) else (nB (gR 4 0 a0) fun v23 =>
  nN v23 fun r26_0 =>
  nB (gR 315 3 r26_0) fun v26 =>
  nN v26 fun r31_2 =>
  nB (sI r31_2 a1 a2) fun _ =>
  nP (zi 1)))
def x7_init (a0 : Nat) : xN Unit :=
  nB (nA 0 (zi 22080)) fun v8 =>
  nB (pR 700 7 a0 (some v8)) fun _ =>
  nB (nA 2 (zi 3)) fun v15 =>
  nB (pR 701 7 a0 (some v15)) fun _ =>
  nB (nA 0 (zi 8)) fun v23 =>
  nB (pR 712 7 a0 (some v23)) fun _ =>
  nB (nA 0 (zi 72)) fun v31 =>
  nB (pR 713 7 a0 (some v31)) fun _ =>
  nB (nA 0 (zi 169)) fun v40 =>
  nB (pR 714 7 a0 (some v40)) fun _ =>
  nB (nA 2 (zi 14)) fun v48 =>
  nB (pR 716 7 a0 (some v48)) fun _ =>
  nB (nA 0 (zi 14)) fun v56 =>
  nB (pR 717 7 a0 (some v56)) fun _ =>
  nB (nA 2 (zi 14)) fun v64 =>
  nB (pR 718 7 a0 (some v64)) fun _ =>
  nB (nA 0 (zi 14)) fun v72 =>
  nB (pR 719 7 a0 (some v72)) fun _ =>
  nB (nA 0 (zi 14)) fun v80 =>
  nB (pR 720 7 a0 (some v80)) fun _ =>
  nB (nA 0 (zi 14)) fun v88 =>
  nB (pR 721 7 a0 (some v88)) fun _ =>
  nB (nA 0 (zi 2)) fun v95 =>
  nB (pR 722 7 a0 (some v95)) fun _ =>
  nB (nA 0 (zi 32)) fun v103 =>
  nB (pR 723 7 a0 (some v103)) fun _ =>
  nB (nA 0 (zi 32)) fun v111 =>
  nB (pR 724 7 a0 (some v111)) fun _ =>
  nB (nA 0 (zi 32)) fun v119 =>
  nB (pR 725 7 a0 (some v119)) fun _ =>
  nB (nA 0 (zi 256)) fun v128 =>
  nB (pR 728 7 a0 (some v128)) fun _ =>
  nB (nA 0 (zi 289)) fun v137 =>
  nB (pR 729 7 a0 (some v137)) fun _ =>
  nB (nA 0 (zi 16)) fun v145 =>
  nB (pR 735 7 a0 (some v145)) fun _ =>
  nB (nA 0 (zi 16)) fun v153 =>
  nB (pR 736 7 a0 (some v153)) fun _ =>
  nB (nA 0 (zi 16)) fun v161 =>
  nB (pR 737 7 a0 (some v161)) fun _ =>
  nB (nA 0 (zi 3)) fun v168 =>
  nB (pR 738 7 a0 (some v168)) fun _ =>
  nB (nA 0 (zi 5)) fun v175 =>
  nB (pR 739 7 a0 (some v175)) fun _ =>
  nB (nA 0 (zi 80)) fun v183 =>
  nB (pR 743 7 a0 (some v183)) fun _ =>
  nB (nA 0 (zi 6)) fun v191 =>
  nB (pR 744 7 a0 (some v191)) fun _ =>
  nB (nA 0 (zi 6)) fun v199 =>
  nB (pR 745 7 a0 (some v199)) fun _ =>
  nB (nA 0 (zi 10)) fun v207 =>
  nB (pR 746 7 a0 (some v207)) fun _ =>
  nB (gR 700 7 a0) fun v213 =>
  nN v213 fun r219_2 =>
  nB (sI r219_2 (zi 8) (zi (-1))) fun _ =>
  nB (gR 700 7 a0) fun v221 =>
  nN v221 fun r227_2 =>
  nB (sI r227_2 (zi 3) (zi 10)) fun _ =>
  nB (gR 700 7 a0) fun v229 =>
  nN v229 fun r235_2 =>
  nB (sI r235_2 (zi 4) (zi 40)) fun _ =>
  nB (gR 700 7 a0) fun v237 =>
  nN v237 fun r243_2 =>
  nB (sI r243_2 (zi 5) (zi 30)) fun _ =>
  nB (gR 700 7 a0) fun v245 =>
  nN v245 fun r252_2 =>
  nB (sI r252_2 (zi 12) (zi 50)) fun _ =>
  nB (gR 700 7 a0) fun v254 =>
  nN v254 fun r261_2 =>
  nB (sI r261_2 (zi 13) (zi 60)) fun _ =>
  nB (gR 700 7 a0) fun v263 =>
  nN v263 fun r270_2 =>
  nB (sI r270_2 (zi 14) (zi 70)) fun _ =>
  nP ()
noncomputable def x9_pass_10 (a0 : Nat) (a1 : Nat) : xN (Unit ⊕ Nat) :=
  nK 10 a0 (nB (x9_isWord_10 a0 a1) fun v2 =>
  if v2 = 0 then (nK 10 a0 (nB (x9_wrong_10 a0) fun v9 =>
  nP (Sum.inr v9))) else (nK 10 a0 (nB (x9_next_10 a0) fun _ =>
  nP (Sum.inl ()))))
