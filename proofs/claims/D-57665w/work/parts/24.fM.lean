/-! printed: the pure functions of the reference -/
def f_X6_thrown (iT : Int32) : Option Int32 :=
  some iT
def f_X6_isSmall (z0 : Int32) : Option Int32 :=
  (if z0 < (97 : Int32) then some (0 : Int32) else (if (122 : Int32) < z0 then some (0 : Int32) else some (1 : Int32)))
def f_X6_isDigit (z0 : Int32) : Option Int32 :=
  (if z0 < (48 : Int32) then some (0 : Int32) else (if (57 : Int32) < z0 then some (0 : Int32) else some (1 : Int32)))
def f_X6_token_J294 (s1 : Int32) (aB : (Nat → Int32)) (iL : Int32) (iA : Int32) (iY : Int32) (iF : Int32) (iV : Int32) : Option (Int32 × Int32 × Int32 × Int32) :=
  some ((iA + (1 : Int32)), s1, iF, iV)
def f_X6_token_J251 (aB : (Nat → Int32)) (iL : Int32) (iA : Int32) (iY : Int32) (iF : Int32) (iV : Int32) : Option (Int32 × Int32 × Int32 × Int32) :=
  (if (iA - iF) ≤ (2 : Int32) then some (iA, (2 : Int32), iF, iV) else some (iA, (4 : Int32), iF, iV))
def f_X6_token_L175 (aB : (Nat → Int32)) (iL : Int32) (iY : Int32) (iF : Int32) (r175 : Int32 → Int32 → Option (Int32 × Int32 × Int32 × Int32)) (iA : Int32) (iV : Int32) : Option (Int32 × Int32 × Int32 × Int32) :=
  (if iL ≤ iA then f_X6_token_J251 aB iL iA iY iF iV else (Option.bind (g_ra 600 aB iA) fun v8 => (Option.bind (f_X6_isDigit v8) fun v10 => (if v10 = 0 then f_X6_token_J251 aB iL iA iY iF iV else (if (2 : Int32) ≤ (iA - iF) then r175 (iA + (1 : Int32)) iV else (Option.bind (g_ra 600 aB iA) fun v11 => r175 (iA + (1 : Int32)) (((iV * (10 : Int32)) + v11) - (48 : Int32))))))))
def f_X6_token_J131 (aB : (Nat → Int32)) (iL : Int32) (iA : Int32) (iY : Int32) (iF : Int32) (iV : Int32) : Option (Int32 × Int32 × Int32 × Int32) :=
  (if (iA - iF) ≤ (8 : Int32) then some (iA, (1 : Int32), iF, iV) else some (iA, (4 : Int32), iF, iV))
def f_X6_token_L92 (aB : (Nat → Int32)) (iL : Int32) (iY : Int32) (iF : Int32) (iV : Int32) (r92 : Int32 → Option (Int32 × Int32 × Int32 × Int32)) (iA : Int32) : Option (Int32 × Int32 × Int32 × Int32) :=
  (if iL ≤ iA then f_X6_token_J131 aB iL iA iY iF iV else (Option.bind (g_ra 600 aB iA) fun v12 => (Option.bind (f_X6_isSmall v12) fun v14 => (if v14 = 0 then f_X6_token_J131 aB iL iA iY iF iV else r92 (iA + (1 : Int32))))))
def f_X6_token_J52 (aB : (Nat → Int32)) (iL : Int32) (iA : Int32) (iY : Int32) (iF : Int32) (iV : Int32) : Option (Int32 × Int32 × Int32 × Int32) :=
  (if iA = iL then some (iA, (0 : Int32), iA, iV) else (Option.bind (g_ra 600 aB iA) fun v1 => (Option.bind (f_X6_isSmall v1) fun v3 => (if v3 = 0 then (Option.bind (g_ra 600 aB iA) fun v4 => (Option.bind (f_X6_isDigit v4) fun v6 => (if v6 = 0 then (Option.bind (g_ra 600 aB iA) fun v7 => (if v7 = (59 : Int32) then f_X6_token_J294 (3 : Int32) aB iL iA iY iA iV else f_X6_token_J294 (4 : Int32) aB iL iA iY iA iV)) else gL2 (f_X6_token_L175 aB iL iY iA) gN iA (0 : Int32)))) else gL1 (f_X6_token_L92 aB iL iY iA iV) gN iA))))
def f_X6_token_L0 (aB : (Nat → Int32)) (iL : Int32) (iY : Int32) (iF : Int32) (iV : Int32) (r0 : Int32 → Option (Int32 × Int32 × Int32 × Int32)) (iA : Int32) : Option (Int32 × Int32 × Int32 × Int32) :=
  (if iL ≤ iA then f_X6_token_J52 aB iL iA iY iF iV else (Option.bind (g_ra 600 aB iA) fun v15 => (if v15 = (32 : Int32) then r0 (iA + (1 : Int32)) else (Option.bind (g_ra 600 aB iA) fun v16 => (if v16 = (10 : Int32) then r0 (iA + (1 : Int32)) else f_X6_token_J52 aB iL iA iY iF iV)))))
def f_X6_token (aB : (Nat → Int32)) (iL : Int32) (iA : Int32) (iY : Int32) (iF : Int32) (iV : Int32) : Option (Int32 × Int32 × Int32 × Int32) :=
  gL1 (f_X6_token_L0 aB iL iY iF iV) gN iA
def f_X6_begin (aB : (Nat → Int32)) (iL : Int32) (iE : Int32) (iP : Int32) (iA : Int32) (iY : Int32) (iF : Int32) (iV : Int32) : Option (Int32 × Int32 × Int32 × Int32 × Int32 × Int32) :=
  (gT4 (f_X6_token aB iL (0 : Int32) iY iF iV) fun iA_2 iY_3 iF_4 iV_5 => some ((0 : Int32), (-1 : Int32), iA_2, iY_3, iF_4, iV_5))
def f_X6_isWord_L28 (x : gV) (z1 : Nat) (aB : (Nat → Int32)) (iA : Int32) (iY : Int32) (iF : Int32) (r28 : Int32 → Option Int32) (z2 : Int32) : Option Int32 :=
  (Option.bind (f_J9_length x z1) fun v4 => (if v4 ≤ z2 then some (1 : Int32) else (Option.bind (g_ra 600 aB (iF + z2)) fun v5 => (Option.bind (f_J9_charAt x z1 z2) fun v7 => (if v5 = v7 then r28 (z2 + (1 : Int32)) else some (0 : Int32))))))
def f_X6_isWord (x : gV) (z1 : Nat) (aB : (Nat → Int32)) (iA : Int32) (iY : Int32) (iF : Int32) : Option Int32 :=
  (if iY = (1 : Int32) then (Option.bind (f_J9_length x z1) fun v2 => (if (iA - iF) = v2 then gL1 (f_X6_isWord_L28 x z1 aB iA iY iF) gN (0 : Int32) else some (0 : Int32))) else some (0 : Int32))
def f_X6_wrong (z1 : Int32) (iE : Int32) (iP : Int32) (iF : Int32) : Option (Int32 × Int32 × Int32) :=
  some ((0 : Int32), z1, iF)
def f_X6_in (z0 : Int32) (z1 : Int32) (z2 : Int32) : Option Int32 :=
  (if z0 < z1 then some (0 : Int32) else (if z2 < z0 then some (0 : Int32) else some (1 : Int32)))
def f_X6_parseRanged (z1 : Int32) (z2 : Int32) (z3 : Int32) (aM : (Nat → Int32)) (aB : (Nat → Int32)) (iL : Int32) (iE : Int32) (iP : Int32) (iA : Int32) (iY : Int32) (iF : Int32) (iV : Int32) : Option (Int32 × (Nat → Int32) × Int32 × Int32 × Int32 × Int32 × Int32 × Int32) :=
  (if iY = (2 : Int32) then (Option.bind (f_X6_in iV z2 z3) fun v2 => (if v2 = 0 then (gT3 (f_X6_wrong (2 : Int32) iE iP iF) fun v10 iE_11 iP_12 => (if v10 = 0 ∨ v10 = 1 then some (v10, aM, iE_11, iP_12, iA, iY, iF, iV) else none)) else (Option.bind (g_wa 2120 aM z1 iV) fun aM_3 => (gT4 (f_X6_token aB iL iA iY iF iV) fun iA_5 iY_6 iF_7 iV_8 => some ((1 : Int32), aM_3, iE, iP, iA_5, iY_6, iF_7, iV_8))))) else (gT3 (f_X6_wrong (1 : Int32) iE iP iF) fun v14 iE_15 iP_16 => (if v14 = 0 ∨ v14 = 1 then some (v14, aM, iE_15, iP_16, iA, iY, iF, iV) else none)))
def f_X6_semicolon (aB : (Nat → Int32)) (iL : Int32) (iE : Int32) (iP : Int32) (iA : Int32) (iY : Int32) (iF : Int32) (iV : Int32) : Option (Int32 × Int32 × Int32 × Int32 × Int32 × Int32 × Int32) :=
  (if iY = (3 : Int32) then (gT4 (f_X6_token aB iL iA iY iF iV) fun iA_2 iY_3 iF_4 iV_5 => some ((1 : Int32), iE, iP, iA_2, iY_3, iF_4, iV_5)) else (gT3 (f_X6_wrong (1 : Int32) iE iP iF) fun v7 iE_8 iP_9 => (if v7 = 0 ∨ v7 = 1 then some (v7, iE_8, iP_9, iA, iY, iF, iV) else none)))
def f_X6_clear_L2  (r2 : Int32 → (Nat → Int32) → Option (Nat → Int32)) (z1 : Int32) (aM : (Nat → Int32)) : Option (Nat → Int32) :=
  (Option.bind (g_ra 2120 aM (0 : Int32)) fun v1 => (if v1 ≤ z1 then some aM else (Option.bind (g_wa 2120 aM ((2 : Int32) + z1) (-1 : Int32)) fun aM_2 => r2 (z1 + (1 : Int32)) aM_2)))
def f_X6_clear (aM : (Nat → Int32)) : Option (Nat → Int32) :=
  gL2 f_X6_clear_L2 gN (0 : Int32) aM
def f_X6_isShortWord (iE : Int32) (iP : Int32) (iA : Int32) (iY : Int32) (iF : Int32) : Option (Int32 × Int32 × Int32) :=
  (if iY = (1 : Int32) then (if (iA - iF) ≤ (6 : Int32) then some ((1 : Int32), iE, iP) else (gT3 (f_X6_wrong (3 : Int32) iE iP iF) fun v2 iE_3 iP_4 => (if v2 = 0 then some ((0 : Int32), iE_3, iP_4) else some ((1 : Int32), iE_3, iP_4)))) else (gT3 (f_X6_wrong (1 : Int32) iE iP iF) fun v6 iE_7 iP_8 => (if v6 = 0 ∨ v6 = 1 then some (v6, iE_7, iP_8) else none)))
def f_X6_siblingNamed_L42 (r2 : Int32 → Option Int32) (z1 : Int32) (z2 : Int32) (z3 : Int32) (z4 : Int32) (aM : (Nat → Int32)) (aB : (Nat → Int32)) (r42 : Int32 → Int32 → Option Int32) (z5 : Int32) (z6 : Int32) : Option Int32 :=
  (if z5 = 0 then (if z5 = 0 then r2 (z3 + (1 : Int32)) else some z3) else (if z2 ≤ z6 then (if z5 = 0 then r2 (z3 + (1 : Int32)) else some z3) else (Option.bind (g_ra 2120 aM ((z4 + (1 : Int32)) + z6)) fun v3 => (Option.bind (g_ra 600 aB (z1 + z6)) fun v4 => (if v3 = v4 then r42 (1 : Int32) (z6 + (1 : Int32)) else r42 (0 : Int32) (z6 + (1 : Int32)))))))
def f_X6_siblingNamed_J37 (r2 : Int32 → Option Int32) (z1 : Int32) (z2 : Int32) (z3 : Int32) (z4 : Int32) (s0 : Int32) (aM : (Nat → Int32)) (aB : (Nat → Int32)) : Option Int32 :=
  gL2 (f_X6_siblingNamed_L42 r2 z1 z2 z3 z4 aM aB) gN s0 (0 : Int32)
def f_X6_siblingNamed_L2 (z1 : Int32) (z2 : Int32) (aM : (Nat → Int32)) (aB : (Nat → Int32)) (r2 : Int32 → Option Int32) (z3 : Int32) : Option Int32 :=
  (Option.bind (g_ra 2120 aM (1 : Int32)) fun v1 => (if v1 ≤ z3 then some (-1 : Int32) else (Option.bind (g_ra 2120 aM ((26 : Int32) + (z3 * (31 : Int32)))) fun v2 => (if v2 = z2 then f_X6_siblingNamed_J37 r2 z1 z2 z3 ((26 : Int32) + (z3 * (31 : Int32))) (1 : Int32) aM aB else f_X6_siblingNamed_J37 r2 z1 z2 z3 ((26 : Int32) + (z3 * (31 : Int32))) (0 : Int32) aM aB))))
def f_X6_siblingNamed (z1 : Int32) (z2 : Int32) (aM : (Nat → Int32)) (aB : (Nat → Int32)) : Option Int32 :=
  gL1 (f_X6_siblingNamed_L2 z1 z2 aM aB) gN (0 : Int32)
def f_X6_parseNewSibling_J165 (aM : (Nat → Int32)) (aB : (Nat → Int32)) (iL : Int32) (iE : Int32) (iP : Int32) (iA : Int32) (iY : Int32) (iF : Int32) (iV : Int32) : Option (Int32 × (Nat → Int32) × Int32 × Int32 × Int32 × Int32 × Int32 × Int32) :=
  (gT7 (f_X6_semicolon aB iL iE iP iA iY iF iV) fun v22 iE_23 iP_24 iA_25 iY_26 iF_27 iV_28 => (if v22 = 0 then some ((0 : Int32), aM, iE_23, iP_24, iA_25, iY_26, iF_27, iV_28) else (Option.bind (g_ra 2120 aM (1 : Int32)) fun v29 => (Option.bind (g_wa 2120 aM (1 : Int32) (v29 + (1 : Int32))) fun aM_30 => some ((1 : Int32), aM_30, iE_23, iP_24, iA_25, iY_26, iF_27, iV_28)))))
def f_X6_parseNewSibling_L131 (z1 : Int32) (aB : (Nat → Int32)) (iL : Int32) (r131 : Int32 → (Nat → Int32) → Int32 → Int32 → Int32 → Int32 → Int32 → Int32 → Option (Int32 × (Nat → Int32) × Int32 × Int32 × Int32 × Int32 × Int32 × Int32)) (z2 : Int32) (aM : (Nat → Int32)) (iE : Int32) (iP : Int32) (iA : Int32) (iY : Int32) (iF : Int32) (iV : Int32) : Option (Int32 × (Nat → Int32) × Int32 × Int32 × Int32 × Int32 × Int32 × Int32) :=
  (Option.bind (g_ra 2120 aM (0 : Int32)) fun v20 => (if v20 ≤ z2 then f_X6_parseNewSibling_J165 aM aB iL iE iP iA iY iF iV else (gT8 (f_X6_parseRanged ((z1 + (7 : Int32)) + z2) (0 : Int32) (9 : Int32) aM aB iL iE iP iA iY iF iV) fun v32 aM_33 iE_34 iP_35 iA_36 iY_37 iF_38 iV_39 => (if v32 = 0 then some ((0 : Int32), aM_33, iE_34, iP_35, iA_36, iY_37, iF_38, iV_39) else r131 (z2 + (1 : Int32)) aM_33 iE_34 iP_35 iA_36 iY_37 iF_38 iV_39))))
def f_X6_parseNewSibling_J125 (z1 : Int32) (aM : (Nat → Int32)) (aB : (Nat → Int32)) (iL : Int32) (iE : Int32) (iP : Int32) (iA : Int32) (iY : Int32) (iF : Int32) (iV : Int32) : Option (Int32 × (Nat → Int32) × Int32 × Int32 × Int32 × Int32 × Int32 × Int32) :=
  (gT4 (f_X6_token aB iL iA iY iF iV) fun iA_16 iY_17 iF_18 iV_19 => gL8 (f_X6_parseNewSibling_L131 z1 aB iL) gN (0 : Int32) aM iE iP iA_16 iY_17 iF_18 iV_19)
def f_X6_parseNewSibling_L90 (z1 : Int32) (aB : (Nat → Int32)) (iL : Int32) (iE : Int32) (iP : Int32) (iA : Int32) (iY : Int32) (iF : Int32) (iV : Int32) (r90 : Int32 → (Nat → Int32) → Option (Int32 × (Nat → Int32) × Int32 × Int32 × Int32 × Int32 × Int32 × Int32)) (z2 : Int32) (aM : (Nat → Int32)) : Option (Int32 × (Nat → Int32) × Int32 × Int32 × Int32 × Int32 × Int32 × Int32) :=
  (if iA ≤ z2 then f_X6_parseNewSibling_J125 z1 aM aB iL iE iP iA iY iF iV else (Option.bind (g_ra 600 aB z2) fun v40 => (Option.bind (g_wa 2120 aM (((z1 + (1 : Int32)) + z2) - iF) v40) fun aM_41 => r90 (z2 + (1 : Int32)) aM_41)))
def f_X6_parseNewSibling (aM : (Nat → Int32)) (aB : (Nat → Int32)) (iL : Int32) (iE : Int32) (iP : Int32) (iA : Int32) (iY : Int32) (iF : Int32) (iV : Int32) : Option (Int32 × (Nat → Int32) × Int32 × Int32 × Int32 × Int32 × Int32 × Int32) :=
  (Option.bind (g_ra 2120 aM (1 : Int32)) fun v1 => (if v1 = (6 : Int32) then (gT3 (f_X6_wrong (4 : Int32) iE iP iF) fun v47 iE_48 iP_49 => (if v47 = 0 ∨ v47 = 1 then some (v47, aM, iE_48, iP_49, iA, iY, iF, iV) else none)) else (gT4 (f_X6_token aB iL iA iY iF iV) fun iA_3 iY_4 iF_5 iV_6 => (gT3 (f_X6_isShortWord iE iP iA_3 iY_4 iF_5) fun v8 iE_9 iP_10 => (if v8 = 0 then some ((0 : Int32), aM, iE_9, iP_10, iA_3, iY_4, iF_5, iV_6) else (Option.bind (f_X6_siblingNamed iF_5 (iA_3 - iF_5) aM aB) fun v12 => (if v12 = (-1 : Int32) then (Option.bind (g_ra 2120 aM (1 : Int32)) fun v13 => (Option.bind (g_wa 2120 aM ((26 : Int32) + (v13 * (31 : Int32))) (iA_3 - iF_5)) fun aM_14 => gL2 (f_X6_parseNewSibling_L90 ((26 : Int32) + (v13 * (31 : Int32))) aB iL iE_9 iP_10 iA_3 iY_4 iF_5 iV_6) gN iF_5 aM_14)) else (gT3 (f_X6_wrong (3 : Int32) iE_9 iP_10 iF_5) fun v43 iE_44 iP_45 => (if v43 = 0 ∨ v43 = 1 then some (v43, aM, iE_44, iP_45, iA_3, iY_4, iF_5, iV_6) else none)))))))))
def f_X6_parseSetup_J98 (x : gV) (aM : (Nat → Int32)) (aB : (Nat → Int32)) (iL : Int32) (iE : Int32) (iP : Int32) (iA : Int32) (iY : Int32) (iF : Int32) (iV : Int32) : Option (Int32 × (Nat → Int32) × Int32 × Int32 × Int32 × Int32 × Int32 × Int32) :=
  (if iY = 0 then some ((1 : Int32), aM, iE, iP, iA, iY, iF, iV) else (gT3 (f_X6_wrong (1 : Int32) iE iP iF) fun v32 iE_33 iP_34 => (if v32 = 0 then some ((0 : Int32), aM, iE_33, iP_34, iA, iY, iF, iV) else some ((1 : Int32), aM, iE_33, iP_34, iA, iY, iF, iV))))
def f_X6_parseSetup_L80 (x : gV) (aB : (Nat → Int32)) (iL : Int32) (r80 : (Nat → Int32) → Int32 → Int32 → Int32 → Int32 → Int32 → Int32 → Option (Int32 × (Nat → Int32) × Int32 × Int32 × Int32 × Int32 × Int32 × Int32)) (aM : (Nat → Int32)) (iE : Int32) (iP : Int32) (iA : Int32) (iY : Int32) (iF : Int32) (iV : Int32) : Option (Int32 × (Nat → Int32) × Int32 × Int32 × Int32 × Int32 × Int32 × Int32) :=
  (Option.bind (f_X6_isWord x (x.2.2.1 2) aB iA iY iF) fun v30 => (if v30 = 0 then f_X6_parseSetup_J98 x aM aB iL iE iP iA iY iF iV else (gT8 (f_X6_parseNewSibling aM aB iL iE iP iA iY iF iV) fun v36 aM_37 iE_38 iP_39 iA_40 iY_41 iF_42 iV_43 => (if v36 = 0 then some ((0 : Int32), aM_37, iE_38, iP_39, iA_40, iY_41, iF_42, iV_43) else r80 aM_37 iE_38 iP_39 iA_40 iY_41 iF_42 iV_43))))
def f_X6_parseSetup_J22 (x : gV) (aM : (Nat → Int32)) (aB : (Nat → Int32)) (iL : Int32) (iE : Int32) (iP : Int32) (iA : Int32) (iY : Int32) (iF : Int32) (iV : Int32) : Option (Int32 × (Nat → Int32) × Int32 × Int32 × Int32 × Int32 × Int32 × Int32) :=
  (Option.bind (f_X6_isWord x (x.2.2.1 1) aB iA iY iF) fun v2 => (if v2 = 0 then (gT3 (f_X6_wrong (1 : Int32) iE iP iF) fun v49 iE_50 iP_51 => (if v49 = 0 ∨ v49 = 1 then some (v49, aM, iE_50, iP_51, iA, iY, iF, iV) else none)) else (gT4 (f_X6_token aB iL iA iY iF iV) fun iA_4 iY_5 iF_6 iV_7 => (gT8 (f_X6_parseRanged (0 : Int32) (1 : Int32) (24 : Int32) aM aB iL iE iP iA_4 iY_5 iF_6 iV_7) fun v9 aM_10 iE_11 iP_12 iA_13 iY_14 iF_15 iV_16 => (if v9 = 0 then some ((0 : Int32), aM_10, iE_11, iP_12, iA_13, iY_14, iF_15, iV_16) else (gT7 (f_X6_semicolon aB iL iE_11 iP_12 iA_13 iY_14 iF_15 iV_16) fun v18 iE_19 iP_20 iA_21 iY_22 iF_23 iV_24 => (if v18 = 0 then some ((0 : Int32), aM_10, iE_19, iP_20, iA_21, iY_22, iF_23, iV_24) else (Option.bind (f_X6_clear aM_10) fun aM_26 => (Option.bind (f_X6_isWord x (x.2.2.1 2) aB iA_21 iY_22 iF_23) fun v28 => (if v28 = 0 then (gT3 (f_X6_wrong (1 : Int32) iE_19 iP_20 iF_23) fun v45 iE_46 iP_47 => (if v45 = 0 ∨ v45 = 1 then some (v45, aM_26, iE_46, iP_47, iA_21, iY_22, iF_23, iV_24) else none)) else gL7 (f_X6_parseSetup_L80 x aB iL) gN aM_26 iE_19 iP_20 iA_21 iY_22 iF_23 iV_24))))))))))
def f_X6_parseSetup_L2 (x : gV) (aB : (Nat → Int32)) (iL : Int32) (iE : Int32) (iP : Int32) (iA : Int32) (iY : Int32) (iF : Int32) (iV : Int32) (r2 : Int32 → (Nat → Int32) → Option (Int32 × (Nat → Int32) × Int32 × Int32 × Int32 × Int32 × Int32 × Int32)) (z1 : Int32) (aM : (Nat → Int32)) : Option (Int32 × (Nat → Int32) × Int32 × Int32 × Int32 × Int32 × Int32 × Int32) :=
  (if (212 : Int32) ≤ z1 then f_X6_parseSetup_J22 x aM aB iL iE iP iA iY iF iV else (Option.bind (g_wa 2120 aM z1 (0 : Int32)) fun aM_52 => r2 (z1 + (1 : Int32)) aM_52))
def f_X6_parseSetup (x : gV) (aM : (Nat → Int32)) (aB : (Nat → Int32)) (iL : Int32) (iE : Int32) (iP : Int32) (iA : Int32) (iY : Int32) (iF : Int32) (iV : Int32) : Option (Int32 × (Nat → Int32) × Int32 × Int32 × Int32 × Int32 × Int32 × Int32) :=
  gL2 (f_X6_parseSetup_L2 x aB iL iE iP iA iY iF iV) gN (0 : Int32) aM
def f_X6_fails_J26 (s1 : Int32) (iT : Int32) : Option (Int32 × Int32) :=
  (if s1 ≤ 0 then some ((0 : Int32), s1) else some ((1 : Int32), s1))
def f_X6_fails (z1 : Int32) (z2 : Int32) (z3 : Int32) (iT : Int32) : Option (Int32 × Int32) :=
  (if z1 = 0 then (if z2 = 0 then (if z3 = 0 then f_X6_fails_J26 (0 : Int32) iT else f_X6_fails_J26 (3 : Int32) iT) else f_X6_fails_J26 (2 : Int32) iT) else f_X6_fails_J26 (1 : Int32) iT)
def f_X6_appendWord_L3 (z1 : Int32) (r3 : Int32 → (Nat → Int32) → Int32 → Option ((Nat → Int32) × Int32)) (z2 : Int32) (aB : (Nat → Int32)) (iL : Int32) : Option ((Nat → Int32) × Int32) :=
  (if z2 < 0 then some (aB, iL) else (Option.bind (g_wa 600 aB iL ((z1 >>> (z2 &&& 31)) &&& (255 : Int32))) fun aB_1 => r3 (z2 + (-8 : Int32)) aB_1 (iL + (1 : Int32))))
def f_X6_appendWord (z1 : Int32) (aB : (Nat → Int32)) (iL : Int32) : Option ((Nat → Int32) × Int32) :=
  gL3 (f_X6_appendWord_L3 z1) gN (24 : Int32) aB iL
def f_X6_append_J19 (z1 : Int32) (z2 : Int32) (z3 : Int32) (z4 : Int32) (z5 : Int32) (s1 : Int32) (aB : (Nat → Int32)) (iL : Int32) (iT : Int32) : Option (Int32 × (Nat → Int32) × Int32 × Int32) :=
  (gT2 (f_X6_fails s1 (0 : Int32) (0 : Int32) iT) fun v2 iT_3 => (if v2 = 0 then (gT2 (f_X6_appendWord z1 aB iL) fun aB_5 iL_6 => (gT2 (f_X6_appendWord z2 aB_5 iL_6) fun aB_8 iL_9 => (gT2 (f_X6_appendWord z3 aB_8 iL_9) fun aB_11 iL_12 => (gT2 (f_X6_appendWord z4 aB_11 iL_12) fun aB_14 iL_15 => (gT2 (f_X6_appendWord z5 aB_14 iL_15) fun aB_17 iL_18 => some (iL_18, aB_17, iL_18, iT_3)))))) else some ((0 : Int32), aB, iL, iT_3)))
def f_X6_append (z1 : Int32) (z2 : Int32) (z3 : Int32) (z4 : Int32) (z5 : Int32) (aB : (Nat → Int32)) (iL : Int32) (iT : Int32) : Option (Int32 × (Nat → Int32) × Int32 × Int32) :=
  (if (iL + (20 : Int32)) ≤ (600 : Int32) then f_X6_append_J19 z1 z2 z3 z4 z5 (0 : Int32) aB iL iT else f_X6_append_J19 z1 z2 z3 z4 z5 (1 : Int32) aB iL iT)
def f_X6_truncate_J18 (z1 : Int32) (s1 : Int32) (iL : Int32) (iT : Int32) : Option (Int32 × Int32 × Int32) :=
  (gT2 (f_X6_fails s1 (0 : Int32) (0 : Int32) iT) fun v4 iT_5 => (if v4 = 0 then some (z1, z1, iT_5) else some ((0 : Int32), iL, iT_5)))
def f_X6_truncate (z1 : Int32) (iL : Int32) (iT : Int32) : Option (Int32 × Int32 × Int32) :=
  (Option.bind (f_X6_in z1 (0 : Int32) iL) fun v2 => (if v2 = 0 then f_X6_truncate_J18 z1 (1 : Int32) iL iT else f_X6_truncate_J18 z1 (0 : Int32) iL iT))
def f_X6_copyBlock_L2 (z1 : Int32) (z2 : Int32) (r2 : Int32 → (Nat → Int32) → Option (Nat → Int32)) (z3 : Int32) (aM : (Nat → Int32)) : Option (Nat → Int32) :=
  (if (212 : Int32) ≤ z3 then some aM else (Option.bind (g_ra 2120 aM ((z1 * (212 : Int32)) + z3)) fun v1 => (Option.bind (g_wa 2120 aM ((z2 * (212 : Int32)) + z3) v1) fun aM_2 => r2 (z3 + (1 : Int32)) aM_2)))
def f_X6_copyBlock (z1 : Int32) (z2 : Int32) (aM : (Nat → Int32)) : Option (Nat → Int32) :=
  gL2 (f_X6_copyBlock_L2 z1 z2) gN (0 : Int32) aM
def f_X6_load_J42 (x : gV) (s1 : Int32) (aM : (Nat → Int32)) (aS : (Nat → Int32)) (iU : Int32) (aB : (Nat → Int32)) (iL : Int32) (iE : Int32) (iP : Int32) (iT : Int32) (iA : Int32) (iY : Int32) (iF : Int32) (iV : Int32) : Option (Int32 × (Nat → Int32) × (Nat → Int32) × Int32 × Int32 × Int32 × Int32 × Int32 × Int32 × Int32 × Int32 × Int32) :=
  (gT2 (f_X6_fails s1 (0 : Int32) (0 : Int32) iT) fun v20 iT_21 => (if v20 = 0 then (Option.bind (g_wa 2 aS (0 : Int32) (vp_nar .boolean (0 : Int32))) fun aS_22 => (Option.bind (g_wa 2 aS_22 (1 : Int32) (vp_nar .boolean (0 : Int32))) fun aS_23 => (Option.bind (g_ra 2120 aM (1 : Int32)) fun v24 => some (v24, aM, aS_23, (0 : Int32), iL, iE, iP, iT_21, iA, iY, iF, iV)))) else some ((0 : Int32), aM, aS, iU, iL, iE, iP, iT_21, iA, iY, iF, iV)))
def f_X6_load_J32 (x : gV) (z1 : Int32) (aM : (Nat → Int32)) (aS : (Nat → Int32)) (iU : Int32) (aB : (Nat → Int32)) (iL : Int32) (iE : Int32) (iP : Int32) (iT : Int32) (iA : Int32) (iY : Int32) (iF : Int32) (iV : Int32) : Option (Int32 × (Nat → Int32) × (Nat → Int32) × Int32 × Int32 × Int32 × Int32 × Int32 × Int32 × Int32 × Int32 × Int32) :=
  (if z1 = 0 then f_X6_load_J42 x (1 : Int32) aM aS iU aB iL iE iP iT iA iY iF iV else f_X6_load_J42 x (0 : Int32) aM aS iU aB iL iE iP iT iA iY iF iV)
def f_X6_load (x : gV) (aM : (Nat → Int32)) (aS : (Nat → Int32)) (iU : Int32) (aB : (Nat → Int32)) (iL : Int32) (iE : Int32) (iP : Int32) (iT : Int32) (iA : Int32) (iY : Int32) (iF : Int32) (iV : Int32) : Option (Int32 × (Nat → Int32) × (Nat → Int32) × Int32 × Int32 × Int32 × Int32 × Int32 × Int32 × Int32 × Int32 × Int32) :=
  (Option.bind (f_X6_copyBlock (0 : Int32) (9 : Int32) aM) fun aM_2 => (gT6 (f_X6_begin aB iL iE iP iA iY iF iV) fun iE_4 iP_5 iA_6 iY_7 iF_8 iV_9 => (gT8 (f_X6_parseSetup x aM_2 aB iL iE_4 iP_5 iA_6 iY_7 iF_8 iV_9) fun v11 aM_12 iE_13 iP_14 iA_15 iY_16 iF_17 iV_18 => (if v11 = 0 then (Option.bind (f_X6_copyBlock (9 : Int32) (0 : Int32) aM_12) fun aM_26 => f_X6_load_J32 x v11 aM_26 aS iU aB (0 : Int32) iE_13 iP_14 iT iA_15 iY_16 iF_17 iV_18) else f_X6_load_J32 x v11 aM_12 aS iU aB (0 : Int32) iE_13 iP_14 iT iA_15 iY_16 iF_17 iV_18))))
def f_X6_nameOf (x : gV) (z0 : Int32) : Option Nat :=
  (if z0 = 0 then some (x.2.2.1 3) else (if z0 = 1 then some (x.2.2.1 4) else (if z0 = 2 then some (x.2.2.1 5) else (if z0 = 3 then some (x.2.2.1 6) else (if z0 = 4 then some (x.2.2.1 7) else (if z0 = 5 then some (x.2.2.1 8) else (if z0 = 6 then some (x.2.2.1 9) else some (x.2.2.1 10))))))))
def f_X6_commandHere_L2 (x : gV) (aB : (Nat → Int32)) (iA : Int32) (iY : Int32) (iF : Int32) (r2 : Int32 → Option Int32) (z1 : Int32) : Option Int32 :=
  (if (7 : Int32) < z1 then some (-1 : Int32) else (Option.bind (f_X6_nameOf x z1) fun v2 => (Option.bind (f_X6_isWord x v2 aB iA iY iF) fun v4 => (if v4 = 0 then r2 (z1 + (1 : Int32)) else some z1))))
def f_X6_commandHere (x : gV) (aB : (Nat → Int32)) (iA : Int32) (iY : Int32) (iF : Int32) : Option Int32 :=
  gL1 (f_X6_commandHere_L2 x aB iA iY iF) gN (0 : Int32)
def f_X6_parseSibling (z1 : Int32) (aM : (Nat → Int32)) (aB : (Nat → Int32)) (iL : Int32) (iE : Int32) (iP : Int32) (iA : Int32) (iY : Int32) (iF : Int32) (iV : Int32) (aK : (Nat → Int32)) : Option (Int32 × Int32 × Int32 × Int32 × Int32 × Int32 × Int32 × (Nat → Int32)) :=
  (gT3 (f_X6_isShortWord iE iP iA iY iF) fun v2 iE_3 iP_4 => (if v2 = 0 then some ((0 : Int32), iE_3, iP_4, iA, iY, iF, iV, aK) else (Option.bind (f_X6_siblingNamed iF (iA - iF) aM aB) fun v6 => (Option.bind (g_wa 120 aK z1 v6) fun aK_7 => (Option.bind (g_ra 120 aK_7 z1) fun v8 => (if v8 = (-1 : Int32) then (gT3 (f_X6_wrong (3 : Int32) iE_3 iP_4 iF) fun v15 iE_16 iP_17 => (if v15 = 0 ∨ v15 = 1 then some (v15, iE_16, iP_17, iA, iY, iF, iV, aK_7) else none)) else (gT4 (f_X6_token aB iL iA iY iF iV) fun iA_10 iY_11 iF_12 iV_13 => some ((1 : Int32), iE_3, iP_4, iA_10, iY_11, iF_12, iV_13, aK_7))))))))
def f_X6_parseNumber (z1 : Int32) (aB : (Nat → Int32)) (iL : Int32) (iE : Int32) (iP : Int32) (iA : Int32) (iY : Int32) (iF : Int32) (iV : Int32) (aK : (Nat → Int32)) : Option (Int32 × Int32 × Int32 × Int32 × Int32 × Int32 × Int32 × (Nat → Int32)) :=
  (if iY = (2 : Int32) then (Option.bind (g_wa 120 aK z1 iV) fun aK_1 => (gT4 (f_X6_token aB iL iA iY iF iV) fun iA_3 iY_4 iF_5 iV_6 => some ((1 : Int32), iE, iP, iA_3, iY_4, iF_5, iV_6, aK_1))) else (gT3 (f_X6_wrong (1 : Int32) iE iP iF) fun v8 iE_9 iP_10 => (if v8 = 0 ∨ v8 = 1 then some (v8, iE_9, iP_10, iA, iY, iF, iV, aK) else none)))
def f_X6_parseArguments (z1 : Int32) (z2 : Int32) (aM : (Nat → Int32)) (aB : (Nat → Int32)) (iL : Int32) (iE : Int32) (iP : Int32) (iA : Int32) (iY : Int32) (iF : Int32) (iV : Int32) (aK : (Nat → Int32)) : Option (Int32 × Int32 × Int32 × Int32 × Int32 × Int32 × Int32 × (Nat → Int32)) :=
  (if z1 = 0 then (gT8 (f_X6_parseSibling z2 aM aB iL iE iP iA iY iF iV aK) fun v2 iE_3 iP_4 iA_5 iY_6 iF_7 iV_8 aK_9 => (if v2 = 0 then some ((0 : Int32), iE_3, iP_4, iA_5, iY_6, iF_7, iV_8, aK_9) else (gT8 (f_X6_parseNumber (z2 + (1 : Int32)) aB iL iE_3 iP_4 iA_5 iY_6 iF_7 iV_8 aK_9) fun v11 iE_12 iP_13 iA_14 iY_15 iF_16 iV_17 aK_18 => (if v11 = 0 then some ((0 : Int32), iE_12, iP_13, iA_14, iY_15, iF_16, iV_17, aK_18) else (gT8 (f_X6_parseNumber (z2 + (2 : Int32)) aB iL iE_12 iP_13 iA_14 iY_15 iF_16 iV_17 aK_18) fun v20 iE_21 iP_22 iA_23 iY_24 iF_25 iV_26 aK_27 => (if v20 = 0 then some ((0 : Int32), iE_21, iP_22, iA_23, iY_24, iF_25, iV_26, aK_27) else some ((1 : Int32), iE_21, iP_22, iA_23, iY_24, iF_25, iV_26, aK_27))))))) else (if z1 = 1 then (gT8 (f_X6_parseNumber (z2 + (1 : Int32)) aB iL iE iP iA iY iF iV aK) fun v29 iE_30 iP_31 iA_32 iY_33 iF_34 iV_35 aK_36 => (if v29 = 0 then some ((0 : Int32), iE_30, iP_31, iA_32, iY_33, iF_34, iV_35, aK_36) else (gT8 (f_X6_parseNumber (z2 + (2 : Int32)) aB iL iE_30 iP_31 iA_32 iY_33 iF_34 iV_35 aK_36) fun v38 iE_39 iP_40 iA_41 iY_42 iF_43 iV_44 aK_45 => (if v38 = 0 then some ((0 : Int32), iE_39, iP_40, iA_41, iY_42, iF_43, iV_44, aK_45) else some ((1 : Int32), iE_39, iP_40, iA_41, iY_42, iF_43, iV_44, aK_45))))) else (if z1 = 2 then (gT8 (f_X6_parseSibling z2 aM aB iL iE iP iA iY iF iV aK) fun v47 iE_48 iP_49 iA_50 iY_51 iF_52 iV_53 aK_54 => (if v47 = 0 then some ((0 : Int32), iE_48, iP_49, iA_50, iY_51, iF_52, iV_53, aK_54) else (gT8 (f_X6_parseSibling (z2 + (1 : Int32)) aM aB iL iE_48 iP_49 iA_50 iY_51 iF_52 iV_53 aK_54) fun v56 iE_57 iP_58 iA_59 iY_60 iF_61 iV_62 aK_63 => (if v56 = 0 then some ((0 : Int32), iE_57, iP_58, iA_59, iY_60, iF_61, iV_62, aK_63) else some ((1 : Int32), iE_57, iP_58, iA_59, iY_60, iF_61, iV_62, aK_63))))) else (if z1 = 3 then (gT8 (f_X6_parseSibling z2 aM aB iL iE iP iA iY iF iV aK) fun v65 iE_66 iP_67 iA_68 iY_69 iF_70 iV_71 aK_72 => (if v65 = 0 then some ((0 : Int32), iE_66, iP_67, iA_68, iY_69, iF_70, iV_71, aK_72) else (gT8 (f_X6_parseNumber (z2 + (1 : Int32)) aB iL iE_66 iP_67 iA_68 iY_69 iF_70 iV_71 aK_72) fun v74 iE_75 iP_76 iA_77 iY_78 iF_79 iV_80 aK_81 => (if v74 = 0 then some ((0 : Int32), iE_75, iP_76, iA_77, iY_78, iF_79, iV_80, aK_81) else (gT8 (f_X6_parseNumber (z2 + (2 : Int32)) aB iL iE_75 iP_76 iA_77 iY_78 iF_79 iV_80 aK_81) fun v83 iE_84 iP_85 iA_86 iY_87 iF_88 iV_89 aK_90 => (if v83 = 0 then some ((0 : Int32), iE_84, iP_85, iA_86, iY_87, iF_88, iV_89, aK_90) else some ((1 : Int32), iE_84, iP_85, iA_86, iY_87, iF_88, iV_89, aK_90))))))) else (if z1 = 4 then (gT8 (f_X6_parseSibling z2 aM aB iL iE iP iA iY iF iV aK) fun v92 iE_93 iP_94 iA_95 iY_96 iF_97 iV_98 aK_99 => (if v92 = 0 then some ((0 : Int32), iE_93, iP_94, iA_95, iY_96, iF_97, iV_98, aK_99) else (gT8 (f_X6_parseSibling (z2 + (1 : Int32)) aM aB iL iE_93 iP_94 iA_95 iY_96 iF_97 iV_98 aK_99) fun v101 iE_102 iP_103 iA_104 iY_105 iF_106 iV_107 aK_108 => (if v101 = 0 then some ((0 : Int32), iE_102, iP_103, iA_104, iY_105, iF_106, iV_107, aK_108) else some ((1 : Int32), iE_102, iP_103, iA_104, iY_105, iF_106, iV_107, aK_108))))) else (if z1 = 5 then some ((1 : Int32), iE, iP, iA, iY, iF, iV, aK) else (gT8 (f_X6_parseSibling z2 aM aB iL iE iP iA iY iF iV aK) fun v110 iE_111 iP_112 iA_113 iY_114 iF_115 iV_116 aK_117 => (if v110 = 0 ∨ v110 = 1 then some (v110, iE_111, iP_112, iA_113, iY_114, iF_115, iV_116, aK_117) else none))))))))
def f_X6_parseScript_J46 (x : gV) (r2 : Int32 → Int32 → Int32 → Int32 → Int32 → Int32 → Int32 → (Nat → Int32) → Option (Int32 × Int32 × Int32 × Int32 × Int32 × Int32 × Int32 × (Nat → Int32))) (z1 : Int32) (z2 : Int32) (s0 : Int32) (aM : (Nat → Int32)) (aB : (Nat → Int32)) (iL : Int32) (iE : Int32) (iP : Int32) (iA : Int32) (iY : Int32) (iF : Int32) (iV : Int32) (aK : (Nat → Int32)) : Option (Int32 × Int32 × Int32 × Int32 × Int32 × Int32 × Int32 × (Nat → Int32)) :=
  (if s0 = 0 then some ((-1 : Int32), iE, iP, iA, iY, iF, iV, aK) else (gT4 (f_X6_token aB iL iA iY iF iV) fun iA_8 iY_9 iF_10 iV_11 => (Option.bind (g_wa 120 aK (z1 * (4 : Int32)) z2) fun aK_12 => (gT8 (f_X6_parseArguments z2 ((z1 * (4 : Int32)) + (1 : Int32)) aM aB iL iE iP iA_8 iY_9 iF_10 iV_11 aK_12) fun v14 iE_15 iP_16 iA_17 iY_18 iF_19 iV_20 aK_21 => (if v14 = 0 then some ((-1 : Int32), iE_15, iP_16, iA_17, iY_18, iF_19, iV_20, aK_21) else (gT7 (f_X6_semicolon aB iL iE_15 iP_16 iA_17 iY_18 iF_19 iV_20) fun v23 iE_24 iP_25 iA_26 iY_27 iF_28 iV_29 => (if v23 = 0 then some ((-1 : Int32), iE_24, iP_25, iA_26, iY_27, iF_28, iV_29, aK_21) else r2 (z1 + (1 : Int32)) iE_24 iP_25 iA_26 iY_27 iF_28 iV_29 aK_21)))))))
def f_X6_parseScript_J33 (x : gV) (r2 : Int32 → Int32 → Int32 → Int32 → Int32 → Int32 → Int32 → (Nat → Int32) → Option (Int32 × Int32 × Int32 × Int32 × Int32 × Int32 × Int32 × (Nat → Int32))) (z1 : Int32) (z2 : Int32) (aM : (Nat → Int32)) (aB : (Nat → Int32)) (iL : Int32) (iE : Int32) (iP : Int32) (iA : Int32) (iY : Int32) (iF : Int32) (iV : Int32) (aK : (Nat → Int32)) : Option (Int32 × Int32 × Int32 × Int32 × Int32 × Int32 × Int32 × (Nat → Int32)) :=
  f_X6_parseScript_J46 x r2 z1 z2 (1 : Int32) aM aB iL iE iP iA iY iF iV aK
def f_X6_parseScript_L2 (x : gV) (aM : (Nat → Int32)) (aB : (Nat → Int32)) (iL : Int32) (r2 : Int32 → Int32 → Int32 → Int32 → Int32 → Int32 → Int32 → (Nat → Int32) → Option (Int32 × Int32 × Int32 × Int32 × Int32 × Int32 × Int32 × (Nat → Int32))) (z1 : Int32) (iE : Int32) (iP : Int32) (iA : Int32) (iY : Int32) (iF : Int32) (iV : Int32) (aK : (Nat → Int32)) : Option (Int32 × Int32 × Int32 × Int32 × Int32 × Int32 × Int32 × (Nat → Int32)) :=
  (if iY = 0 then some (z1, iE, iP, iA, iY, iF, iV, aK) else (Option.bind (f_X6_commandHere x aB iA iY iF) fun v2 => (if v2 = (-1 : Int32) then (gT3 (f_X6_wrong (1 : Int32) iE iP iF) fun v4 iE_5 iP_6 => f_X6_parseScript_J46 x r2 z1 v2 v4 aM aB iL iE_5 iP_6 iA iY iF iV aK) else (if z1 < (30 : Int32) then f_X6_parseScript_J33 x r2 z1 v2 aM aB iL iE iP iA iY iF iV aK else (gT3 (f_X6_wrong (4 : Int32) iE iP iF) fun v31 iE_32 iP_33 => (if v31 = 0 then f_X6_parseScript_J46 x r2 z1 v2 (0 : Int32) aM aB iL iE_32 iP_33 iA iY iF iV aK else f_X6_parseScript_J33 x r2 z1 v2 aM aB iL iE_32 iP_33 iA iY iF iV aK))))))
def f_X6_parseScript (x : gV) (aM : (Nat → Int32)) (aB : (Nat → Int32)) (iL : Int32) (iE : Int32) (iP : Int32) (iA : Int32) (iY : Int32) (iF : Int32) (iV : Int32) (aK : (Nat → Int32)) : Option (Int32 × Int32 × Int32 × Int32 × Int32 × Int32 × Int32 × (Nat → Int32)) :=
  gL8 (f_X6_parseScript_L2 x aM aB iL) gN (0 : Int32) iE iP iA iY iF iV aK
def f_X6_remember_J41 (z1 : Int32) (aM : (Nat → Int32)) (iU : Int32) : Option ((Nat → Int32) × Int32) :=
  (Option.bind (f_X6_copyBlock z1 (iU + (1 : Int32)) aM) fun aM_2 => some (aM_2, (iU + (1 : Int32))))
def f_X6_remember_J31 (z1 : Int32) (aM : (Nat → Int32)) (iU : Int32) : Option ((Nat → Int32) × Int32) :=
  f_X6_remember_J41 z1 aM (iU - (1 : Int32))
def f_X6_remember_L11 (z1 : Int32) (iU : Int32) (r11 : Int32 → (Nat → Int32) → Option ((Nat → Int32) × Int32)) (z2 : Int32) (aM : (Nat → Int32)) : Option ((Nat → Int32) × Int32) :=
  (if (6 : Int32) ≤ z2 then f_X6_remember_J31 z1 aM iU else (Option.bind (f_X6_copyBlock (z2 + (1 : Int32)) z2 aM) fun aM_4 => r11 (z2 + (1 : Int32)) aM_4))
def f_X6_remember (z1 : Int32) (aM : (Nat → Int32)) (iU : Int32) : Option ((Nat → Int32) × Int32) :=
  (if iU = (6 : Int32) then gL2 (f_X6_remember_L11 z1 iU) gN (1 : Int32) aM else f_X6_remember_J41 z1 aM iU)
def f_X6_isCell (z1 : Int32) (aM : (Nat → Int32)) : Option Int32 :=
  (Option.bind (g_ra 2120 aM (0 : Int32)) fun v1 => (Option.bind (f_X6_in z1 (0 : Int32) (v1 - (1 : Int32))) fun v3 => (if v3 = 0 ∨ v3 = 1 then some v3 else none)))
def f_X6_isRange (z1 : Int32) (z2 : Int32) (aM : (Nat → Int32)) : Option Int32 :=
  (Option.bind (f_X6_isCell z1 aM) fun v2 => (if v2 = 0 then some (0 : Int32) else (Option.bind (f_X6_isCell z2 aM) fun v4 => (if v4 = 0 then some (0 : Int32) else (if z2 < z1 then some (0 : Int32) else some (1 : Int32))))))
def f_X6_ownerOf (z1 : Int32) (aM : (Nat → Int32)) : Option Int32 :=
  (Option.bind (g_ra 2120 aM ((2 : Int32) + z1)) fun v1 => some v1)
def f_X6_valueOf (z1 : Int32) (z2 : Int32) (aM : (Nat → Int32)) : Option Int32 :=
  (Option.bind (g_ra 2120 aM ((((26 : Int32) + (z1 * (31 : Int32))) + (7 : Int32)) + z2)) fun v1 => some v1)
def f_X6_worthShare_L5 (z1 : Int32) (z2 : Int32) (aM : (Nat → Int32)) (r5 : Int32 → Int32 → Option Int32) (z3 : Int32) (z4 : Int32) : Option Int32 :=
  (Option.bind (g_ra 2120 aM (0 : Int32)) fun v1 => (if v1 ≤ z4 then some z3 else (Option.bind (f_X6_ownerOf z4 aM) fun v3 => (if v3 = z2 then (Option.bind (f_X6_valueOf z1 z4 aM) fun v5 => r5 (z3 + v5) (z4 + (1 : Int32))) else r5 (z3 + (0 : Int32)) (z4 + (1 : Int32))))))
def f_X6_worthShare (z1 : Int32) (z2 : Int32) (aM : (Nat → Int32)) : Option Int32 :=
  gL2 (f_X6_worthShare_L5 z1 z2 aM) gN (0 : Int32) (0 : Int32)
def f_X6_welfareOf (z1 : Int32) (aM : (Nat → Int32)) : Option Int32 :=
  (Option.bind (f_X6_worthShare z1 z1 aM) fun v2 => some v2)
def f_X6_hasEnvy (z1 : Int32) (z2 : Int32) (aM : (Nat → Int32)) : Option Int32 :=
  (Option.bind (f_X6_worthShare z1 z2 aM) fun v2 => (Option.bind (f_X6_welfareOf z1 aM) fun v4 => (if v2 ≤ v4 then some (0 : Int32) else some (1 : Int32))))
def f_X6_walkTo_J112 (r23 : Int32 → (Nat → Int32) → Option (Nat → Int32)) (r35 : Int32 → (Nat → Int32) → Option (Nat → Int32)) (r48 : Int32 → (Nat → Int32) → Option (Nat → Int32)) (z1 : Int32) (z2 : Int32) (z3 : Int32) (z4 : Int32) (s0 : Int32) (aM : (Nat → Int32)) (aT : (Nat → Int32)) : Option (Nat → Int32) :=
  (if s0 = 0 then r48 (z4 + (1 : Int32)) aT else (Option.bind (f_X6_hasEnvy z3 z4 aM) fun v6 => (if v6 = 0 then r48 (z4 + (1 : Int32)) aT else (Option.bind (g_wa 6 aT z3 z2) fun aT_7 => r48 (z4 + (1 : Int32)) aT_7))))
def f_X6_walkTo_J111 (r23 : Int32 → (Nat → Int32) → Option (Nat → Int32)) (r35 : Int32 → (Nat → Int32) → Option (Nat → Int32)) (r48 : Int32 → (Nat → Int32) → Option (Nat → Int32)) (z1 : Int32) (z2 : Int32) (z3 : Int32) (z4 : Int32) (aM : (Nat → Int32)) (aT : (Nat → Int32)) : Option (Nat → Int32) :=
  f_X6_walkTo_J112 r23 r35 r48 z1 z2 z3 z4 (0 : Int32) aM aT
def f_X6_walkTo_L48 (r23 : Int32 → (Nat → Int32) → Option (Nat → Int32)) (r35 : Int32 → (Nat → Int32) → Option (Nat → Int32)) (z1 : Int32) (z2 : Int32) (z3 : Int32) (aM : (Nat → Int32)) (r48 : Int32 → (Nat → Int32) → Option (Nat → Int32)) (z4 : Int32) (aT : (Nat → Int32)) : Option (Nat → Int32) :=
  (Option.bind (g_ra 6 aT z3) fun v3 => (if v3 = (-1 : Int32) then (Option.bind (g_ra 2120 aM (1 : Int32)) fun v4 => (if v4 ≤ z4 then r35 (z3 + (1 : Int32)) aT else (if z2 = (1 : Int32) then (if z4 = z1 then f_X6_walkTo_J112 r23 r35 r48 z1 z2 z3 z4 (1 : Int32) aM aT else f_X6_walkTo_J112 r23 r35 r48 z1 z2 z3 z4 (0 : Int32) aM aT) else (if z4 = z1 then f_X6_walkTo_J111 r23 r35 r48 z1 z2 z3 z4 aM aT else (Option.bind (g_ra 6 aT z4) fun v8 => (if v8 = (z2 - (1 : Int32)) then f_X6_walkTo_J112 r23 r35 r48 z1 z2 z3 z4 (1 : Int32) aM aT else f_X6_walkTo_J111 r23 r35 r48 z1 z2 z3 z4 aM aT)))))) else r35 (z3 + (1 : Int32)) aT))
def f_X6_walkTo_L35 (r23 : Int32 → (Nat → Int32) → Option (Nat → Int32)) (z1 : Int32) (z2 : Int32) (aM : (Nat → Int32)) (r35 : Int32 → (Nat → Int32) → Option (Nat → Int32)) (z3 : Int32) (aT : (Nat → Int32)) : Option (Nat → Int32) :=
  (Option.bind (g_ra 2120 aM (1 : Int32)) fun v2 => (if v2 ≤ z3 then r23 (z2 + (1 : Int32)) aT else gL2 (f_X6_walkTo_L48 r23 r35 z1 z2 z3 aM) gN (0 : Int32) aT))
def f_X6_walkTo_L23 (z1 : Int32) (aM : (Nat → Int32)) (r23 : Int32 → (Nat → Int32) → Option (Nat → Int32)) (z2 : Int32) (aT : (Nat → Int32)) : Option (Nat → Int32) :=
  (Option.bind (g_ra 2120 aM (1 : Int32)) fun v1 => (if v1 < z2 then some aT else gL2 (f_X6_walkTo_L35 r23 z1 z2 aM) gN (0 : Int32) aT))
def f_X6_walkTo_J21 (z1 : Int32) (aM : (Nat → Int32)) (aT : (Nat → Int32)) : Option (Nat → Int32) :=
  gL2 (f_X6_walkTo_L23 z1 aM) gN (1 : Int32) aT
def f_X6_walkTo_L2 (z1 : Int32) (aM : (Nat → Int32)) (r2 : Int32 → (Nat → Int32) → Option (Nat → Int32)) (z2 : Int32) (aT : (Nat → Int32)) : Option (Nat → Int32) :=
  (if (6 : Int32) ≤ z2 then f_X6_walkTo_J21 z1 aM aT else (Option.bind (g_wa 6 aT z2 (-1 : Int32)) fun aT_9 => r2 (z2 + (1 : Int32)) aT_9))
def f_X6_walkTo (z1 : Int32) (aM : (Nat → Int32)) (aT : (Nat → Int32)) : Option (Nat → Int32) :=
  gL2 (f_X6_walkTo_L2 z1 aM) gN (0 : Int32) aT
def f_X6_findCycle_L36 (r28 : Int32 → (Nat → Int32) → Option (Int32 × (Nat → Int32) × (Nat → Int32))) (z1 : Int32) (z2 : Int32) (z3 : Int32) (aM : (Nat → Int32)) (aT : (Nat → Int32)) (aC : (Nat → Int32)) (r36 : Int32 → Option (Int32 × (Nat → Int32) × (Nat → Int32))) (z4 : Int32) : Option (Int32 × (Nat → Int32) × (Nat → Int32)) :=
  (if z4 = z1 then r36 (z4 + (1 : Int32)) else (Option.bind (g_ra 6 aT z4) fun v5 => (if v5 = (z2 - z3) then (Option.bind (g_ra 6 aC (z3 - (1 : Int32))) fun v6 => (Option.bind (f_X6_hasEnvy v6 z4 aM) fun v8 => (if v8 = 0 then r36 (z4 + (1 : Int32)) else (Option.bind (g_wa 6 aC z3 z4) fun aC_9 => r28 (z3 + (1 : Int32)) aC_9)))) else r36 (z4 + (1 : Int32)))))
def f_X6_findCycle_L28 (z1 : Int32) (z2 : Int32) (aM : (Nat → Int32)) (aT : (Nat → Int32)) (r28 : Int32 → (Nat → Int32) → Option (Int32 × (Nat → Int32) × (Nat → Int32))) (z3 : Int32) (aC : (Nat → Int32)) : Option (Int32 × (Nat → Int32) × (Nat → Int32)) :=
  (if z2 ≤ z3 then some (z2, aT, aC) else gL1 (f_X6_findCycle_L36 r28 z1 z2 z3 aM aT aC) gN (0 : Int32))
def f_X6_findCycle (z1 : Int32) (aM : (Nat → Int32)) (aT : (Nat → Int32)) (aC : (Nat → Int32)) : Option (Int32 × (Nat → Int32) × (Nat → Int32)) :=
  (Option.bind (f_X6_walkTo z1 aM aT) fun aT_2 => (Option.bind (g_ra 6 aT_2 z1) fun v3 => (if v3 = (-1 : Int32) then some ((-1 : Int32), aT_2, aC) else (Option.bind (g_wa 6 aC (0 : Int32) z1) fun aC_4 => gL2 (f_X6_findCycle_L28 z1 v3 aM aT_2) gN (1 : Int32) aC_4))))
def f_X6_canDo (z1 : Int32) (z2 : Int32) (z3 : Int32) (z4 : Int32) (aM : (Nat → Int32)) (aT : (Nat → Int32)) (aC : (Nat → Int32)) : Option (Int32 × (Nat → Int32) × (Nat → Int32)) :=
  (if z1 = 0 then (Option.bind (f_X6_isRange z3 z4 aM) fun v2 => (if v2 = 0 ∨ v2 = 1 then some (v2, aT, aC) else none)) else (if z1 = 1 then (Option.bind (f_X6_isRange z3 z4 aM) fun v4 => (if v4 = 0 ∨ v4 = 1 then some (v4, aT, aC) else none)) else (if z1 = 2 then (if z2 = z3 then some ((0 : Int32), aT, aC) else some ((1 : Int32), aT, aC)) else (if z1 = 3 then (Option.bind (f_X6_isCell z3 aM) fun v6 => (if v6 = 0 then some ((0 : Int32), aT, aC) else (if (9 : Int32) < z4 then some ((0 : Int32), aT, aC) else some ((1 : Int32), aT, aC)))) else (if z1 = 4 then (if z2 = z3 then some ((0 : Int32), aT, aC) else some ((1 : Int32), aT, aC)) else (if z1 = 5 then some ((1 : Int32), aT, aC) else (if z1 = 6 then some ((1 : Int32), aT, aC) else (if z1 = 7 then (gT3 (f_X6_findCycle z2 aM aT aC) fun v8 aT_9 aC_10 => (if v8 = (-1 : Int32) then some ((0 : Int32), aT_9, aC_10) else some ((1 : Int32), aT_9, aC_10))) else some ((1 : Int32), aT, aC)))))))))
def f_X6_own_L3 (z1 : Int32) (z3 : Int32) (r3 : Int32 → (Nat → Int32) → Option (Nat → Int32)) (z4 : Int32) (aM : (Nat → Int32)) : Option (Nat → Int32) :=
  (if z3 < z4 then some aM else (Option.bind (g_wa 2120 aM ((2 : Int32) + z4) z1) fun aM_1 => r3 (z4 + (1 : Int32)) aM_1))
def f_X6_own (z1 : Int32) (z2 : Int32) (z3 : Int32) (aM : (Nat → Int32)) : Option (Nat → Int32) :=
  gL2 (f_X6_own_L3 z1 z3) gN z2 aM
def f_X6_exchange_J34 (r2 : Int32 → (Nat → Int32) → Option (Nat → Int32)) (z1 : Int32) (z2 : Int32) (z3 : Int32) (z4 : Int32) (aM : (Nat → Int32)) : Option (Nat → Int32) :=
  (if z4 = z2 then (Option.bind (g_wa 2120 aM ((2 : Int32) + z3) z1) fun aM_4 => r2 (z3 + (1 : Int32)) aM_4) else r2 (z3 + (1 : Int32)) aM)
def f_X6_exchange_L2 (z1 : Int32) (z2 : Int32) (r2 : Int32 → (Nat → Int32) → Option (Nat → Int32)) (z3 : Int32) (aM : (Nat → Int32)) : Option (Nat → Int32) :=
  (Option.bind (g_ra 2120 aM (0 : Int32)) fun v1 => (if v1 ≤ z3 then some aM else (Option.bind (f_X6_ownerOf z3 aM) fun v3 => (if v3 = z1 then (Option.bind (g_wa 2120 aM ((2 : Int32) + z3) z2) fun aM_5 => f_X6_exchange_J34 r2 z1 z2 z3 v3 aM_5) else f_X6_exchange_J34 r2 z1 z2 z3 v3 aM))))
def f_X6_exchange (z1 : Int32) (z2 : Int32) (aM : (Nat → Int32)) : Option (Nat → Int32) :=
  gL2 (f_X6_exchange_L2 z1 z2) gN (0 : Int32) aM
def f_X6_worthOf_L6 (z1 : Int32) (z3 : Int32) (aM : (Nat → Int32)) (r6 : Int32 → Int32 → Option Int32) (z4 : Int32) (z5 : Int32) : Option Int32 :=
  (if z3 < z5 then some z4 else (Option.bind (f_X6_valueOf z1 z5 aM) fun v2 => r6 (z4 + v2) (z5 + (1 : Int32))))
def f_X6_worthOf (z1 : Int32) (z2 : Int32) (z3 : Int32) (aM : (Nat → Int32)) : Option Int32 :=
  gL2 (f_X6_worthOf_L6 z1 z3 aM) gN (0 : Int32) z2
def f_X6_totalOf (z1 : Int32) (aM : (Nat → Int32)) : Option Int32 :=
  (Option.bind (g_ra 2120 aM (0 : Int32)) fun v1 => (Option.bind (f_X6_worthOf z1 (0 : Int32) (v1 - (1 : Int32)) aM) fun v3 => some v3))
def f_X6_cutOf_J52 (r11 : Int32 → Int32 → Int32 → Option Int32) (z1 : Int32) (z2 : Int32) (z3 : Int32) (z4 : Int32) (z5 : Int32) (aM : (Nat → Int32)) : Option Int32 :=
  (if z5 < z3 then r11 z4 z5 (z4 + (1 : Int32)) else r11 z2 z3 (z4 + (1 : Int32)))
def f_X6_cutOf_L11 (z1 : Int32) (aM : (Nat → Int32)) (r11 : Int32 → Int32 → Int32 → Option Int32) (z2 : Int32) (z3 : Int32) (z4 : Int32) : Option Int32 :=
  (Option.bind (g_ra 2120 aM (0 : Int32)) fun v3 => (if v3 < z4 then some z2 else (Option.bind (f_X6_totalOf z1 aM) fun v5 => (Option.bind (f_X6_worthOf z1 (0 : Int32) (z4 - (1 : Int32)) aM) fun v7 => (if 0 ≤ (v5 - ((2 : Int32) * v7)) then f_X6_cutOf_J52 r11 z1 z2 z3 z4 (v5 - ((2 : Int32) * v7)) aM else f_X6_cutOf_J52 r11 z1 z2 z3 z4 (-(v5 - ((2 : Int32) * v7))) aM)))))
def f_X6_cutOf (z1 : Int32) (aM : (Nat → Int32)) : Option Int32 :=
  (Option.bind (f_X6_totalOf z1 aM) fun v2 => gL3 (f_X6_cutOf_L11 z1 aM) gN (0 : Int32) v2 (1 : Int32))
def f_X6_divide_J61 (z3 : Int32) (s1 : Int32) (aM : (Nat → Int32)) : Option (Int32 × (Nat → Int32)) :=
  (Option.bind (g_ra 2120 aM (0 : Int32)) fun v9 => (Option.bind (f_X6_own s1 z3 (v9 - (1 : Int32)) aM) fun aM_11 => some (z3, aM_11)))
def f_X6_divide_J43 (z1 : Int32) (z2 : Int32) (z3 : Int32) (z4 : Int32) (s1 : Int32) (aM : (Nat → Int32)) : Option (Int32 × (Nat → Int32)) :=
  (Option.bind (f_X6_own s1 (0 : Int32) (z3 - (1 : Int32)) aM) fun aM_8 => (if z4 = 0 then f_X6_divide_J61 z3 z2 aM_8 else f_X6_divide_J61 z3 z1 aM_8))
def f_X6_divide_J30 (z1 : Int32) (z2 : Int32) (z3 : Int32) (s0 : Int32) (aM : (Nat → Int32)) : Option (Int32 × (Nat → Int32)) :=
  (if s0 = 0 then f_X6_divide_J43 z1 z2 z3 s0 z1 aM else f_X6_divide_J43 z1 z2 z3 s0 z2 aM)
def f_X6_divide (z1 : Int32) (z2 : Int32) (aM : (Nat → Int32)) : Option (Int32 × (Nat → Int32)) :=
  (Option.bind (f_X6_cutOf z1 aM) fun v2 => (Option.bind (f_X6_worthOf z2 (0 : Int32) (v2 - (1 : Int32)) aM) fun v4 => (Option.bind (f_X6_totalOf z2 aM) fun v6 => (if ((2 : Int32) * v4) < v6 then f_X6_divide_J30 z1 z2 v2 (0 : Int32) aM else f_X6_divide_J30 z1 z2 v2 (1 : Int32) aM))))
def f_X6_markOf_L27 (z1 : Int32) (z3 : Int32) (z4 : Int32) (aM : (Nat → Int32)) (r27 : Int32 → Int32 → Option Int32) (z5 : Int32) (z6 : Int32) : Option Int32 :=
  (if z4 ≤ (z6 * z3) then some z5 else (Option.bind (f_X6_valueOf z1 (z5 + (1 : Int32)) aM) fun v7 => r27 (z5 + (1 : Int32)) (z6 + v7)))
def f_X6_markOf (z1 : Int32) (z2 : Int32) (z3 : Int32) (aM : (Nat → Int32)) : Option Int32 :=
  (Option.bind (g_ra 2120 aM (0 : Int32)) fun v1 => (Option.bind (f_X6_worthOf z1 z2 (v1 - (1 : Int32)) aM) fun v3 => (Option.bind (f_X6_valueOf z1 z2 aM) fun v5 => gL2 (f_X6_markOf_L27 z1 z3 v3 aM) gN z2 v5)))
def f_X6_isContent (z1 : Int32) (aM : (Nat → Int32)) : Option Int32 :=
  (Option.bind (f_X6_welfareOf z1 aM) fun v2 => (Option.bind (g_ra 2120 aM (1 : Int32)) fun v3 => (Option.bind (f_X6_totalOf z1 aM) fun v5 => (if (v2 * v3) < v5 then some (0 : Int32) else some (1 : Int32)))))
def f_X6_contentCount_L4 (aM : (Nat → Int32)) (r4 : Int32 → Int32 → Option Int32) (z1 : Int32) (z2 : Int32) : Option Int32 :=
  (Option.bind (g_ra 2120 aM (1 : Int32)) fun v1 => (if v1 ≤ z2 then some z1 else (Option.bind (f_X6_isContent z2 aM) fun v3 => (if v3 = 0 then r4 (z1 + (0 : Int32)) (z2 + (1 : Int32)) else r4 (z1 + (1 : Int32)) (z2 + (1 : Int32))))))
def f_X6_contentCount (aM : (Nat → Int32)) : Option Int32 :=
  gL2 (f_X6_contentCount_L4 aM) gN (0 : Int32) (0 : Int32)
def f_X6_knife_J141 (r34 : Int32 → Int32 → (Nat → Int32) → (Nat → Int32) → Option (Int32 × (Nat → Int32) × (Nat → Int32))) (z1 : Int32) (z2 : Int32) (z3 : Int32) (z4 : Int32) (aM : (Nat → Int32)) (aH : (Nat → Int32)) : Option (Int32 × (Nat → Int32) × (Nat → Int32)) :=
  (Option.bind (f_X6_own z3 z1 z4 aM) fun aM_12 => (Option.bind (g_wa 6 aH z3 (vp_nar .boolean (1 : Int32))) fun aH_13 => r34 (z4 + (1 : Int32)) (z2 + (-1 : Int32)) aM_12 aH_13))
def f_X6_knife_J111 (r34 : Int32 → Int32 → (Nat → Int32) → (Nat → Int32) → Option (Int32 × (Nat → Int32) × (Nat → Int32))) (r63 : Int32 → Int32 → Int32 → Option (Int32 × (Nat → Int32) × (Nat → Int32))) (z1 : Int32) (z2 : Int32) (z3 : Int32) (z4 : Int32) (z5 : Int32) (s0 : Int32) (aM : (Nat → Int32)) (aH : (Nat → Int32)) : Option (Int32 × (Nat → Int32) × (Nat → Int32)) :=
  (if z3 = (-1 : Int32) then r63 z5 s0 (z5 + (1 : Int32)) else (if s0 < z4 then r63 z5 s0 (z5 + (1 : Int32)) else r63 z3 z4 (z5 + (1 : Int32))))
def f_X6_knife_L63 (r34 : Int32 → Int32 → (Nat → Int32) → (Nat → Int32) → Option (Int32 × (Nat → Int32) × (Nat → Int32))) (z1 : Int32) (z2 : Int32) (aM : (Nat → Int32)) (aH : (Nat → Int32)) (r63 : Int32 → Int32 → Int32 → Option (Int32 × (Nat → Int32) × (Nat → Int32))) (z3 : Int32) (z4 : Int32) (z5 : Int32) : Option (Int32 × (Nat → Int32) × (Nat → Int32)) :=
  (Option.bind (g_ra 2120 aM (1 : Int32)) fun v10 => (if v10 ≤ z5 then f_X6_knife_J141 r34 z1 z2 z3 z4 aM aH else (Option.bind (g_ra 6 aH z5) fun v14 => (if v14 = 0 then (if z2 = (1 : Int32) then (Option.bind (g_ra 2120 aM (0 : Int32)) fun v17 => f_X6_knife_J111 r34 r63 z1 z2 z3 z4 z5 (v17 - (1 : Int32)) aM aH) else (Option.bind (f_X6_markOf z5 z1 z2 aM) fun v16 => f_X6_knife_J111 r34 r63 z1 z2 z3 z4 z5 v16 aM aH)) else r63 z3 z4 (z5 + (1 : Int32))))))
def f_X6_knife_L34  (r34 : Int32 → Int32 → (Nat → Int32) → (Nat → Int32) → Option (Int32 × (Nat → Int32) × (Nat → Int32))) (z1 : Int32) (z2 : Int32) (aM : (Nat → Int32)) (aH : (Nat → Int32)) : Option (Int32 × (Nat → Int32) × (Nat → Int32)) :=
  (if z2 ≤ 0 then (Option.bind (f_X6_contentCount aM) fun v5 => some (v5, aM, aH)) else (Option.bind (g_ra 2120 aM (0 : Int32)) fun v6 => (if v6 ≤ z1 then (Option.bind (f_X6_contentCount aM) fun v8 => some (v8, aM, aH)) else (Option.bind (g_ra 2120 aM (0 : Int32)) fun v9 => gL3 (f_X6_knife_L63 r34 z1 z2 aM aH) gN (-1 : Int32) (v9 - (1 : Int32)) (0 : Int32)))))
def f_X6_knife_J25 (aM : (Nat → Int32)) (aH : (Nat → Int32)) : Option (Int32 × (Nat → Int32) × (Nat → Int32)) :=
  (Option.bind (g_ra 2120 aM (1 : Int32)) fun v3 => gL4 f_X6_knife_L34 gN (0 : Int32) v3 aM aH)
def f_X6_knife_L6 (aM : (Nat → Int32)) (r6 : Int32 → (Nat → Int32) → Option (Int32 × (Nat → Int32) × (Nat → Int32))) (z1 : Int32) (aH : (Nat → Int32)) : Option (Int32 × (Nat → Int32) × (Nat → Int32)) :=
  (if (6 : Int32) ≤ z1 then f_X6_knife_J25 aM aH else (Option.bind (g_wa 6 aH z1 (vp_nar .boolean (0 : Int32))) fun aH_18 => r6 (z1 + (1 : Int32)) aH_18))
def f_X6_knife (aM : (Nat → Int32)) (aH : (Nat → Int32)) : Option (Int32 × (Nat → Int32) × (Nat → Int32)) :=
  (Option.bind (f_X6_clear aM) fun aM_2 => gL2 (f_X6_knife_L6 aM_2) gN (0 : Int32) aH)
def f_X6_favourite_L4 (z1 : Int32) (aM : (Nat → Int32)) (r4 : Int32 → Int32 → Option Int32) (z2 : Int32) (z3 : Int32) : Option Int32 :=
  (Option.bind (g_ra 2120 aM (0 : Int32)) fun v1 => (if v1 ≤ z3 then some z2 else (Option.bind (f_X6_ownerOf z3 aM) fun v3 => (if v3 = (-1 : Int32) then (if z2 = (-1 : Int32) then r4 z3 (z3 + (1 : Int32)) else (Option.bind (f_X6_valueOf z1 z3 aM) fun v5 => (Option.bind (f_X6_valueOf z1 z2 aM) fun v7 => (if v5 ≤ v7 then r4 z2 (z3 + (1 : Int32)) else r4 z3 (z3 + (1 : Int32)))))) else r4 z2 (z3 + (1 : Int32))))))
def f_X6_favourite (z1 : Int32) (aM : (Nat → Int32)) : Option Int32 :=
  gL2 (f_X6_favourite_L4 z1 aM) gN (-1 : Int32) (0 : Int32)
def f_X6_robin_L11  (r11 : Int32 → Int32 → Int32 → (Nat → Int32) → Option (Int32 × (Nat → Int32))) (z2 : Int32) (z3 : Int32) (z4 : Int32) (aM : (Nat → Int32)) : Option (Int32 × (Nat → Int32)) :=
  (if z4 = (-1 : Int32) then some (z2, aM) else (Option.bind (g_wa 2120 aM ((2 : Int32) + z4) z3) fun aM_3 => (Option.bind (g_ra 2120 aM_3 (1 : Int32)) fun v4 => (if ¬ v4 = 0 then (Option.bind (f_X6_favourite ((z3 + (1 : Int32)) - (z3 + (1 : Int32)) / v4 * v4) aM_3) fun v6 => r11 (z2 + (1 : Int32)) ((z3 + (1 : Int32)) - (z3 + (1 : Int32)) / v4 * v4) v6 aM_3) else none))))
def f_X6_robin (z1 : Int32) (aM : (Nat → Int32)) : Option (Int32 × (Nat → Int32)) :=
  (Option.bind (f_X6_favourite z1 aM) fun v2 => gL4 f_X6_robin_L11 gN (0 : Int32) z1 v2 aM)
def f_X6_turnCycle_L28 (r8 : Int32 → (Nat → Int32) → Option (Int32 × (Nat → Int32) × (Nat → Int32) × (Nat → Int32))) (z2 : Int32) (z3 : Int32) (z4 : Int32) (aT : (Nat → Int32)) (aC : (Nat → Int32)) (r28 : Int32 → (Nat → Int32) → Option (Int32 × (Nat → Int32) × (Nat → Int32) × (Nat → Int32))) (z5 : Int32) (aM : (Nat → Int32)) : Option (Int32 × (Nat → Int32) × (Nat → Int32) × (Nat → Int32)) :=
  (if z2 ≤ z5 then r8 (z3 + (1 : Int32)) aM else (Option.bind (g_ra 6 aC z5) fun v8 => (if v8 = z4 then (if ¬ z2 = 0 then (Option.bind (g_ra 6 aC (((z5 + z2) - (1 : Int32)) - ((z5 + z2) - (1 : Int32)) / z2 * z2)) fun v9 => (Option.bind (g_wa 2120 aM ((2 : Int32) + z3) v9) fun aM_10 => r28 (z5 + (1 : Int32)) aM_10)) else none) else r28 (z5 + (1 : Int32)) aM)))
def f_X6_turnCycle_L8 (z2 : Int32) (aT : (Nat → Int32)) (aC : (Nat → Int32)) (r8 : Int32 → (Nat → Int32) → Option (Int32 × (Nat → Int32) × (Nat → Int32) × (Nat → Int32))) (z3 : Int32) (aM : (Nat → Int32)) : Option (Int32 × (Nat → Int32) × (Nat → Int32) × (Nat → Int32)) :=
  (Option.bind (g_ra 2120 aM (0 : Int32)) fun v5 => (if v5 ≤ z3 then some (z2, aM, aT, aC) else (Option.bind (f_X6_ownerOf z3 aM) fun v7 => gL2 (f_X6_turnCycle_L28 r8 z2 z3 v7 aT aC) gN (0 : Int32) aM)))
def f_X6_turnCycle (z1 : Int32) (aM : (Nat → Int32)) (aT : (Nat → Int32)) (aC : (Nat → Int32)) : Option (Int32 × (Nat → Int32) × (Nat → Int32) × (Nat → Int32)) :=
  (gT3 (f_X6_findCycle z1 aM aT aC) fun v2 aT_3 aC_4 => gL2 (f_X6_turnCycle_L8 v2 aT_3 aC_4) gN (0 : Int32) aM)
def f_X6_doIt (z1 : Int32) (z2 : Int32) (z3 : Int32) (z4 : Int32) (aM : (Nat → Int32)) (aT : (Nat → Int32)) (aC : (Nat → Int32)) (aH : (Nat → Int32)) : Option ((Nat → Int32) × (Nat → Int32) × (Nat → Int32) × (Nat → Int32)) :=
  (if z1 = 0 then (Option.bind (f_X6_own z2 z3 z4 aM) fun aM_2 => some (aM_2, aT, aC, aH)) else (if z1 = 1 then (Option.bind (f_X6_own (-1 : Int32) z3 z4 aM) fun aM_4 => some (aM_4, aT, aC, aH)) else (if z1 = 2 then (Option.bind (f_X6_exchange z2 z3 aM) fun aM_6 => some (aM_6, aT, aC, aH)) else (if z1 = 3 then (Option.bind (g_wa 2120 aM ((((26 : Int32) + (z2 * (31 : Int32))) + (7 : Int32)) + z3) z4) fun aM_7 => some (aM_7, aT, aC, aH)) else (if z1 = 4 then (gT2 (f_X6_divide z2 z3 aM) fun v9 aM_10 => some (aM_10, aT, aC, aH)) else (if z1 = 5 then (gT3 (f_X6_knife aM aH) fun v12 aM_13 aH_14 => some (aM_13, aT, aC, aH_14)) else (if z1 = 6 then (gT2 (f_X6_robin z2 aM) fun v16 aM_17 => some (aM_17, aT, aC, aH)) else (gT4 (f_X6_turnCycle z2 aM aT aC) fun v19 aM_20 aT_21 aC_22 => some (aM_20, aT_21, aC_22, aH)))))))))
def f_X6_runScript_L42 (x : gV) (z1 : Int32) (iU : Int32) (aB : (Nat → Int32)) (iL : Int32) (iE : Int32) (iP : Int32) (iT : Int32) (iA : Int32) (iY : Int32) (iF : Int32) (iV : Int32) (aK : (Nat → Int32)) (r42 : Int32 → (Nat → Int32) → (Nat → Int32) → (Nat → Int32) → (Nat → Int32) → Option (Int32 × (Nat → Int32) × Int32 × Int32 × Int32 × Int32 × Int32 × (Nat → Int32) × (Nat → Int32) × (Nat → Int32) × Int32 × Int32 × Int32 × Int32 × (Nat → Int32))) (z2 : Int32) (aM : (Nat → Int32)) (aT : (Nat → Int32)) (aC : (Nat → Int32)) (aH : (Nat → Int32)) : Option (Int32 × (Nat → Int32) × Int32 × Int32 × Int32 × Int32 × Int32 × (Nat → Int32) × (Nat → Int32) × (Nat → Int32) × Int32 × Int32 × Int32 × Int32 × (Nat → Int32)) :=
  (if z1 ≤ z2 then some (z1, aM, iU, iL, iE, iP, iT, aT, aC, aH, iA, iY, iF, iV, aK) else (Option.bind (g_ra 120 aK (z2 * (4 : Int32))) fun v23 => (Option.bind (g_ra 120 aK ((z2 * (4 : Int32)) + (1 : Int32))) fun v24 => (Option.bind (g_ra 120 aK ((z2 * (4 : Int32)) + (2 : Int32))) fun v25 => (Option.bind (g_ra 120 aK ((z2 * (4 : Int32)) + (3 : Int32))) fun v26 => (gT3 (f_X6_canDo v23 v24 v25 v26 aM aT aC) fun v28 aT_29 aC_30 => (if v28 = 0 then some (z2, aM, iU, iL, iE, iP, iT, aT_29, aC_30, aH, iA, iY, iF, iV, aK) else (Option.bind (g_ra 120 aK (z2 * (4 : Int32))) fun v31 => (Option.bind (g_ra 120 aK ((z2 * (4 : Int32)) + (1 : Int32))) fun v32 => (Option.bind (g_ra 120 aK ((z2 * (4 : Int32)) + (2 : Int32))) fun v33 => (Option.bind (g_ra 120 aK ((z2 * (4 : Int32)) + (3 : Int32))) fun v34 => (gT4 (f_X6_doIt v31 v32 v33 v34 aM aT_29 aC_30 aH) fun aM_36 aT_37 aC_38 aH_39 => r42 (z2 + (1 : Int32)) aM_36 aT_37 aC_38 aH_39))))))))))))
def f_X6_runScript_J25 (x : gV) (z1 : Int32) (s1 : Int32) (aM : (Nat → Int32)) (iU : Int32) (aB : (Nat → Int32)) (iL : Int32) (iE : Int32) (iP : Int32) (iT : Int32) (aT : (Nat → Int32)) (aC : (Nat → Int32)) (aH : (Nat → Int32)) (iA : Int32) (iY : Int32) (iF : Int32) (iV : Int32) (aK : (Nat → Int32)) : Option (Int32 × (Nat → Int32) × Int32 × Int32 × Int32 × Int32 × Int32 × (Nat → Int32) × (Nat → Int32) × (Nat → Int32) × Int32 × Int32 × Int32 × Int32 × (Nat → Int32)) :=
  (gT2 (f_X6_fails s1 (0 : Int32) (0 : Int32) iT) fun v18 iT_19 => (if v18 = 0 then (gT2 (f_X6_remember (0 : Int32) aM iU) fun aM_21 iU_22 => gL5 (f_X6_runScript_L42 x z1 iU_22 aB iL iE iP iT_19 iA iY iF iV aK) gN (0 : Int32) aM_21 aT aC aH) else some ((0 : Int32), aM, iU, iL, iE, iP, iT_19, aT, aC, aH, iA, iY, iF, iV, aK)))
def f_X6_runScript (x : gV) (aM : (Nat → Int32)) (iU : Int32) (aB : (Nat → Int32)) (iL : Int32) (iE : Int32) (iP : Int32) (iT : Int32) (aT : (Nat → Int32)) (aC : (Nat → Int32)) (aH : (Nat → Int32)) (iA : Int32) (iY : Int32) (iF : Int32) (iV : Int32) (aK : (Nat → Int32)) : Option (Int32 × (Nat → Int32) × Int32 × Int32 × Int32 × Int32 × Int32 × (Nat → Int32) × (Nat → Int32) × (Nat → Int32) × Int32 × Int32 × Int32 × Int32 × (Nat → Int32)) :=
  (gT6 (f_X6_begin aB iL iE iP iA iY iF iV) fun iE_2 iP_3 iA_4 iY_5 iF_6 iV_7 => (gT8 (f_X6_parseScript x aM aB iL iE_2 iP_3 iA_4 iY_5 iF_6 iV_7 aK) fun v9 iE_10 iP_11 iA_12 iY_13 iF_14 iV_15 aK_16 => (if v9 = (-1 : Int32) then f_X6_runScript_J25 x v9 (1 : Int32) aM iU aB (0 : Int32) iE_10 iP_11 iT aT aC aH iA_12 iY_13 iF_14 iV_15 aK_16 else f_X6_runScript_J25 x v9 (0 : Int32) aM iU aB (0 : Int32) iE_10 iP_11 iT aT aC aH iA_12 iY_13 iF_14 iV_15 aK_16)))
def f_X6_errorCode (iE : Int32) (iT : Int32) : Option (Int32 × Int32) :=
  some (iE, (0 : Int32))
def f_X6_errorPosition (iP : Int32) (iT : Int32) : Option (Int32 × Int32) :=
  some (iP, (0 : Int32))
def f_X6_plain (z1 : Int32) (iT : Int32) : Option (Int32 × Int32) :=
  some (z1, (0 : Int32))
def f_X6_cellCount (aM : (Nat → Int32)) (iT : Int32) : Option (Int32 × Int32) :=
  (Option.bind (g_ra 2120 aM (0 : Int32)) fun v1 => (gT2 (f_X6_plain v1 iT) fun v3 iT_4 => some (v3, iT_4)))
def f_X6_siblingCount (aM : (Nat → Int32)) (iT : Int32) : Option (Int32 × Int32) :=
  (Option.bind (g_ra 2120 aM (1 : Int32)) fun v1 => (gT2 (f_X6_plain v1 iT) fun v3 iT_4 => some (v3, iT_4)))
def f_X6_isSibling (z1 : Int32) (aM : (Nat → Int32)) : Option Int32 :=
  (Option.bind (g_ra 2120 aM (1 : Int32)) fun v1 => (Option.bind (f_X6_in z1 (0 : Int32) (v1 - (1 : Int32))) fun v3 => (if v3 = 0 ∨ v3 = 1 then some v3 else none)))
def f_X6_nameByte_J50 (z2 : Int32) (z3 : Int32) (s1 : Int32) (aM : (Nat → Int32)) (iT : Int32) : Option (Int32 × Int32) :=
  (gT2 (f_X6_fails s1 (0 : Int32) (0 : Int32) iT) fun v6 iT_7 => (if v6 = 0 then (Option.bind (g_ra 2120 aM ((z3 + (1 : Int32)) + z2)) fun v8 => some (v8, iT_7)) else some ((0 : Int32), iT_7)))
def f_X6_nameByte_J45 (z2 : Int32) (z3 : Int32) (aM : (Nat → Int32)) (iT : Int32) : Option (Int32 × Int32) :=
  f_X6_nameByte_J50 z2 z3 (1 : Int32) aM iT
def f_X6_nameByte_J15 (z1 : Int32) (z2 : Int32) (s0 : Int32) (s1 : Int32) (aM : (Nat → Int32)) (iT : Int32) : Option (Int32 × Int32) :=
  (Option.bind (f_X6_isSibling z1 aM) fun v4 => (if v4 = 0 then f_X6_nameByte_J45 z2 (s0 + (s1 * (31 : Int32))) aM iT else (Option.bind (g_ra 2120 aM (s0 + (s1 * (31 : Int32)))) fun v9 => (Option.bind (f_X6_in z2 (0 : Int32) (v9 - (1 : Int32))) fun v11 => (if v11 = 0 then f_X6_nameByte_J45 z2 (s0 + (s1 * (31 : Int32))) aM iT else f_X6_nameByte_J50 z2 (s0 + (s1 * (31 : Int32))) (0 : Int32) aM iT)))))
def f_X6_nameByte (z1 : Int32) (z2 : Int32) (aM : (Nat → Int32)) (iT : Int32) : Option (Int32 × Int32) :=
  (Option.bind (f_X6_isSibling z1 aM) fun v2 => (if v2 = 0 then f_X6_nameByte_J15 z1 z2 (26 : Int32) (0 : Int32) aM iT else f_X6_nameByte_J15 z1 z2 (26 : Int32) z1 aM iT))
def f_X6_findSibling_J21 (z1 : Int32) (s1 : Int32) (aM : (Nat → Int32)) (aB : (Nat → Int32)) (iL : Int32) (iT : Int32) : Option (Int32 × Int32) :=
  (gT2 (f_X6_fails s1 (0 : Int32) (0 : Int32) iT) fun v4 iT_5 => (if v4 = 0 then some (z1, iT_5) else some ((0 : Int32), iT_5)))
def f_X6_findSibling (aM : (Nat → Int32)) (aB : (Nat → Int32)) (iL : Int32) (iT : Int32) : Option (Int32 × Int32) :=
  (Option.bind (f_X6_siblingNamed (0 : Int32) iL aM aB) fun v2 => (if v2 = (-1 : Int32) then f_X6_findSibling_J21 v2 (1 : Int32) aM aB iL iT else f_X6_findSibling_J21 v2 (0 : Int32) aM aB iL iT))
def f_X6_value_J22 (z1 : Int32) (z2 : Int32) (s1 : Int32) (aM : (Nat → Int32)) (iT : Int32) : Option (Int32 × Int32) :=
  (gT2 (f_X6_fails s1 (0 : Int32) (0 : Int32) iT) fun v4 iT_5 => (if v4 = 0 then (Option.bind (f_X6_valueOf z1 z2 aM) fun v7 => some (v7, iT_5)) else some ((0 : Int32), iT_5)))
def f_X6_value_J17 (z1 : Int32) (z2 : Int32) (aM : (Nat → Int32)) (iT : Int32) : Option (Int32 × Int32) :=
  f_X6_value_J22 z1 z2 (1 : Int32) aM iT
def f_X6_value (z1 : Int32) (z2 : Int32) (aM : (Nat → Int32)) (iT : Int32) : Option (Int32 × Int32) :=
  (Option.bind (f_X6_isSibling z1 aM) fun v2 => (if v2 = 0 then f_X6_value_J17 z1 z2 aM iT else (Option.bind (f_X6_isCell z2 aM) fun v9 => (if v9 = 0 then f_X6_value_J17 z1 z2 aM iT else f_X6_value_J22 z1 z2 (0 : Int32) aM iT))))
def f_X6_owner_J14 (z1 : Int32) (s1 : Int32) (aM : (Nat → Int32)) (iT : Int32) : Option (Int32 × Int32) :=
  (gT2 (f_X6_fails s1 (0 : Int32) (0 : Int32) iT) fun v4 iT_5 => (if v4 = 0 then (Option.bind (f_X6_ownerOf z1 aM) fun v7 => some (v7, iT_5)) else some ((0 : Int32), iT_5)))
def f_X6_owner (z1 : Int32) (aM : (Nat → Int32)) (iT : Int32) : Option (Int32 × Int32) :=
  (Option.bind (f_X6_isCell z1 aM) fun v2 => (if v2 = 0 then f_X6_owner_J14 z1 (1 : Int32) aM iT else f_X6_owner_J14 z1 (0 : Int32) aM iT))
def f_X6_worth_J28 (z1 : Int32) (z2 : Int32) (z3 : Int32) (s1 : Int32) (s2 : Int32) (aM : (Nat → Int32)) (iT : Int32) : Option (Int32 × Int32) :=
  (gT2 (f_X6_fails s1 s2 (0 : Int32) iT) fun v6 iT_7 => (if v6 = 0 then (Option.bind (f_X6_worthOf z1 z2 z3 aM) fun v9 => some (v9, iT_7)) else some ((0 : Int32), iT_7)))
def f_X6_worth_J14 (z1 : Int32) (z2 : Int32) (z3 : Int32) (s1 : Int32) (aM : (Nat → Int32)) (iT : Int32) : Option (Int32 × Int32) :=
  (Option.bind (f_X6_isRange z2 z3 aM) fun v4 => (if v4 = 0 then f_X6_worth_J28 z1 z2 z3 s1 (1 : Int32) aM iT else f_X6_worth_J28 z1 z2 z3 s1 (0 : Int32) aM iT))
def f_X6_worth (z1 : Int32) (z2 : Int32) (z3 : Int32) (aM : (Nat → Int32)) (iT : Int32) : Option (Int32 × Int32) :=
  (Option.bind (f_X6_isSibling z1 aM) fun v2 => (if v2 = 0 then f_X6_worth_J14 z1 z2 z3 (1 : Int32) aM iT else f_X6_worth_J14 z1 z2 z3 (0 : Int32) aM iT))
def f_X6_total_J14 (z1 : Int32) (s1 : Int32) (aM : (Nat → Int32)) (iT : Int32) : Option (Int32 × Int32) :=
  (gT2 (f_X6_fails s1 (0 : Int32) (0 : Int32) iT) fun v4 iT_5 => (if v4 = 0 then (Option.bind (f_X6_totalOf z1 aM) fun v7 => some (v7, iT_5)) else some ((0 : Int32), iT_5)))
def f_X6_total (z1 : Int32) (aM : (Nat → Int32)) (iT : Int32) : Option (Int32 × Int32) :=
  (Option.bind (f_X6_isSibling z1 aM) fun v2 => (if v2 = 0 then f_X6_total_J14 z1 (1 : Int32) aM iT else f_X6_total_J14 z1 (0 : Int32) aM iT))
def f_X6_areSiblings (z1 : Int32) (z2 : Int32) (aM : (Nat → Int32)) : Option Int32 :=
  (Option.bind (f_X6_isSibling z1 aM) fun v2 => (if v2 = 0 then some (0 : Int32) else (Option.bind (f_X6_isSibling z2 aM) fun v4 => (if v4 = 0 then some (0 : Int32) else some (1 : Int32)))))
def f_X6_worthOfShare_J15 (z1 : Int32) (z2 : Int32) (s1 : Int32) (aM : (Nat → Int32)) (iT : Int32) : Option (Int32 × Int32) :=
  (gT2 (f_X6_fails s1 (0 : Int32) (0 : Int32) iT) fun v4 iT_5 => (if v4 = 0 then (Option.bind (f_X6_worthShare z1 z2 aM) fun v7 => some (v7, iT_5)) else some ((0 : Int32), iT_5)))
def f_X6_worthOfShare (z1 : Int32) (z2 : Int32) (aM : (Nat → Int32)) (iT : Int32) : Option (Int32 × Int32) :=
  (Option.bind (f_X6_areSiblings z1 z2 aM) fun v2 => (if v2 = 0 then f_X6_worthOfShare_J15 z1 z2 (1 : Int32) aM iT else f_X6_worthOfShare_J15 z1 z2 (0 : Int32) aM iT))
def f_X6_sizeOf_L4 (z1 : Int32) (aM : (Nat → Int32)) (r4 : Int32 → Int32 → Option Int32) (z2 : Int32) (z3 : Int32) : Option Int32 :=
  (Option.bind (g_ra 2120 aM (0 : Int32)) fun v1 => (if v1 ≤ z3 then some z2 else (Option.bind (f_X6_ownerOf z3 aM) fun v3 => (if v3 = z1 then r4 (z2 + (1 : Int32)) (z3 + (1 : Int32)) else r4 (z2 + (0 : Int32)) (z3 + (1 : Int32))))))
def f_X6_sizeOf (z1 : Int32) (aM : (Nat → Int32)) : Option Int32 :=
  gL2 (f_X6_sizeOf_L4 z1 aM) gN (0 : Int32) (0 : Int32)
def f_X6_shareSize_J14 (z1 : Int32) (s1 : Int32) (aM : (Nat → Int32)) (iT : Int32) : Option (Int32 × Int32) :=
  (gT2 (f_X6_fails s1 (0 : Int32) (0 : Int32) iT) fun v4 iT_5 => (if v4 = 0 then (Option.bind (f_X6_sizeOf z1 aM) fun v7 => some (v7, iT_5)) else some ((0 : Int32), iT_5)))
def f_X6_shareSize (z1 : Int32) (aM : (Nat → Int32)) (iT : Int32) : Option (Int32 × Int32) :=
  (Option.bind (f_X6_isSibling z1 aM) fun v2 => (if v2 = 0 then f_X6_shareSize_J14 z1 (1 : Int32) aM iT else f_X6_shareSize_J14 z1 (0 : Int32) aM iT))
def f_X6_pieces_L4 (z1 : Int32) (aM : (Nat → Int32)) (r4 : Int32 → Int32 → Option Int32) (z2 : Int32) (z3 : Int32) : Option Int32 :=
  (Option.bind (g_ra 2120 aM (0 : Int32)) fun v1 => (if v1 ≤ z3 then some z2 else (Option.bind (f_X6_ownerOf z3 aM) fun v3 => (if v3 = z1 then (if z3 = 0 then r4 (z2 + (1 : Int32)) (z3 + (1 : Int32)) else (Option.bind (f_X6_ownerOf (z3 - (1 : Int32)) aM) fun v5 => (if v5 = z1 then r4 (z2 + (0 : Int32)) (z3 + (1 : Int32)) else r4 (z2 + (1 : Int32)) (z3 + (1 : Int32))))) else r4 (z2 + (0 : Int32)) (z3 + (1 : Int32))))))
def f_X6_pieces (z1 : Int32) (aM : (Nat → Int32)) : Option Int32 :=
  gL2 (f_X6_pieces_L4 z1 aM) gN (0 : Int32) (0 : Int32)
def f_X6_pieceCount_J14 (z1 : Int32) (s1 : Int32) (aM : (Nat → Int32)) (iT : Int32) : Option (Int32 × Int32) :=
  (gT2 (f_X6_fails s1 (0 : Int32) (0 : Int32) iT) fun v4 iT_5 => (if v4 = 0 then (Option.bind (f_X6_pieces z1 aM) fun v7 => some (v7, iT_5)) else some ((0 : Int32), iT_5)))
def f_X6_pieceCount (z1 : Int32) (aM : (Nat → Int32)) (iT : Int32) : Option (Int32 × Int32) :=
  (Option.bind (f_X6_isSibling z1 aM) fun v2 => (if v2 = 0 then f_X6_pieceCount_J14 z1 (1 : Int32) aM iT else f_X6_pieceCount_J14 z1 (0 : Int32) aM iT))
def f_X6_freeCount (aM : (Nat → Int32)) (iT : Int32) : Option (Int32 × Int32) :=
  (Option.bind (f_X6_sizeOf (-1 : Int32) aM) fun v2 => (gT2 (f_X6_plain v2 iT) fun v4 iT_5 => some (v4, iT_5)))
def f_X6_mark_J37 (z1 : Int32) (z2 : Int32) (z3 : Int32) (s1 : Int32) (s2 : Int32) (aM : (Nat → Int32)) (iT : Int32) : Option (Int32 × Int32) :=
  (gT2 (f_X6_fails s1 s2 (0 : Int32) iT) fun v6 iT_7 => (if v6 = 0 then (Option.bind (f_X6_markOf z1 z2 z3 aM) fun v9 => some (v9, iT_7)) else some ((0 : Int32), iT_7)))
def f_X6_mark_J22 (z1 : Int32) (z2 : Int32) (z3 : Int32) (s1 : Int32) (aM : (Nat → Int32)) (iT : Int32) : Option (Int32 × Int32) :=
  (Option.bind (f_X6_in z3 (1 : Int32) (24 : Int32)) fun v4 => (if v4 = 0 then f_X6_mark_J37 z1 z2 z3 s1 (1 : Int32) aM iT else f_X6_mark_J37 z1 z2 z3 s1 (0 : Int32) aM iT))
def f_X6_mark_J17 (z1 : Int32) (z2 : Int32) (z3 : Int32) (aM : (Nat → Int32)) (iT : Int32) : Option (Int32 × Int32) :=
  f_X6_mark_J22 z1 z2 z3 (1 : Int32) aM iT
def f_X6_mark (z1 : Int32) (z2 : Int32) (z3 : Int32) (aM : (Nat → Int32)) (iT : Int32) : Option (Int32 × Int32) :=
  (Option.bind (f_X6_isSibling z1 aM) fun v2 => (if v2 = 0 then f_X6_mark_J17 z1 z2 z3 aM iT else (Option.bind (f_X6_isCell z2 aM) fun v11 => (if v11 = 0 then f_X6_mark_J17 z1 z2 z3 aM iT else f_X6_mark_J22 z1 z2 z3 (0 : Int32) aM iT))))
def f_X6_favouriteFreeCell_J14 (z1 : Int32) (s1 : Int32) (aM : (Nat → Int32)) (iT : Int32) : Option (Int32 × Int32) :=
  (gT2 (f_X6_fails s1 (0 : Int32) (0 : Int32) iT) fun v4 iT_5 => (if v4 = 0 then (Option.bind (f_X6_favourite z1 aM) fun v7 => some (v7, iT_5)) else some ((0 : Int32), iT_5)))
def f_X6_favouriteFreeCell (z1 : Int32) (aM : (Nat → Int32)) (iT : Int32) : Option (Int32 × Int32) :=
  (Option.bind (f_X6_isSibling z1 aM) fun v2 => (if v2 = 0 then f_X6_favouriteFreeCell_J14 z1 (1 : Int32) aM iT else f_X6_favouriteFreeCell_J14 z1 (0 : Int32) aM iT))
def f_X6_envies_J15 (z1 : Int32) (z2 : Int32) (s1 : Int32) (aM : (Nat → Int32)) (iT : Int32) : Option (Int32 × Int32) :=
  (gT2 (f_X6_fails s1 (0 : Int32) (0 : Int32) iT) fun v4 iT_5 => (if v4 = 0 then (Option.bind (f_X6_hasEnvy z1 z2 aM) fun v7 => (if v7 = 0 ∨ v7 = 1 then some (v7, iT_5) else none)) else some ((0 : Int32), iT_5)))
def f_X6_envies (z1 : Int32) (z2 : Int32) (aM : (Nat → Int32)) (iT : Int32) : Option (Int32 × Int32) :=
  (Option.bind (f_X6_areSiblings z1 z2 aM) fun v2 => (if v2 = 0 then f_X6_envies_J15 z1 z2 (1 : Int32) aM iT else f_X6_envies_J15 z1 z2 (0 : Int32) aM iT))
def f_X6_hasMildEnvy_J51 (z1 : Int32) (z2 : Int32) (z3 : Int32) (aM : (Nat → Int32)) : Option Int32 :=
  (Option.bind (f_X6_worthShare z1 z2 aM) fun v3 => (Option.bind (f_X6_welfareOf z1 aM) fun v5 => (if v5 < (v3 - z3) then some (0 : Int32) else some (1 : Int32))))
def f_X6_hasMildEnvy_L5 (z1 : Int32) (z2 : Int32) (aM : (Nat → Int32)) (r5 : Int32 → Int32 → Option Int32) (z3 : Int32) (z4 : Int32) : Option Int32 :=
  (Option.bind (g_ra 2120 aM (0 : Int32)) fun v1 => (if v1 ≤ z4 then f_X6_hasMildEnvy_J51 z1 z2 z3 aM else (Option.bind (f_X6_ownerOf z4 aM) fun v7 => (if v7 = z2 then (Option.bind (f_X6_valueOf z1 z4 aM) fun v9 => (if v9 ≤ z3 then r5 z3 (z4 + (1 : Int32)) else (Option.bind (f_X6_valueOf z1 z4 aM) fun v11 => r5 v11 (z4 + (1 : Int32))))) else r5 z3 (z4 + (1 : Int32))))))
def f_X6_hasMildEnvy (z1 : Int32) (z2 : Int32) (aM : (Nat → Int32)) : Option Int32 :=
  gL2 (f_X6_hasMildEnvy_L5 z1 z2 aM) gN (0 : Int32) (0 : Int32)
def f_X6_isMild_J35 (z1 : Int32) (z2 : Int32) (s1 : Int32) (s2 : Int32) (aM : (Nat → Int32)) (iT : Int32) : Option (Int32 × Int32) :=
  (gT2 (f_X6_fails s1 s2 (0 : Int32) iT) fun v4 iT_5 => (if v4 = 0 then (Option.bind (f_X6_hasMildEnvy z1 z2 aM) fun v7 => (if v7 = 0 ∨ v7 = 1 then some (v7, iT_5) else none)) else some ((0 : Int32), iT_5)))
def f_X6_isMild_J34 (z1 : Int32) (z2 : Int32) (s1 : Int32) (aM : (Nat → Int32)) (iT : Int32) : Option (Int32 × Int32) :=
  f_X6_isMild_J35 z1 z2 s1 (0 : Int32) aM iT
def f_X6_isMild_J17 (z1 : Int32) (z2 : Int32) (z3 : Int32) (s1 : Int32) (aM : (Nat → Int32)) (iT : Int32) : Option (Int32 × Int32) :=
  (if z3 = 0 then f_X6_isMild_J34 z1 z2 s1 aM iT else (Option.bind (f_X6_hasEnvy z1 z2 aM) fun v9 => (if v9 = 0 then f_X6_isMild_J35 z1 z2 s1 (1 : Int32) aM iT else f_X6_isMild_J34 z1 z2 s1 aM iT)))
def f_X6_isMild (z1 : Int32) (z2 : Int32) (aM : (Nat → Int32)) (iT : Int32) : Option (Int32 × Int32) :=
  (Option.bind (f_X6_areSiblings z1 z2 aM) fun v2 => (if v2 = 0 then f_X6_isMild_J17 z1 z2 v2 (1 : Int32) aM iT else f_X6_isMild_J17 z1 z2 v2 (0 : Int32) aM iT))
def f_X6_envyTotal_L16 (r4 : Int32 → Int32 → Option Int32) (z2 : Int32) (aM : (Nat → Int32)) (r16 : Int32 → Int32 → Option Int32) (z1 : Int32) (z3 : Int32) : Option Int32 :=
  (Option.bind (g_ra 2120 aM (1 : Int32)) fun v2 => (if v2 ≤ z3 then r4 z1 (z2 + (1 : Int32)) else (Option.bind (f_X6_hasEnvy z2 z3 aM) fun v4 => (if v4 = 0 then r16 (z1 + (0 : Int32)) (z3 + (1 : Int32)) else r16 (z1 + (1 : Int32)) (z3 + (1 : Int32))))))
def f_X6_envyTotal_L4 (aM : (Nat → Int32)) (r4 : Int32 → Int32 → Option Int32) (z1 : Int32) (z2 : Int32) : Option Int32 :=
  (Option.bind (g_ra 2120 aM (1 : Int32)) fun v1 => (if v1 ≤ z2 then some z1 else gL2 (f_X6_envyTotal_L16 r4 z2 aM) gN z1 (0 : Int32)))
def f_X6_envyTotal (aM : (Nat → Int32)) : Option Int32 :=
  gL2 (f_X6_envyTotal_L4 aM) gN (0 : Int32) (0 : Int32)
def f_X6_envyCount (aM : (Nat → Int32)) (iT : Int32) : Option (Int32 × Int32) :=
  (Option.bind (f_X6_envyTotal aM) fun v2 => (gT2 (f_X6_plain v2 iT) fun v4 iT_5 => some (v4, iT_5)))
def f_X6_strongEnvyCount_L21 (r9 : Int32 → Int32 → Option (Int32 × Int32)) (z2 : Int32) (aM : (Nat → Int32)) (iT : Int32) (r21 : Int32 → Int32 → Option (Int32 × Int32)) (z1 : Int32) (z3 : Int32) : Option (Int32 × Int32) :=
  (Option.bind (g_ra 2120 aM (1 : Int32)) fun v2 => (if v2 ≤ z3 then r9 z1 (z2 + (1 : Int32)) else (Option.bind (f_X6_hasEnvy z2 z3 aM) fun v4 => (if v4 = 0 then r21 (z1 + (0 : Int32)) (z3 + (1 : Int32)) else (Option.bind (f_X6_hasMildEnvy z2 z3 aM) fun v6 => (if v6 = 0 then r21 (z1 + (1 : Int32)) (z3 + (1 : Int32)) else r21 (z1 + (0 : Int32)) (z3 + (1 : Int32))))))))
def f_X6_strongEnvyCount_L9 (aM : (Nat → Int32)) (iT : Int32) (r9 : Int32 → Int32 → Option (Int32 × Int32)) (z1 : Int32) (z2 : Int32) : Option (Int32 × Int32) :=
  (Option.bind (g_ra 2120 aM (1 : Int32)) fun v1 => (if v1 ≤ z2 then some (z1, iT) else gL2 (f_X6_strongEnvyCount_L21 r9 z2 aM iT) gN z1 (0 : Int32)))
def f_X6_strongEnvyCount (aM : (Nat → Int32)) (iT : Int32) : Option (Int32 × Int32) :=
  gL2 (f_X6_strongEnvyCount_L9 aM (0 : Int32)) gN (0 : Int32) (0 : Int32)
def f_X6_enviersOf_L4 (z1 : Int32) (aM : (Nat → Int32)) (r4 : Int32 → Int32 → Option Int32) (z2 : Int32) (z3 : Int32) : Option Int32 :=
  (Option.bind (g_ra 2120 aM (1 : Int32)) fun v1 => (if v1 ≤ z3 then some z2 else (Option.bind (f_X6_hasEnvy z3 z1 aM) fun v3 => (if v3 = 0 then r4 (z2 + (0 : Int32)) (z3 + (1 : Int32)) else r4 (z2 + (1 : Int32)) (z3 + (1 : Int32))))))
def f_X6_enviersOf (z1 : Int32) (aM : (Nat → Int32)) : Option Int32 :=
  gL2 (f_X6_enviersOf_L4 z1 aM) gN (0 : Int32) (0 : Int32)
def f_X6_mostEnvied_L9 (aM : (Nat → Int32)) (iT : Int32) (r9 : Int32 → Int32 → Option (Int32 × Int32)) (z1 : Int32) (z2 : Int32) : Option (Int32 × Int32) :=
  (Option.bind (g_ra 2120 aM (1 : Int32)) fun v1 => (if v1 ≤ z2 then some (z1, iT) else (Option.bind (f_X6_enviersOf z2 aM) fun v3 => (Option.bind (f_X6_enviersOf z1 aM) fun v5 => (if v3 ≤ v5 then r9 z1 (z2 + (1 : Int32)) else r9 z2 (z2 + (1 : Int32)))))))
def f_X6_mostEnvied (aM : (Nat → Int32)) (iT : Int32) : Option (Int32 × Int32) :=
  gL2 (f_X6_mostEnvied_L9 aM (0 : Int32)) gN (0 : Int32) (1 : Int32)
def f_X6_isSatisfied_J14 (z1 : Int32) (s1 : Int32) (aM : (Nat → Int32)) (iT : Int32) : Option (Int32 × Int32) :=
  (gT2 (f_X6_fails s1 (0 : Int32) (0 : Int32) iT) fun v4 iT_5 => (if v4 = 0 then (Option.bind (f_X6_isContent z1 aM) fun v7 => (if v7 = 0 ∨ v7 = 1 then some (v7, iT_5) else none)) else some ((0 : Int32), iT_5)))
def f_X6_isSatisfied (z1 : Int32) (aM : (Nat → Int32)) (iT : Int32) : Option (Int32 × Int32) :=
  (Option.bind (f_X6_isSibling z1 aM) fun v2 => (if v2 = 0 then f_X6_isSatisfied_J14 z1 (1 : Int32) aM iT else f_X6_isSatisfied_J14 z1 (0 : Int32) aM iT))
def f_X6_satisfiedCount (aM : (Nat → Int32)) (iT : Int32) : Option (Int32 × Int32) :=
  (Option.bind (f_X6_contentCount aM) fun v2 => (gT2 (f_X6_plain v2 iT) fun v4 iT_5 => some (v4, iT_5)))
def f_X6_envyCycleLength_J14 (z1 : Int32) (s1 : Int32) (aM : (Nat → Int32)) (iT : Int32) (aT : (Nat → Int32)) (aC : (Nat → Int32)) : Option (Int32 × Int32 × (Nat → Int32) × (Nat → Int32)) :=
  (gT2 (f_X6_fails s1 (0 : Int32) (0 : Int32) iT) fun v4 iT_5 => (if v4 = 0 then (gT3 (f_X6_findCycle z1 aM aT aC) fun v7 aT_8 aC_9 => some (v7, iT_5, aT_8, aC_9)) else some ((0 : Int32), iT_5, aT, aC)))
def f_X6_envyCycleLength (z1 : Int32) (aM : (Nat → Int32)) (iT : Int32) (aT : (Nat → Int32)) (aC : (Nat → Int32)) : Option (Int32 × Int32 × (Nat → Int32) × (Nat → Int32)) :=
  (Option.bind (f_X6_isSibling z1 aM) fun v2 => (if v2 = 0 then f_X6_envyCycleLength_J14 z1 (1 : Int32) aM iT aT aC else f_X6_envyCycleLength_J14 z1 (0 : Int32) aM iT aT aC))
def f_X6_envyCycleMember_J48 (z2 : Int32) (s1 : Int32) (s2 : Int32) (aM : (Nat → Int32)) (iT : Int32) (aT : (Nat → Int32)) (aC : (Nat → Int32)) : Option (Int32 × Int32 × (Nat → Int32) × (Nat → Int32)) :=
  (gT2 (f_X6_fails s1 s2 (0 : Int32) iT) fun v4 iT_5 => (if v4 = 0 then (Option.bind (g_ra 6 aC z2) fun v6 => some (v6, iT_5, aT, aC)) else some ((0 : Int32), iT_5, aT, aC)))
def f_X6_envyCycleMember_J47 (z2 : Int32) (s1 : Int32) (aM : (Nat → Int32)) (iT : Int32) (aT : (Nat → Int32)) (aC : (Nat → Int32)) : Option (Int32 × Int32 × (Nat → Int32) × (Nat → Int32)) :=
  f_X6_envyCycleMember_J48 z2 s1 (0 : Int32) aM iT aT aC
def f_X6_envyCycleMember_J32 (z2 : Int32) (s1 : Int32) (s2 : Int32) (s3 : Int32) (s5 : Int32) (aM : (Nat → Int32)) (iT : Int32) (aT : (Nat → Int32)) (aC : (Nat → Int32)) : Option (Int32 × Int32 × (Nat → Int32) × (Nat → Int32)) :=
  (gT3 (f_X6_findCycle s5 aM aT aC) fun v8 aT_9 aC_10 => (Option.bind (f_X6_in s2 s3 (v8 - (1 : Int32))) fun v12 => (if v12 = 0 then f_X6_envyCycleMember_J48 z2 s1 (1 : Int32) aM iT aT_9 aC_10 else f_X6_envyCycleMember_J47 z2 s1 aM iT aT_9 aC_10)))
def f_X6_envyCycleMember_J16 (z1 : Int32) (z2 : Int32) (z3 : Int32) (s1 : Int32) (aM : (Nat → Int32)) (iT : Int32) (aT : (Nat → Int32)) (aC : (Nat → Int32)) : Option (Int32 × Int32 × (Nat → Int32) × (Nat → Int32)) :=
  (if z3 = 0 then f_X6_envyCycleMember_J47 z2 s1 aM iT aT aC else (if z3 = 0 then f_X6_envyCycleMember_J32 z2 s1 z2 (0 : Int32) (0 : Int32) aM iT aT aC else f_X6_envyCycleMember_J32 z2 s1 z2 (0 : Int32) z1 aM iT aT aC))
def f_X6_envyCycleMember (z1 : Int32) (z2 : Int32) (aM : (Nat → Int32)) (iT : Int32) (aT : (Nat → Int32)) (aC : (Nat → Int32)) : Option (Int32 × Int32 × (Nat → Int32) × (Nat → Int32)) :=
  (Option.bind (f_X6_isSibling z1 aM) fun v2 => (if v2 = 0 then f_X6_envyCycleMember_J16 z1 z2 v2 (1 : Int32) aM iT aT aC else f_X6_envyCycleMember_J16 z1 z2 v2 (0 : Int32) aM iT aT aC))
def f_X6_wouldSwap_J15 (z1 : Int32) (z2 : Int32) (s1 : Int32) (aM : (Nat → Int32)) (iT : Int32) : Option (Int32 × Int32) :=
  (gT2 (f_X6_fails s1 (0 : Int32) (0 : Int32) iT) fun v4 iT_5 => (if v4 = 0 then (Option.bind (f_X6_hasEnvy z1 z2 aM) fun v7 => (if v7 = 0 then some ((0 : Int32), iT_5) else (Option.bind (f_X6_hasEnvy z2 z1 aM) fun v9 => (if v9 = 0 then some ((0 : Int32), iT_5) else some ((1 : Int32), iT_5))))) else some ((0 : Int32), iT_5)))
def f_X6_wouldSwap (z1 : Int32) (z2 : Int32) (aM : (Nat → Int32)) (iT : Int32) : Option (Int32 × Int32) :=
  (Option.bind (f_X6_areSiblings z1 z2 aM) fun v2 => (if v2 = 0 then f_X6_wouldSwap_J15 z1 z2 (1 : Int32) aM iT else f_X6_wouldSwap_J15 z1 z2 (0 : Int32) aM iT))
def f_X6_totalWelfare_L9 (aM : (Nat → Int32)) (iT : Int32) (r9 : Int32 → Int32 → Option (Int32 × Int32)) (z1 : Int32) (z2 : Int32) : Option (Int32 × Int32) :=
  (Option.bind (g_ra 2120 aM (1 : Int32)) fun v1 => (if v1 ≤ z2 then some (z1, iT) else (Option.bind (f_X6_welfareOf z2 aM) fun v3 => r9 (z1 + v3) (z2 + (1 : Int32)))))
def f_X6_totalWelfare (aM : (Nat → Int32)) (iT : Int32) : Option (Int32 × Int32) :=
  gL2 (f_X6_totalWelfare_L9 aM (0 : Int32)) gN (0 : Int32) (0 : Int32)
def f_X6_least_L8 (aM : (Nat → Int32)) (r8 : Int32 → Int32 → Option Int32) (z1 : Int32) (z2 : Int32) : Option Int32 :=
  (Option.bind (g_ra 2120 aM (1 : Int32)) fun v3 => (if v3 ≤ z2 then some z1 else (Option.bind (f_X6_welfareOf z2 aM) fun v5 => (if z1 ≤ v5 then r8 z1 (z2 + (1 : Int32)) else (Option.bind (f_X6_welfareOf z2 aM) fun v7 => r8 v7 (z2 + (1 : Int32)))))))
def f_X6_least (aM : (Nat → Int32)) : Option Int32 :=
  (Option.bind (f_X6_welfareOf (0 : Int32) aM) fun v2 => gL2 (f_X6_least_L8 aM) gN v2 (1 : Int32))
def f_X6_leastWelfare (aM : (Nat → Int32)) (iT : Int32) : Option (Int32 × Int32) :=
  (Option.bind (f_X6_least aM) fun v2 => (gT2 (f_X6_plain v2 iT) fun v4 iT_5 => some (v4, iT_5)))
def f_X6_welfareProduct_L9 (aM : (Nat → Int32)) (iT : Int32) (r9 : Int64 → Int32 → Option (Int64 × Int32)) (z1 : Int64) (z3 : Int32) : Option (Int64 × Int32) :=
  (Option.bind (g_ra 2120 aM (1 : Int32)) fun v1 => (if v1 ≤ z3 then some (z1, iT) else (Option.bind (f_X6_welfareOf z3 aM) fun v3 => r9 (z1 * v3.toInt64) (z3 + (1 : Int32)))))
def f_X6_welfareProduct (aM : (Nat → Int32)) (iT : Int32) : Option (Int64 × Int32) :=
  gL2 (f_X6_welfareProduct_L9 aM (0 : Int32)) gN (1 : Int64) (0 : Int32)
def f_X6_greatestTotalWelfare_L24 (r9 : Int32 → Int32 → Option (Int32 × Int32)) (z1 : Int32) (z2 : Int32) (aM : (Nat → Int32)) (iT : Int32) (r24 : Int32 → Int32 → Option (Int32 × Int32)) (z3 : Int32) (z4 : Int32) : Option (Int32 × Int32) :=
  (Option.bind (g_ra 2120 aM (1 : Int32)) fun v2 => (if v2 ≤ z4 then r9 (z1 + z3) (z2 + (1 : Int32)) else (Option.bind (f_X6_valueOf z4 z2 aM) fun v4 => (if v4 ≤ z3 then r24 z3 (z4 + (1 : Int32)) else (Option.bind (f_X6_valueOf z4 z2 aM) fun v6 => r24 v6 (z4 + (1 : Int32)))))))
def f_X6_greatestTotalWelfare_L9 (aM : (Nat → Int32)) (iT : Int32) (r9 : Int32 → Int32 → Option (Int32 × Int32)) (z1 : Int32) (z2 : Int32) : Option (Int32 × Int32) :=
  (Option.bind (g_ra 2120 aM (0 : Int32)) fun v1 => (if v1 ≤ z2 then some (z1, iT) else gL2 (f_X6_greatestTotalWelfare_L24 r9 z1 z2 aM iT) gN (0 : Int32) (0 : Int32)))
def f_X6_greatestTotalWelfare (aM : (Nat → Int32)) (iT : Int32) : Option (Int32 × Int32) :=
  gL2 (f_X6_greatestTotalWelfare_L9 aM (0 : Int32)) gN (0 : Int32) (0 : Int32)
def f_X6_extend_J76 (r3 : Int32 → (Nat → Int32) → Option (Nat → Int32)) (r44 : Int32 → Int32 → (Nat → Int32) → Option (Nat → Int32)) (z1 : Int32) (z2 : Int32) (z3 : Int32) (z4 : Int32) (z5 : Int32) (z6 : Int32) (z7 : Int32) (aM : (Nat → Int32)) (aE : (Nat → Int32)) : Option (Nat → Int32) :=
  (Option.bind (g_ra 1600 aE ((z1 * (25 : Int32)) + z7)) fun v4 => (if (z5 + z6) ≤ v4 then r44 z6 (z7 + (1 : Int32)) aE else (Option.bind (g_wa 1600 aE ((z1 * (25 : Int32)) + z7) (z5 + z6)) fun aE_5 => r44 z6 (z7 + (1 : Int32)) aE_5)))
def f_X6_extend_L44 (r3 : Int32 → (Nat → Int32) → Option (Nat → Int32)) (z1 : Int32) (z2 : Int32) (z3 : Int32) (z4 : Int32) (z5 : Int32) (aM : (Nat → Int32)) (r44 : Int32 → Int32 → (Nat → Int32) → Option (Nat → Int32)) (z6 : Int32) (z7 : Int32) (aE : (Nat → Int32)) : Option (Nat → Int32) :=
  (Option.bind (g_ra 2120 aM (0 : Int32)) fun v3 => (if v3 < z7 then r3 (z4 + (1 : Int32)) aE else (if z7 ≤ z4 then f_X6_extend_J76 r3 r44 z1 z2 z3 z4 z5 z6 z7 aM aE else (Option.bind (f_X6_valueOf z3 (z7 - (1 : Int32)) aM) fun v7 => f_X6_extend_J76 r3 r44 z1 z2 z3 z4 z5 (z6 + v7) z7 aM aE))))
def f_X6_extend_L3 (z1 : Int32) (z2 : Int32) (z3 : Int32) (aM : (Nat → Int32)) (r3 : Int32 → (Nat → Int32) → Option (Nat → Int32)) (z4 : Int32) (aE : (Nat → Int32)) : Option (Nat → Int32) :=
  (Option.bind (g_ra 2120 aM (0 : Int32)) fun v1 => (if v1 < z4 then some aE else (Option.bind (g_ra 1600 aE ((z2 * (25 : Int32)) + z4)) fun v2 => (if v2 = (-1 : Int32) then r3 (z4 + (1 : Int32)) aE else gL3 (f_X6_extend_L44 r3 z1 z2 z3 z4 v2 aM) gN (0 : Int32) z4 aE))))
def f_X6_extend (z1 : Int32) (z2 : Int32) (z3 : Int32) (aM : (Nat → Int32)) (aE : (Nat → Int32)) : Option (Nat → Int32) :=
  gL2 (f_X6_extend_L3 z1 z2 z3 aM) gN (0 : Int32) aE
def f_X6_contiguousWelfare_J104 (z1 : Int32) (aM : (Nat → Int32)) (aE : (Nat → Int32)) : Option (Int32 × (Nat → Int32)) :=
  (Option.bind (g_ra 2120 aM (0 : Int32)) fun v2 => (Option.bind (g_ra 1600 aE (((z1 - (1 : Int32)) * (25 : Int32)) + v2)) fun v3 => some (v3, aE)))
def f_X6_contiguousWelfare_L60 (r11 : Int32 → (Nat → Int32) → Option (Int32 × (Nat → Int32))) (z1 : Int32) (z2 : Int32) (aM : (Nat → Int32)) (r60 : Int32 → (Nat → Int32) → Option (Int32 × (Nat → Int32))) (z3 : Int32) (aE : (Nat → Int32)) : Option (Int32 × (Nat → Int32)) :=
  (Option.bind (g_ra 2120 aM (1 : Int32)) fun v5 => (if v5 ≤ z3 then r11 (z2 + (1 : Int32)) aE else (if ((z2 >>> (z3 &&& 31)) &&& (1 : Int32)) = (1 : Int32) then (Option.bind (f_X6_extend z2 (z2 &&& (((1 : Int32) <<< (z3 &&& 31)) ^^^ (-1 : Int32))) z3 aM aE) fun aE_7 => r60 (z3 + (1 : Int32)) aE_7) else r60 (z3 + (1 : Int32)) aE)))
def f_X6_contiguousWelfare_J58 (r11 : Int32 → (Nat → Int32) → Option (Int32 × (Nat → Int32))) (z1 : Int32) (z2 : Int32) (aM : (Nat → Int32)) (aE : (Nat → Int32)) : Option (Int32 × (Nat → Int32)) :=
  gL2 (f_X6_contiguousWelfare_L60 r11 z1 z2 aM) gN (0 : Int32) aE
def f_X6_contiguousWelfare_L18 (r11 : Int32 → (Nat → Int32) → Option (Int32 × (Nat → Int32))) (z1 : Int32) (z2 : Int32) (aM : (Nat → Int32)) (r18 : Int32 → (Nat → Int32) → Option (Int32 × (Nat → Int32))) (z3 : Int32) (aE : (Nat → Int32)) : Option (Int32 × (Nat → Int32)) :=
  (Option.bind (g_ra 2120 aM (0 : Int32)) fun v4 => (if v4 < z3 then f_X6_contiguousWelfare_J58 r11 z1 z2 aM aE else (if z2 = 0 then (if z3 ≤ 0 then (Option.bind (g_wa 1600 aE ((z2 * (25 : Int32)) + z3) (0 : Int32)) fun aE_9 => r18 (z3 + (1 : Int32)) aE_9) else (Option.bind (g_wa 1600 aE ((z2 * (25 : Int32)) + z3) (-1 : Int32)) fun aE_10 => r18 (z3 + (1 : Int32)) aE_10)) else (Option.bind (g_wa 1600 aE ((z2 * (25 : Int32)) + z3) (0 : Int32)) fun aE_8 => r18 (z3 + (1 : Int32)) aE_8))))
def f_X6_contiguousWelfare_L11 (z1 : Int32) (aM : (Nat → Int32)) (r11 : Int32 → (Nat → Int32) → Option (Int32 × (Nat → Int32))) (z2 : Int32) (aE : (Nat → Int32)) : Option (Int32 × (Nat → Int32)) :=
  (if z1 ≤ z2 then f_X6_contiguousWelfare_J104 z1 aM aE else gL2 (f_X6_contiguousWelfare_L18 r11 z1 z2 aM) gN (0 : Int32) aE)
def f_X6_contiguousWelfare (aM : (Nat → Int32)) (aE : (Nat → Int32)) : Option (Int32 × (Nat → Int32)) :=
  (Option.bind (g_ra 2120 aM (1 : Int32)) fun v1 => gL2 (f_X6_contiguousWelfare_L11 ((1 : Int32) <<< (v1 &&& 31)) aM) gN (0 : Int32) aE)
def f_X6_greatestContiguousWelfare (aM : (Nat → Int32)) (iT : Int32) (aE : (Nat → Int32)) : Option (Int32 × Int32 × (Nat → Int32)) :=
  (gT2 (f_X6_contiguousWelfare aM aE) fun v2 aE_3 => (gT2 (f_X6_plain v2 iT) fun v5 iT_6 => some (v5, iT_6, aE_3)))
def f_X6_reaches_L17 (r4 : Int32 → Int32 → Option Int32) (z1 : Int32) (z3 : Int32) (aM : (Nat → Int32)) (aQ : (Nat → Int32)) (r17 : Int32 → Int32 → Option Int32) (z2 : Int32) (z4 : Int32) : Option Int32 :=
  (if z1 ≤ z4 then (if z1 ≤ z4 then r4 z2 (z3 + (1 : Int32)) else some (0 : Int32)) else (Option.bind (g_ra 2120 aM (0 : Int32)) fun v2 => (if v2 ≤ z2 then (if z1 ≤ z4 then r4 z2 (z3 + (1 : Int32)) else some (0 : Int32)) else (Option.bind (g_ra 6 aQ z3) fun v3 => (Option.bind (f_X6_valueOf v3 z2 aM) fun v5 => r17 (z2 + (1 : Int32)) (z4 + v5))))))
def f_X6_reaches_L4 (z1 : Int32) (aM : (Nat → Int32)) (aQ : (Nat → Int32)) (r4 : Int32 → Int32 → Option Int32) (z2 : Int32) (z3 : Int32) : Option Int32 :=
  (Option.bind (g_ra 2120 aM (1 : Int32)) fun v1 => (if v1 ≤ z3 then some (1 : Int32) else gL2 (f_X6_reaches_L17 r4 z1 z3 aM aQ) gN z2 (0 : Int32)))
def f_X6_reaches (z1 : Int32) (aM : (Nat → Int32)) (aQ : (Nat → Int32)) : Option Int32 :=
  gL2 (f_X6_reaches_L4 z1 aM aQ) gN (0 : Int32) (0 : Int32)
def f_X6_swapSequence (z1 : Int32) (z2 : Int32) (aQ : (Nat → Int32)) : Option (Nat → Int32) :=
  (Option.bind (g_ra 6 aQ z1) fun v1 => (Option.bind (g_ra 6 aQ z2) fun v2 => (Option.bind (g_wa 6 aQ z1 v2) fun aQ_3 => (Option.bind (g_wa 6 aQ_3 z2 v1) fun aQ_4 => some aQ_4))))
def f_X6_advanceSequence_L92 (aM : (Nat → Int32)) (r92 : Int32 → Int32 → (Nat → Int32) → Option (Int32 × (Nat → Int32))) (z3 : Int32) (z4 : Int32) (aQ : (Nat → Int32)) : Option (Int32 × (Nat → Int32)) :=
  (if z4 ≤ z3 then some ((1 : Int32), aQ) else (Option.bind (f_X6_swapSequence z3 z4 aQ) fun aQ_9 => r92 (z3 + (1 : Int32)) (z4 + (-1 : Int32)) aQ_9))
def f_X6_advanceSequence_J72 (z1 : Int32) (z2 : Int32) (aM : (Nat → Int32)) (aQ : (Nat → Int32)) : Option (Int32 × (Nat → Int32)) :=
  (Option.bind (f_X6_swapSequence z1 z2 aQ) fun aQ_6 => (Option.bind (g_ra 2120 aM (1 : Int32)) fun v7 => gL3 (f_X6_advanceSequence_L92 aM) gN (z1 + (1 : Int32)) (v7 - (1 : Int32)) aQ_6))
def f_X6_advanceSequence_L51 (z1 : Int32) (aM : (Nat → Int32)) (aQ : (Nat → Int32)) (r51 : Int32 → Option (Int32 × (Nat → Int32))) (z2 : Int32) : Option (Int32 × (Nat → Int32)) :=
  (Option.bind (g_ra 6 aQ z2) fun v3 => (Option.bind (g_ra 6 aQ z1) fun v4 => (if v4 ≤ v3 then f_X6_advanceSequence_J72 z1 z2 aM aQ else r51 (z2 + (-1 : Int32)))))
def f_X6_advanceSequence_J36 (z1 : Int32) (aM : (Nat → Int32)) (aQ : (Nat → Int32)) : Option (Int32 × (Nat → Int32)) :=
  (if 0 ≤ z1 then (Option.bind (g_ra 2120 aM (1 : Int32)) fun v2 => gL1 (f_X6_advanceSequence_L51 z1 aM aQ) gN (v2 - (1 : Int32))) else some ((0 : Int32), aQ))
def f_X6_advanceSequence_L9 (aM : (Nat → Int32)) (aQ : (Nat → Int32)) (r9 : Int32 → Option (Int32 × (Nat → Int32))) (z1 : Int32) : Option (Int32 × (Nat → Int32)) :=
  (if z1 < 0 then f_X6_advanceSequence_J36 z1 aM aQ else (Option.bind (g_ra 6 aQ z1) fun v10 => (Option.bind (g_ra 6 aQ (z1 + (1 : Int32))) fun v11 => (if v10 ≤ v11 then f_X6_advanceSequence_J36 z1 aM aQ else r9 (z1 + (-1 : Int32))))))
def f_X6_advanceSequence (aM : (Nat → Int32)) (aQ : (Nat → Int32)) : Option (Int32 × (Nat → Int32)) :=
  (Option.bind (g_ra 2120 aM (1 : Int32)) fun v1 => gL1 (f_X6_advanceSequence_L9 aM aQ) gN (v1 - (2 : Int32)))
def f_X6_contiguousLeast_L33 (r29 : Int32 → Int32 → (Nat → Int32) → Option (Int32 × (Nat → Int32))) (aM : (Nat → Int32)) (aQ : (Nat → Int32)) (r33 : Int32 → Option (Int32 × (Nat → Int32))) (z1 : Int32) : Option (Int32 × (Nat → Int32)) :=
  (Option.bind (f_X6_reaches (z1 + (1 : Int32)) aM aQ) fun v3 => (if v3 = 0 then (gT2 (f_X6_advanceSequence aM aQ) fun v5 aQ_6 => r29 z1 v5 aQ_6) else r33 (z1 + (1 : Int32))))
def f_X6_contiguousLeast_L29 (aM : (Nat → Int32)) (r29 : Int32 → Int32 → (Nat → Int32) → Option (Int32 × (Nat → Int32))) (z1 : Int32) (z2 : Int32) (aQ : (Nat → Int32)) : Option (Int32 × (Nat → Int32)) :=
  (if z2 = 0 then some (z1, aQ) else gL1 (f_X6_contiguousLeast_L33 r29 aM aQ) gN z1)
def f_X6_contiguousLeast_J25 (aM : (Nat → Int32)) (aQ : (Nat → Int32)) : Option (Int32 × (Nat → Int32)) :=
  gL3 (f_X6_contiguousLeast_L29 aM) gN (0 : Int32) (1 : Int32) aQ
def f_X6_contiguousLeast_L2 (aM : (Nat → Int32)) (r2 : Int32 → (Nat → Int32) → Option (Int32 × (Nat → Int32))) (z1 : Int32) (aQ : (Nat → Int32)) : Option (Int32 × (Nat → Int32)) :=
  (Option.bind (g_ra 2120 aM (1 : Int32)) fun v1 => (if v1 ≤ z1 then f_X6_contiguousLeast_J25 aM aQ else (Option.bind (g_wa 6 aQ z1 z1) fun aQ_7 => r2 (z1 + (1 : Int32)) aQ_7)))
def f_X6_contiguousLeast (aM : (Nat → Int32)) (aQ : (Nat → Int32)) : Option (Int32 × (Nat → Int32)) :=
  gL2 (f_X6_contiguousLeast_L2 aM) gN (0 : Int32) aQ
def f_X6_bestLeastWelfare (aM : (Nat → Int32)) (iT : Int32) (aQ : (Nat → Int32)) : Option (Int32 × Int32 × (Nat → Int32)) :=
  (gT2 (f_X6_contiguousLeast aM aQ) fun v2 aQ_3 => (gT2 (f_X6_plain v2 iT) fun v5 iT_6 => some (v5, iT_6, aQ_3)))
def f_X6_cutCount_L9 (aM : (Nat → Int32)) (iT : Int32) (r9 : Int32 → Int32 → Option (Int32 × Int32)) (z1 : Int32) (z2 : Int32) : Option (Int32 × Int32) :=
  (Option.bind (g_ra 2120 aM (0 : Int32)) fun v1 => (if v1 ≤ z2 then some (z1, iT) else (Option.bind (f_X6_ownerOf z2 aM) fun v3 => (Option.bind (f_X6_ownerOf (z2 - (1 : Int32)) aM) fun v5 => (if v3 = v5 then r9 (z1 + (0 : Int32)) (z2 + (1 : Int32)) else r9 (z1 + (1 : Int32)) (z2 + (1 : Int32)))))))
def f_X6_cutCount (aM : (Nat → Int32)) (iT : Int32) : Option (Int32 × Int32) :=
  gL2 (f_X6_cutCount_L9 aM (0 : Int32)) gN (0 : Int32) (1 : Int32)
def f_X6_satisfaction_J14 (z1 : Int32) (s1 : Int32) (aM : (Nat → Int32)) (iT : Int32) : Option (UInt32 × Int32) :=
  (gT2 (f_X6_fails s1 (0 : Int32) (0 : Int32) iT) fun v4 iT_5 => (if v4 = 0 then (Option.bind (f_X6_totalOf z1 aM) fun v7 => (if v7 = 0 then some ((0 : UInt32), iT_5) else (Option.bind (f_X6_welfareOf z1 aM) fun v9 => (Option.bind (f_X6_totalOf z1 aM) fun v11 => (if g_n32 (FP.fdiv (FP.i2f v9) (FP.i2f v11)) = true then some ((FP.fdiv (FP.i2f v9) (FP.i2f v11)), iT_5) else none))))) else some ((0 : UInt32), iT_5)))
def f_X6_satisfaction (z1 : Int32) (aM : (Nat → Int32)) (iT : Int32) : Option (UInt32 × Int32) :=
  (Option.bind (f_X6_isSibling z1 aM) fun v2 => (if v2 = 0 then f_X6_satisfaction_J14 z1 (1 : Int32) aM iT else f_X6_satisfaction_J14 z1 (0 : Int32) aM iT))
def f_X6_meanPieces_L9 (aM : (Nat → Int32)) (iT : Int32) (r9 : Int32 → Int32 → Option (UInt64 × Int32)) (z1 : Int32) (z2 : Int32) : Option (UInt64 × Int32) :=
  (Option.bind (g_ra 2120 aM (1 : Int32)) fun v1 => (if v1 ≤ z2 then (Option.bind (g_ra 2120 aM (1 : Int32)) fun v2 => (if g_n64 (FP.ddiv (FP.i2d z1) (FP.i2d v2)) = true then some ((FP.ddiv (FP.i2d z1) (FP.i2d v2)), iT) else none)) else (Option.bind (f_X6_pieces z2 aM) fun v4 => r9 (z1 + v4) (z2 + (1 : Int32)))))
def f_X6_meanPieces (aM : (Nat → Int32)) (iT : Int32) : Option (UInt64 × Int32) :=
  gL2 (f_X6_meanPieces_L9 aM (0 : Int32)) gN (0 : Int32) (0 : Int32)
def f_X6_inconsistencies_J45 (r20 : Int32 → Int32 → Option (Int32 × Int32)) (z2 : Int32) (s0 : Int32) (s1 : Int32) (aM : (Nat → Int32)) (iT : Int32) : Option (Int32 × Int32) :=
  (Option.bind (f_X6_sizeOf z2 aM) fun v8 => r20 (s0 + (s1 - v8)) (z2 + (1 : Int32)))
def f_X6_inconsistencies_L20 (aM : (Nat → Int32)) (iT : Int32) (r20 : Int32 → Int32 → Option (Int32 × Int32)) (z1 : Int32) (z2 : Int32) : Option (Int32 × Int32) :=
  (Option.bind (g_ra 2120 aM (1 : Int32)) fun v4 => (if v4 ≤ z2 then some (z1, iT) else (Option.bind (f_X6_hasEnvy z2 z2 aM) fun v6 => (if v6 = 0 then f_X6_inconsistencies_J45 r20 z2 z1 (0 : Int32) aM iT else f_X6_inconsistencies_J45 r20 z2 z1 (1 : Int32) aM iT))))
def f_X6_inconsistencies (aM : (Nat → Int32)) (iT : Int32) : Option (Int32 × Int32) :=
  (Option.bind (g_ra 2120 aM (0 : Int32)) fun v1 => (Option.bind (f_X6_sizeOf (-1 : Int32) aM) fun v3 => gL2 (f_X6_inconsistencies_L20 aM (0 : Int32)) gN (v1 - v3) (0 : Int32)))
def f_X6_cutFor_J14 (z1 : Int32) (s1 : Int32) (aM : (Nat → Int32)) (iT : Int32) : Option (Int32 × Int32) :=
  (gT2 (f_X6_fails s1 (0 : Int32) (0 : Int32) iT) fun v4 iT_5 => (if v4 = 0 then (Option.bind (f_X6_cutOf z1 aM) fun v7 => some (v7, iT_5)) else some ((0 : Int32), iT_5)))
def f_X6_cutFor (z1 : Int32) (aM : (Nat → Int32)) (iT : Int32) : Option (Int32 × Int32) :=
  (Option.bind (f_X6_isSibling z1 aM) fun v2 => (if v2 = 0 then f_X6_cutFor_J14 z1 (1 : Int32) aM iT else f_X6_cutFor_J14 z1 (0 : Int32) aM iT))
def f_X6_welfareByKnife_J14 (z1 : Int32) (s1 : Int32) (aM : (Nat → Int32)) (iT : Int32) (aH : (Nat → Int32)) : Option (Int32 × (Nat → Int32) × Int32 × (Nat → Int32)) :=
  (gT2 (f_X6_fails s1 (0 : Int32) (0 : Int32) iT) fun v4 iT_5 => (if v4 = 0 then (Option.bind (f_X6_copyBlock (0 : Int32) (9 : Int32) aM) fun aM_7 => (gT3 (f_X6_knife aM_7 aH) fun v9 aM_10 aH_11 => (Option.bind (f_X6_welfareOf z1 aM_10) fun v13 => (Option.bind (f_X6_copyBlock (9 : Int32) (0 : Int32) aM_10) fun aM_15 => some (v13, aM_15, iT_5, aH_11))))) else some ((0 : Int32), aM, iT_5, aH)))
def f_X6_welfareByKnife (z1 : Int32) (aM : (Nat → Int32)) (iT : Int32) (aH : (Nat → Int32)) : Option (Int32 × (Nat → Int32) × Int32 × (Nat → Int32)) :=
  (Option.bind (f_X6_isSibling z1 aM) fun v2 => (if v2 = 0 then f_X6_welfareByKnife_J14 z1 (1 : Int32) aM iT aH else f_X6_welfareByKnife_J14 z1 (0 : Int32) aM iT aH))
def f_X6_welfareByRobin_J15 (z1 : Int32) (z2 : Int32) (s1 : Int32) (aM : (Nat → Int32)) (iT : Int32) : Option (Int32 × (Nat → Int32) × Int32) :=
  (gT2 (f_X6_fails s1 (0 : Int32) (0 : Int32) iT) fun v4 iT_5 => (if v4 = 0 then (Option.bind (f_X6_copyBlock (0 : Int32) (9 : Int32) aM) fun aM_7 => (Option.bind (f_X6_clear aM_7) fun aM_9 => (gT2 (f_X6_robin z2 aM_9) fun v11 aM_12 => (Option.bind (f_X6_welfareOf z1 aM_12) fun v14 => (Option.bind (f_X6_copyBlock (9 : Int32) (0 : Int32) aM_12) fun aM_16 => some (v14, aM_16, iT_5)))))) else some ((0 : Int32), aM, iT_5)))
def f_X6_welfareByRobin (z1 : Int32) (z2 : Int32) (aM : (Nat → Int32)) (iT : Int32) : Option (Int32 × (Nat → Int32) × Int32) :=
  (Option.bind (f_X6_areSiblings z1 z2 aM) fun v2 => (if v2 = 0 then f_X6_welfareByRobin_J15 z1 z2 (1 : Int32) aM iT else f_X6_welfareByRobin_J15 z1 z2 (0 : Int32) aM iT))
def f_X6_bestFirst_L18 (iT : Int32) (r18 : Int32 → Int32 → Int32 → (Nat → Int32) → Option (Int32 × (Nat → Int32) × Int32)) (z1 : Int32) (z2 : Int32) (z3 : Int32) (aM : (Nat → Int32)) : Option (Int32 × (Nat → Int32) × Int32) :=
  (Option.bind (g_ra 2120 aM (1 : Int32)) fun v3 => (if v3 ≤ z3 then (Option.bind (f_X6_copyBlock (9 : Int32) (0 : Int32) aM) fun aM_5 => some (z1, aM_5, iT)) else (Option.bind (f_X6_clear aM) fun aM_7 => (gT2 (f_X6_robin z3 aM_7) fun v9 aM_10 => (Option.bind (f_X6_least aM_10) fun v12 => (if z2 < v12 then (Option.bind (f_X6_least aM_10) fun v14 => r18 z3 v14 (z3 + (1 : Int32)) aM_10) else r18 z1 z2 (z3 + (1 : Int32)) aM_10))))))
def f_X6_bestFirst (aM : (Nat → Int32)) (iT : Int32) : Option (Int32 × (Nat → Int32) × Int32) :=
  (Option.bind (f_X6_copyBlock (0 : Int32) (9 : Int32) aM) fun aM_2 => gL4 (f_X6_bestFirst_L18 (0 : Int32)) gN (-1 : Int32) (-1 : Int32) (0 : Int32) aM_2)
def f_X6_give_J28 (z1 : Int32) (z2 : Int32) (z3 : Int32) (s1 : Int32) (s2 : Int32) (aM : (Nat → Int32)) (iU : Int32) (iT : Int32) : Option (Int32 × (Nat → Int32) × Int32 × Int32) :=
  (gT2 (f_X6_fails s1 s2 (0 : Int32) iT) fun v6 iT_7 => (if v6 = 0 then (gT2 (f_X6_remember (0 : Int32) aM iU) fun aM_9 iU_10 => (Option.bind (f_X6_own z1 z2 z3 aM_9) fun aM_12 => (Option.bind (f_X6_welfareOf z1 aM_12) fun v14 => some (v14, aM_12, iU_10, iT_7)))) else some ((0 : Int32), aM, iU, iT_7)))
def f_X6_give_J14 (z1 : Int32) (z2 : Int32) (z3 : Int32) (s1 : Int32) (aM : (Nat → Int32)) (iU : Int32) (iT : Int32) : Option (Int32 × (Nat → Int32) × Int32 × Int32) :=
  (Option.bind (f_X6_isRange z2 z3 aM) fun v4 => (if v4 = 0 then f_X6_give_J28 z1 z2 z3 s1 (1 : Int32) aM iU iT else f_X6_give_J28 z1 z2 z3 s1 (0 : Int32) aM iU iT))
def f_X6_give (z1 : Int32) (z2 : Int32) (z3 : Int32) (aM : (Nat → Int32)) (iU : Int32) (iT : Int32) : Option (Int32 × (Nat → Int32) × Int32 × Int32) :=
  (Option.bind (f_X6_isSibling z1 aM) fun v2 => (if v2 = 0 then f_X6_give_J14 z1 z2 z3 (1 : Int32) aM iU iT else f_X6_give_J14 z1 z2 z3 (0 : Int32) aM iU iT))
def f_X6_release_J15 (z1 : Int32) (z2 : Int32) (s1 : Int32) (aM : (Nat → Int32)) (iU : Int32) (iT : Int32) : Option (Int32 × (Nat → Int32) × Int32 × Int32) :=
  (gT2 (f_X6_fails s1 (0 : Int32) (0 : Int32) iT) fun v4 iT_5 => (if v4 = 0 then (gT2 (f_X6_remember (0 : Int32) aM iU) fun aM_7 iU_8 => (Option.bind (f_X6_own (-1 : Int32) z1 z2 aM_7) fun aM_10 => (Option.bind (f_X6_sizeOf (-1 : Int32) aM_10) fun v12 => some (v12, aM_10, iU_8, iT_5)))) else some ((0 : Int32), aM, iU, iT_5)))
def f_X6_release (z1 : Int32) (z2 : Int32) (aM : (Nat → Int32)) (iU : Int32) (iT : Int32) : Option (Int32 × (Nat → Int32) × Int32 × Int32) :=
  (Option.bind (f_X6_isRange z1 z2 aM) fun v2 => (if v2 = 0 then f_X6_release_J15 z1 z2 (1 : Int32) aM iU iT else f_X6_release_J15 z1 z2 (0 : Int32) aM iU iT))
def f_X6_swapShares_J25 (z1 : Int32) (z2 : Int32) (s1 : Int32) (s2 : Int32) (aM : (Nat → Int32)) (iU : Int32) (iT : Int32) : Option (Int32 × (Nat → Int32) × Int32 × Int32) :=
  (gT2 (f_X6_fails s1 s2 (0 : Int32) iT) fun v4 iT_5 => (if v4 = 0 then (gT2 (f_X6_remember (0 : Int32) aM iU) fun aM_7 iU_8 => (Option.bind (f_X6_exchange z1 z2 aM_7) fun aM_10 => (Option.bind (f_X6_envyTotal aM_10) fun v12 => some (v12, aM_10, iU_8, iT_5)))) else some ((0 : Int32), aM, iU, iT_5)))
def f_X6_swapShares_J15 (z1 : Int32) (z2 : Int32) (s1 : Int32) (aM : (Nat → Int32)) (iU : Int32) (iT : Int32) : Option (Int32 × (Nat → Int32) × Int32 × Int32) :=
  (if z1 = z2 then f_X6_swapShares_J25 z1 z2 s1 (1 : Int32) aM iU iT else f_X6_swapShares_J25 z1 z2 s1 (0 : Int32) aM iU iT)
def f_X6_swapShares (z1 : Int32) (z2 : Int32) (aM : (Nat → Int32)) (iU : Int32) (iT : Int32) : Option (Int32 × (Nat → Int32) × Int32 × Int32) :=
  (Option.bind (f_X6_areSiblings z1 z2 aM) fun v2 => (if v2 = 0 then f_X6_swapShares_J15 z1 z2 (1 : Int32) aM iU iT else f_X6_swapShares_J15 z1 z2 (0 : Int32) aM iU iT))
def f_X6_setValue_J37 (z1 : Int32) (z2 : Int32) (z3 : Int32) (s1 : Int32) (s2 : Int32) (aM : (Nat → Int32)) (iU : Int32) (iT : Int32) : Option (Int32 × (Nat → Int32) × Int32 × Int32) :=
  (gT2 (f_X6_fails s1 s2 (0 : Int32) iT) fun v6 iT_7 => (if v6 = 0 then (gT2 (f_X6_remember (0 : Int32) aM iU) fun aM_9 iU_10 => (Option.bind (f_X6_valueOf z1 z2 aM_9) fun v12 => (Option.bind (g_wa 2120 aM_9 ((((26 : Int32) + (z1 * (31 : Int32))) + (7 : Int32)) + z2) z3) fun aM_13 => some (v12, aM_13, iU_10, iT_7)))) else some ((0 : Int32), aM, iU, iT_7)))
def f_X6_setValue_J22 (z1 : Int32) (z2 : Int32) (z3 : Int32) (s1 : Int32) (aM : (Nat → Int32)) (iU : Int32) (iT : Int32) : Option (Int32 × (Nat → Int32) × Int32 × Int32) :=
  (Option.bind (f_X6_in z3 (0 : Int32) (9 : Int32)) fun v4 => (if v4 = 0 then f_X6_setValue_J37 z1 z2 z3 s1 (1 : Int32) aM iU iT else f_X6_setValue_J37 z1 z2 z3 s1 (0 : Int32) aM iU iT))
def f_X6_setValue_J17 (z1 : Int32) (z2 : Int32) (z3 : Int32) (aM : (Nat → Int32)) (iU : Int32) (iT : Int32) : Option (Int32 × (Nat → Int32) × Int32 × Int32) :=
  f_X6_setValue_J22 z1 z2 z3 (1 : Int32) aM iU iT
def f_X6_setValue (z1 : Int32) (z2 : Int32) (z3 : Int32) (aM : (Nat → Int32)) (iU : Int32) (iT : Int32) : Option (Int32 × (Nat → Int32) × Int32 × Int32) :=
  (Option.bind (f_X6_isSibling z1 aM) fun v2 => (if v2 = 0 then f_X6_setValue_J17 z1 z2 z3 aM iU iT else (Option.bind (f_X6_isCell z2 aM) fun v15 => (if v15 = 0 then f_X6_setValue_J17 z1 z2 z3 aM iU iT else f_X6_setValue_J22 z1 z2 z3 (0 : Int32) aM iU iT))))
def f_X6_divideAndChoose_J25 (z1 : Int32) (z2 : Int32) (s1 : Int32) (s2 : Int32) (aM : (Nat → Int32)) (iU : Int32) (iT : Int32) : Option (Int32 × (Nat → Int32) × Int32 × Int32) :=
  (gT2 (f_X6_fails s1 s2 (0 : Int32) iT) fun v4 iT_5 => (if v4 = 0 then (gT2 (f_X6_remember (0 : Int32) aM iU) fun aM_7 iU_8 => (gT2 (f_X6_divide z1 z2 aM_7) fun v10 aM_11 => some (v10, aM_11, iU_8, iT_5))) else some ((0 : Int32), aM, iU, iT_5)))
def f_X6_divideAndChoose_J15 (z1 : Int32) (z2 : Int32) (s1 : Int32) (aM : (Nat → Int32)) (iU : Int32) (iT : Int32) : Option (Int32 × (Nat → Int32) × Int32 × Int32) :=
  (if z1 = z2 then f_X6_divideAndChoose_J25 z1 z2 s1 (1 : Int32) aM iU iT else f_X6_divideAndChoose_J25 z1 z2 s1 (0 : Int32) aM iU iT)
def f_X6_divideAndChoose (z1 : Int32) (z2 : Int32) (aM : (Nat → Int32)) (iU : Int32) (iT : Int32) : Option (Int32 × (Nat → Int32) × Int32 × Int32) :=
  (Option.bind (f_X6_areSiblings z1 z2 aM) fun v2 => (if v2 = 0 then f_X6_divideAndChoose_J15 z1 z2 (1 : Int32) aM iU iT else f_X6_divideAndChoose_J15 z1 z2 (0 : Int32) aM iU iT))
def f_X6_movingKnife (aM : (Nat → Int32)) (iU : Int32) (iT : Int32) (aH : (Nat → Int32)) : Option (Int32 × (Nat → Int32) × Int32 × Int32 × (Nat → Int32)) :=
  (gT2 (f_X6_remember (0 : Int32) aM iU) fun aM_2 iU_3 => (gT3 (f_X6_knife aM_2 aH) fun v5 aM_6 aH_7 => some (v5, aM_6, iU_3, (0 : Int32), aH_7)))
def f_X6_roundRobin_J14 (z1 : Int32) (s1 : Int32) (aM : (Nat → Int32)) (iU : Int32) (iT : Int32) : Option (Int32 × (Nat → Int32) × Int32 × Int32) :=
  (gT2 (f_X6_fails s1 (0 : Int32) (0 : Int32) iT) fun v4 iT_5 => (if v4 = 0 then (gT2 (f_X6_remember (0 : Int32) aM iU) fun aM_7 iU_8 => (gT2 (f_X6_robin z1 aM_7) fun v10 aM_11 => some (v10, aM_11, iU_8, iT_5))) else some ((0 : Int32), aM, iU, iT_5)))
def f_X6_roundRobin (z1 : Int32) (aM : (Nat → Int32)) (iU : Int32) (iT : Int32) : Option (Int32 × (Nat → Int32) × Int32 × Int32) :=
  (Option.bind (f_X6_isSibling z1 aM) fun v2 => (if v2 = 0 then f_X6_roundRobin_J14 z1 (1 : Int32) aM iU iT else f_X6_roundRobin_J14 z1 (0 : Int32) aM iU iT))
def f_X6_rotate_J34 (z1 : Int32) (s1 : Int32) (s2 : Int32) (aM : (Nat → Int32)) (iU : Int32) (iT : Int32) (aT : (Nat → Int32)) (aC : (Nat → Int32)) : Option (Int32 × (Nat → Int32) × Int32 × Int32 × (Nat → Int32) × (Nat → Int32)) :=
  (gT2 (f_X6_fails s1 s2 (0 : Int32) iT) fun v4 iT_5 => (if v4 = 0 then (gT2 (f_X6_remember (0 : Int32) aM iU) fun aM_7 iU_8 => (gT4 (f_X6_turnCycle z1 aM_7 aT aC) fun v10 aM_11 aT_12 aC_13 => some (v10, aM_11, iU_8, iT_5, aT_12, aC_13))) else some ((0 : Int32), aM, iU, iT_5, aT, aC)))
def f_X6_rotate_J33 (z1 : Int32) (s1 : Int32) (aM : (Nat → Int32)) (iU : Int32) (iT : Int32) (aT : (Nat → Int32)) (aC : (Nat → Int32)) : Option (Int32 × (Nat → Int32) × Int32 × Int32 × (Nat → Int32) × (Nat → Int32)) :=
  f_X6_rotate_J34 z1 s1 (0 : Int32) aM iU iT aT aC
def f_X6_rotate_J16 (z1 : Int32) (z2 : Int32) (s1 : Int32) (aM : (Nat → Int32)) (iU : Int32) (iT : Int32) (aT : (Nat → Int32)) (aC : (Nat → Int32)) : Option (Int32 × (Nat → Int32) × Int32 × Int32 × (Nat → Int32) × (Nat → Int32)) :=
  (if z2 = 0 then f_X6_rotate_J33 z1 s1 aM iU iT aT aC else (gT3 (f_X6_findCycle z1 aM aT aC) fun v15 aT_16 aC_17 => (if v15 = (-1 : Int32) then f_X6_rotate_J34 z1 s1 (1 : Int32) aM iU iT aT_16 aC_17 else f_X6_rotate_J33 z1 s1 aM iU iT aT_16 aC_17)))
def f_X6_rotate (z1 : Int32) (aM : (Nat → Int32)) (iU : Int32) (iT : Int32) (aT : (Nat → Int32)) (aC : (Nat → Int32)) : Option (Int32 × (Nat → Int32) × Int32 × Int32 × (Nat → Int32) × (Nat → Int32)) :=
  (Option.bind (f_X6_isSibling z1 aM) fun v2 => (if v2 = 0 then f_X6_rotate_J16 z1 v2 (1 : Int32) aM iU iT aT aC else f_X6_rotate_J16 z1 v2 (0 : Int32) aM iU iT aT aC))
def f_X6_undo_J13 (s1 : Int32) (aM : (Nat → Int32)) (iU : Int32) (iT : Int32) : Option (Int32 × (Nat → Int32) × Int32 × Int32) :=
  (gT2 (f_X6_fails s1 (0 : Int32) (0 : Int32) iT) fun v2 iT_3 => (if v2 = 0 then (Option.bind (f_X6_copyBlock iU (0 : Int32) aM) fun aM_5 => some ((iU - (1 : Int32)), aM_5, (iU - (1 : Int32)), iT_3)) else some ((0 : Int32), aM, iU, iT_3)))
def f_X6_undo (aM : (Nat → Int32)) (iU : Int32) (iT : Int32) : Option (Int32 × (Nat → Int32) × Int32 × Int32) :=
  (if iU = 0 then f_X6_undo_J13 (1 : Int32) aM iU iT else f_X6_undo_J13 (0 : Int32) aM iU iT)
def f_X6_save_J15 (z1 : Int32) (s1 : Int32) (aM : (Nat → Int32)) (aS : (Nat → Int32)) (iT : Int32) : Option (Int32 × (Nat → Int32) × (Nat → Int32) × Int32) :=
  (gT2 (f_X6_fails s1 (0 : Int32) (0 : Int32) iT) fun v4 iT_5 => (if v4 = 0 then (Option.bind (f_X6_copyBlock (0 : Int32) ((7 : Int32) + z1) aM) fun aM_7 => (Option.bind (g_wa 2 aS z1 (vp_nar .boolean (1 : Int32))) fun aS_8 => (Option.bind (f_X6_sizeOf (-1 : Int32) aM_7) fun v10 => some (v10, aM_7, aS_8, iT_5)))) else some ((0 : Int32), aM, aS, iT_5)))
def f_X6_save (z1 : Int32) (aM : (Nat → Int32)) (aS : (Nat → Int32)) (iT : Int32) : Option (Int32 × (Nat → Int32) × (Nat → Int32) × Int32) :=
  (Option.bind (f_X6_in z1 (0 : Int32) (1 : Int32)) fun v2 => (if v2 = 0 then f_X6_save_J15 z1 (1 : Int32) aM aS iT else f_X6_save_J15 z1 (0 : Int32) aM aS iT))
def f_X6_restore_J35 (z1 : Int32) (s1 : Int32) (s2 : Int32) (aM : (Nat → Int32)) (aS : (Nat → Int32)) (iU : Int32) (iT : Int32) : Option (Int32 × (Nat → Int32) × Int32 × Int32) :=
  (gT2 (f_X6_fails s1 s2 (0 : Int32) iT) fun v4 iT_5 => (if v4 = 0 then (Option.bind (f_X6_copyBlock ((7 : Int32) + z1) (0 : Int32) aM) fun aM_7 => (Option.bind (f_X6_sizeOf (-1 : Int32) aM_7) fun v9 => some (v9, aM_7, (0 : Int32), iT_5))) else some ((0 : Int32), aM, iU, iT_5)))
def f_X6_restore_J34 (z1 : Int32) (s1 : Int32) (aM : (Nat → Int32)) (aS : (Nat → Int32)) (iU : Int32) (iT : Int32) : Option (Int32 × (Nat → Int32) × Int32 × Int32) :=
  f_X6_restore_J35 z1 s1 (0 : Int32) aM aS iU iT
def f_X6_restore_J17 (z1 : Int32) (z2 : Int32) (s1 : Int32) (aM : (Nat → Int32)) (aS : (Nat → Int32)) (iU : Int32) (iT : Int32) : Option (Int32 × (Nat → Int32) × Int32 × Int32) :=
  (if z2 = 0 then f_X6_restore_J34 z1 s1 aM aS iU iT else (Option.bind (g_ra 2 aS z1) fun v10 => (if v10 = 0 then f_X6_restore_J35 z1 s1 (1 : Int32) aM aS iU iT else f_X6_restore_J34 z1 s1 aM aS iU iT)))
def f_X6_restore (z1 : Int32) (aM : (Nat → Int32)) (aS : (Nat → Int32)) (iU : Int32) (iT : Int32) : Option (Int32 × (Nat → Int32) × Int32 × Int32) :=
  (Option.bind (f_X6_in z1 (0 : Int32) (1 : Int32)) fun v2 => (if v2 = 0 then f_X6_restore_J17 z1 v2 (1 : Int32) aM aS iU iT else f_X6_restore_J17 z1 v2 (0 : Int32) aM aS iU iT))
def f_X6_put (z1 : Int32) (aR : (Nat → Int32)) (iW : Int32) : Option ((Nat → Int32) × Int32) :=
  (Option.bind (g_wa 240 aR iW z1) fun aR_1 => some (aR_1, (iW + (1 : Int32))))
def f_X6_putRun_L64 (z3 : Int32) (aM : (Nat → Int32)) (r64 : Int32 → (Nat → Int32) → Int32 → Option ((Nat → Int32) × Int32)) (z4 : Int32) (aR : (Nat → Int32)) (iW : Int32) : Option ((Nat → Int32) × Int32) :=
  (Option.bind (g_ra 2120 aM z3) fun v4 => (if v4 ≤ z4 then some (aR, iW) else (Option.bind (g_ra 2120 aM ((z3 + (1 : Int32)) + z4)) fun v5 => (gT2 (f_X6_put v5 aR iW) fun aR_7 iW_8 => r64 (z4 + (1 : Int32)) aR_7 iW_8))))
def f_X6_putRun_J30 (z1 : Int32) (z2 : Int32) (aM : (Nat → Int32)) (aR : (Nat → Int32)) (iW : Int32) : Option ((Nat → Int32) × Int32) :=
  (gT2 (f_X6_put ((48 : Int32) + (z1 - z1 / (10 : Int32) * (10 : Int32))) aR iW) fun aR_2 iW_3 => (if z2 = (-1 : Int32) then (gT2 (f_X6_put (45 : Int32) aR_2 iW_3) fun aR_10 iW_11 => some (aR_10, iW_11)) else gL3 (f_X6_putRun_L64 ((26 : Int32) + (z2 * (31 : Int32))) aM) gN (0 : Int32) aR_2 iW_3))
def f_X6_putRun_J13 (z1 : Int32) (z2 : Int32) (aM : (Nat → Int32)) (aR : (Nat → Int32)) (iW : Int32) : Option ((Nat → Int32) × Int32) :=
  (if z1 < (10 : Int32) then f_X6_putRun_J30 z1 z2 aM aR iW else (gT2 (f_X6_put ((48 : Int32) + (z1 / (10 : Int32))) aR iW) fun aR_13 iW_14 => f_X6_putRun_J30 z1 z2 aM aR_13 iW_14))
def f_X6_putRun (z1 : Int32) (z2 : Int32) (aM : (Nat → Int32)) (aR : (Nat → Int32)) (iW : Int32) : Option ((Nat → Int32) × Int32) :=
  (if iW ≤ 0 then f_X6_putRun_J13 z1 z2 aM aR iW else (gT2 (f_X6_put (32 : Int32) aR iW) fun aR_16 iW_17 => f_X6_putRun_J13 z1 z2 aM aR_16 iW_17))
def f_X6_writeOwners_J50 (r14 : Int32 → Int32 → (Nat → Int32) → Int32 → Option (Int32 × (Nat → Int32) × Int32 × Int32)) (z1 : Int32) (z2 : Int32) (aM : (Nat → Int32)) (aR : (Nat → Int32)) (iW : Int32) (iT : Int32) : Option (Int32 × (Nat → Int32) × Int32 × Int32) :=
  (Option.bind (f_X6_ownerOf z1 aM) fun v4 => (gT2 (f_X6_putRun (z2 - z1) v4 aM aR iW) fun aR_6 iW_7 => r14 z2 (z2 + (1 : Int32)) aR_6 iW_7))
def f_X6_writeOwners_L14 (aM : (Nat → Int32)) (iT : Int32) (r14 : Int32 → Int32 → (Nat → Int32) → Int32 → Option (Int32 × (Nat → Int32) × Int32 × Int32)) (z1 : Int32) (z2 : Int32) (aR : (Nat → Int32)) (iW : Int32) : Option (Int32 × (Nat → Int32) × Int32 × Int32) :=
  (Option.bind (g_ra 2120 aM (0 : Int32)) fun v1 => (if v1 < z2 then some (iW, aR, iW, iT) else (Option.bind (g_ra 2120 aM (0 : Int32)) fun v2 => (if v2 ≤ z2 then f_X6_writeOwners_J50 r14 z1 z2 aM aR iW iT else (Option.bind (f_X6_ownerOf z2 aM) fun v9 => (Option.bind (f_X6_ownerOf z1 aM) fun v11 => (if v9 = v11 then r14 z1 (z2 + (1 : Int32)) aR iW else f_X6_writeOwners_J50 r14 z1 z2 aM aR iW iT)))))))
def f_X6_writeOwners (aM : (Nat → Int32)) (aR : (Nat → Int32)) (iW : Int32) (iT : Int32) : Option (Int32 × (Nat → Int32) × Int32 × Int32) :=
  gL4 (f_X6_writeOwners_L14 aM (0 : Int32)) gN (0 : Int32) (1 : Int32) aR (0 : Int32)
def f_X6_outputByte_J20 (z1 : Int32) (s1 : Int32) (aR : (Nat → Int32)) (iW : Int32) (iT : Int32) : Option (Int32 × Int32) :=
  (gT2 (f_X6_fails s1 (0 : Int32) (0 : Int32) iT) fun v4 iT_5 => (if v4 = 0 then (Option.bind (g_ra 240 aR z1) fun v6 => some (v6, iT_5)) else some ((0 : Int32), iT_5)))
def f_X6_outputByte (z1 : Int32) (aR : (Nat → Int32)) (iW : Int32) (iT : Int32) : Option (Int32 × Int32) :=
  (Option.bind (f_X6_in z1 (0 : Int32) (iW - (1 : Int32))) fun v2 => (if v2 = 0 then f_X6_outputByte_J20 z1 (1 : Int32) aR iW iT else f_X6_outputByte_J20 z1 (0 : Int32) aR iW iT))
